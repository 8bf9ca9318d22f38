set_option maxRecDepth 100000
/-! X1_appendText(I)I -/
def fC_X1_appendText_l23 (gk : Nat → Nat) (x0 : Option Nat) (x1 : Int) (Q : Int → jj_H → Prop) (E : String → Nat → jj_H → Prop) : Nat → Int → jj_H → Nat → Prop
  | 0, _, _, _ => False
  | n + 1, x2, h, k =>
  jj_r x2 ∧ (x2 < 0 → (
    jp_gi h x0 1 4 (fun g1 =>
    Q g1 h))) ∧
  (¬ x2 < 0 → (
    jp_gr h x0 1 3 (fun g2 =>
    jp_gi h x0 1 4 (fun g3 =>
    (-128 ≤ jj_i2b (jj_shr x1 x2) ∧ (jj_i2b (jj_shr x1 x2)) < 128) ∧
    jp_as h g2 2 g3 (jj_i2b (jj_shr x1 x2)) (fun h4 =>
    jp_gi h4 x0 1 4 (fun g5 =>
    jp_pi h4 x0 1 4 (g5 + 1) (fun h6 =>
    ∀ v7, v7 = x2 + (-8) →
    fC_X1_appendText_l23 gk x0 x1 Q E n v7 h6 k)))))))
def fC_X1_appendText_j17 (gk : Nat → Nat) (x0 : Option Nat) (x1 : Int) (y0 : Int) (Q : Int → jj_H → Prop) (E : String → Nat → jj_H → Prop) (h : jj_H) (k : Nat) : Prop :=
  ∃ c8, c8 ≤ k ∧ fC_X1_checkState gk y0 (fun h10 =>
  ∃ n9, fC_X1_appendText_l23 gk x0 x1 Q E n9 24 h10 (k - c8)) E h c8
def fC_X1_appendText (gk : Nat → Nat) (x0 : Option Nat) (x1 : Int) (Q : Int → jj_H → Prop) (E : String → Nat → jj_H → Prop) (h : jj_H) (k : Nat) : Prop :=
  jp_gi h x0 1 4 (fun g11 =>
  jj_r (g11 + 4) ∧ (900 < (g11 + 4) → (
    fC_X1_appendText_j17 gk x0 x1 0 Q E h k)) ∧
  (¬ 900 < (g11 + 4) → (
    fC_X1_appendText_j17 gk x0 x1 1 Q E h k)))
theorem sC_X1_appendText_l23 {X : jj_X} {N : Option jj_AV → jj_H → Prop} {XN : String → Nat → jj_H → Prop} (F : jj_F X RX1 cX1_appendText 3) (M : jj_M X (some (.int)) 7 109 N XN) (O : jj_no X) (J : jj_GJ X.1 X.2.2.1) (hi : X.2.2.2.2.2.2.2.2.2.1.name = yX1_appendText.name) {Q : Int → jj_H → Prop} {E : String → Nat → jj_H → Prop} (hQ : ∀ r h, Q r h → N (some (.inl r)) h) (hE : ∀ e q h, E e q h → XN e q h) (x0 : Option Nat) (x1 : Int) : ∀ (n : Nat) (x2 : Int) (h : jj_H) (k : Nat), fC_X1_appendText_l23 (jj_gk X.1) x0 x1 Q E n x2 h k → jj_J X 3 23 [(0, .inr (.inr (.inl x0))), (1, .inl x1), (2, .inl x2)] [] h k := by
  intro n
  induction n with
  | zero =>
    intro x2 h k w
    exact (show False from w).elim
  | succ n ih =>
    intro x2 h k w
    rw [fC_X1_appendText_l23] at w
    refine jr_iload_n (pc := 23) F (j := 2) dX1_appendText_23 rfl ?_
    obtain ⟨hx9, w1, w2⟩ := w
    refine jr_if_lt (pc := 24) (tgt := 56) F hx9 dX1_appendText_24 rfl (fun c9 => ?_) (fun c9 => ?_)
    · have w := w1 c9
      refine jr_aload_n (pc := 56) F (j := 0) dX1_appendText_56 rfl ?_
      refine jr_gi (pc := 57) (ci := 1) (f := 4) F rfl in_X1 (Nat.le_of_ble_eq_true rfl) q630 dX1_appendText_57 w (fun g1 w => ?_)
      exact jr_iret (pc := 60) F M dX1_appendText_60 (hQ _ _ w)
    · have w := w2 c9
      refine jr_aload_n (pc := 27) F (j := 0) dX1_appendText_27 rfl ?_
      refine jr_gr (pc := 28) (ci := 1) (f := 3) F rfl in_X1 (Nat.le_of_ble_eq_true rfl) q629 dX1_appendText_28 w (fun g2 w => ?_)
      refine jr_aload_n (pc := 31) F (j := 0) dX1_appendText_31 rfl ?_
      refine jr_gi (pc := 32) (ci := 1) (f := 4) F rfl in_X1 (Nat.le_of_ble_eq_true rfl) q630 dX1_appendText_32 w (fun g3 w => ?_)
      refine jr_iload_n (pc := 35) F (j := 1) dX1_appendText_35 rfl ?_
      refine jr_iload_n (pc := 36) F (j := 2) dX1_appendText_36 rfl ?_
      refine jr_ishr (pc := 37) F dX1_appendText_37 ?_
      refine jr_i2b (pc := 38) F dX1_appendText_38 ?_
      obtain ⟨hb9, w⟩ := w
      refine jr_bast (pc := 39) F dX1_appendText_39 hb9 w (fun h4 w => ?_)
      refine jr_aload_n (pc := 40) F (j := 0) dX1_appendText_40 rfl ?_
      refine jr_dup (pc := 41) F dX1_appendText_41 rfl ?_
      refine jr_gi (pc := 42) (ci := 1) (f := 4) F rfl in_X1 (Nat.le_of_ble_eq_true rfl) q630 dX1_appendText_42 w (fun g5 w => ?_)
      refine jr_iconst (pc := 45) F dX1_appendText_45 ?_
      refine jr_iadd (pc := 46) F dX1_appendText_46 ?_
      refine jr_pi (pc := 47) (ci := 1) (f := 4) F rfl in_X1 tyX1_ok nmX1 (Nat.le_of_ble_eq_true rfl) rfl rfl q630 dX1_appendText_47 w (fun h6 w => ?_)
      have w := w _ rfl
      refine jr_iinc (pc := 50) F (j := 2) (vs' := [(2, .inl _), (0, .inr (.inr (.inl _))), (1, .inl _)]) dX1_appendText_50 rfl rfl (Nat.le_of_ble_eq_true rfl) rfl ?_
      refine jr_goto (pc := 53) (tgt := 23) F dX1_appendText_53 rfl ?_
      refine jj_J.sub [1, 2, 0] rfl ?_
      exact ih _ _ _ w

theorem sC_X1_appendText_j17 {X : jj_X} {N : Option jj_AV → jj_H → Prop} {XN : String → Nat → jj_H → Prop} (F : jj_F X RX1 cX1_appendText 3) (M : jj_M X (some (.int)) 7 109 N XN) (O : jj_no X) (J : jj_GJ X.1 X.2.2.1) (hi : X.2.2.2.2.2.2.2.2.2.1.name = yX1_appendText.name) {Q : Int → jj_H → Prop} {E : String → Nat → jj_H → Prop} (hQ : ∀ r h, Q r h → N (some (.inl r)) h) (hE : ∀ e q h, E e q h → XN e q h) (x0 : Option Nat) (x1 : Int) (y0 : Int) : ∀ (h : jj_H) (k : Nat), fC_X1_appendText_j17 (jj_gk X.1) x0 x1 y0 Q E h k → jj_J X 3 17 [(0, .inr (.inr (.inl x0))), (1, .inl x1)] [.inl y0] h k := by
  intro h k w
  unfold fC_X1_appendText_j17 at w
  obtain ⟨c8, hk9, w⟩ := w
  refine jr_callS (pc := 17) (As := [_]) F M (lw_S q2604 q2605 q120 q2606) dX1_appendText_17 hC_X1_checkState.2 rfl (Nat.le_of_ble_eq_true rfl) (Nat.le_of_ble_eq_true rfl) (Nat.le_of_ble_eq_true rfl) hk9 (cC_X1_checkState J w) (fun v9 h10 q9 => ?_) (fun E9 q9 h9 w9 => jr_out F M O (hE _ _ _ w9))
  obtain ⟨rfl, w⟩ := q9
  refine jr_bipush (pc := 20) F dX1_appendText_20 (by decide +kernel) ?_
  refine jr_istore_n (pc := 22) F (vs' := [(2, .inl _), (0, .inr (.inr (.inl _))), (1, .inl _)]) dX1_appendText_22 (Nat.le_of_ble_eq_true rfl) rfl ?_
  refine jj_J.sub [1, 2, 0] rfl ?_
  obtain ⟨n9, w⟩ := w
  exact sC_X1_appendText_l23 F M O J hi hQ hE _ _ n9 _ _ _ w

theorem sC_X1_appendText {X : jj_X} {N : Option jj_AV → jj_H → Prop} {XN : String → Nat → jj_H → Prop} (F : jj_F X RX1 cX1_appendText 3) (M : jj_M X (some (.int)) 7 109 N XN) (O : jj_no X) (J : jj_GJ X.1 X.2.2.1) (hi : X.2.2.2.2.2.2.2.2.2.1.name = yX1_appendText.name) {Q : Int → jj_H → Prop} {E : String → Nat → jj_H → Prop} (hQ : ∀ r h, Q r h → N (some (.inl r)) h) (hE : ∀ e q h, E e q h → XN e q h) (x0 : Option Nat) (x1 : Int) : ∀ (h : jj_H) (k : Nat), fC_X1_appendText (jj_gk X.1) x0 x1 Q E h k → jj_J X 3 0 [(0, .inr (.inr (.inl x0))), (1, .inl x1)] [] h k := by
  intro h k w
  unfold fC_X1_appendText at w
  refine jr_aload_n (pc := 0) F (j := 0) dX1_appendText_0 rfl ?_
  refine jr_gi (pc := 1) (ci := 1) (f := 4) F rfl in_X1 (Nat.le_of_ble_eq_true rfl) q630 dX1_appendText_1 w (fun g11 w => ?_)
  refine jr_iconst (pc := 4) F dX1_appendText_4 ?_
  refine jr_iadd (pc := 5) F dX1_appendText_5 ?_
  refine jr_sipush (pc := 6) F dX1_appendText_6 (by decide +kernel) ?_
  obtain ⟨hx9, w1, w2⟩ := w
  refine jr_icmp_gt (pc := 9) (tgt := 16) F hx9 ⟨by decide, by decide⟩ dX1_appendText_9 rfl (fun c9 => ?_) (fun c9 => ?_)
  · have w := w1 c9
    refine jr_iconst (pc := 16) F dX1_appendText_16 ?_
    exact sC_X1_appendText_j17 F M O J hi hQ hE _ _ _ _ _ w
  · have w := w2 c9
    refine jr_iconst (pc := 12) F dX1_appendText_12 ?_
    refine jr_goto (pc := 13) (tgt := 17) F dX1_appendText_13 rfl ?_
    exact sC_X1_appendText_j17 F M O J hi hQ hE _ _ _ _ _ w

theorem cC_X1_appendText {G : jj_G} {l : Launch} (J : jj_GJ G l) {x0 : Option Nat} {x1 : Int} {Q : Int → jj_H → Prop} {E : String → Nat → jj_H → Prop} {h : jj_H} {k : Nat} (w : fC_X1_appendText (jj_gk G) x0 x1 Q E h k) : jj_Ct G l yX1_appendText (ws_ yX1_appendText cX1_appendText 3 (some (.int))) 7 109 [.inr (.inr (.inl x0)), .inl x1] h k (jc_i Q) E := by
  refine jj_Ct.of (jK_gs J).1 (by decide +kernel) (Nat.le_of_ble_eq_true rfl) rfl (fun X hG hl F M O hnm => ?_)
  subst hG; subst hl
  exact sC_X1_appendText F M O J hnm (fun r h q => ⟨r, rfl, q⟩) (fun _ _ _ q => q) _ _ _ _ w
theorem hC_X1_appendText : yX1_appendText.cls = RX1 ∧ yX1_appendText.cls ≠ "java/lang/invoke/MethodHandle" ∧ yX1_appendText.cls ≠ "java/lang/invoke/VarHandle" ∧ (parseMethodDescriptor yX1_appendText.desc).map (fun d => d.parameters.length) = some 1 := by decide +kernel
/-! X1_checkArgument(Z)V -/
def fC_X1_checkArgument (gk : Nat → Nat) (x0 : Int) (Q : jj_H → Prop) (E : String → Nat → jj_H → Prop) (h : jj_H) (k : Nat) : Prop :=
  jj_r x0 ∧ (¬ x0 = 0 → (
    Q h)) ∧
  (x0 = 0 → (
    2 ≤ k ∧ ∀ q9, E "java/lang/IllegalArgumentException" q9 h))
theorem sC_X1_checkArgument {X : jj_X} {N : Option jj_AV → jj_H → Prop} {XN : String → Nat → jj_H → Prop} (F : jj_F X RX1 cX1_checkArgument 1) (M : jj_M X (none) 6 89 N XN) (O : jj_no X) (J : jj_GJ X.1 X.2.2.1) (hi : X.2.2.2.2.2.2.2.2.2.1.name = yX1_checkArgument.name) {Q : jj_H → Prop} {E : String → Nat → jj_H → Prop} (hQ : ∀ h, Q h → N none h) (hE : ∀ e q h, E e q h → XN e q h) (x0 : Int) : ∀ (h : jj_H) (k : Nat), fC_X1_checkArgument (jj_gk X.1) x0 Q E h k → jj_J X 1 0 [(0, .inl x0)] [] h k := by
  intro h k w
  unfold fC_X1_checkArgument at w
  refine jr_iload_n (pc := 0) F (j := 0) dX1_checkArgument_0 rfl ?_
  obtain ⟨hx9, w1, w2⟩ := w
  refine jr_if_ne (pc := 1) (tgt := 12) F hx9 dX1_checkArgument_1 rfl (fun c9 => ?_) (fun c9 => ?_)
  · have w := w1 c9
    exact jr_vret (pc := 12) F M dX1_checkArgument_12 (hQ _ w)
  · have w := w2 c9
    exact jr_throw0 (pc := 4) F M (jK_zq J) (fun x9 hx9 => (O x9 hx9).elim) (cls := "java/lang/IllegalArgumentException") (names := ["java/lang/RuntimeException", "java/lang/Exception"]) (by decide +kernel) (by decide +kernel) q2634 q128 at_X1_9 og_X1_9 dX1_checkArgument_4 dX1_checkArgument_7 dX1_checkArgument_8 dX1_checkArgument_11 (Nat.le_of_ble_eq_true rfl) (Nat.le_of_ble_eq_true rfl) (Nat.le_of_ble_eq_true rfl) w.1 (fun q9 => hE _ _ _ (w.2 q9))

theorem cC_X1_checkArgument {G : jj_G} {l : Launch} (J : jj_GJ G l) {x0 : Int} {Q : jj_H → Prop} {E : String → Nat → jj_H → Prop} {h : jj_H} {k : Nat} (w : fC_X1_checkArgument (jj_gk G) x0 Q E h k) : jj_Ct G l yX1_checkArgument (ws_ yX1_checkArgument cX1_checkArgument 1 (none)) 6 89 [.inl x0] h k (jc_v Q) E := by
  refine jj_Ct.of (jK_gs J).1 (by decide +kernel) (Nat.le_of_ble_eq_true rfl) rfl (fun X hG hl F M O hnm => ?_)
  subst hG; subst hl
  exact sC_X1_checkArgument F M O J hnm (fun h q => ⟨rfl, q⟩) (fun _ _ _ q => q) _ _ _ w
theorem hC_X1_checkArgument : yX1_checkArgument.cls = RX1 ∧ yX1_checkArgument.cls ≠ "java/lang/invoke/MethodHandle" ∧ yX1_checkArgument.cls ≠ "java/lang/invoke/VarHandle" ∧ (parseMethodDescriptor yX1_checkArgument.desc).map (fun d => d.parameters.length) = some 1 := by decide +kernel
/-! X1_truncateText(I)I -/
def fC_X1_truncateText (gk : Nat → Nat) (x0 : Option Nat) (x1 : Int) (Q : Int → jj_H → Prop) (E : String → Nat → jj_H → Prop) (h : jj_H) (k : Nat) : Prop :=
  jp_gi h x0 1 4 (fun g1 =>
  fC_X1_isBetween gk (jj_i2l x1) 0 (jj_i2l g1) (fun r3 h4 =>
  ∃ c5, c5 ≤ k ∧ fC_X1_checkArgument gk r3 (fun h7 =>
  jp_pi h7 x0 1 4 x1 (fun h8 =>
  Q x1 h8)) E h4 c5) E h 0)
theorem sC_X1_truncateText {X : jj_X} {N : Option jj_AV → jj_H → Prop} {XN : String → Nat → jj_H → Prop} (F : jj_F X RX1 cX1_truncateText 2) (M : jj_M X (some (.int)) 7 109 N XN) (O : jj_no X) (J : jj_GJ X.1 X.2.2.1) (hi : X.2.2.2.2.2.2.2.2.2.1.name = yX1_truncateText.name) {Q : Int → jj_H → Prop} {E : String → Nat → jj_H → Prop} (hQ : ∀ r h, Q r h → N (some (.inl r)) h) (hE : ∀ e q h, E e q h → XN e q h) (x0 : Option Nat) (x1 : Int) : ∀ (h : jj_H) (k : Nat), fC_X1_truncateText (jj_gk X.1) x0 x1 Q E h k → jj_J X 2 0 [(0, .inr (.inr (.inl x0))), (1, .inl x1)] [] h k := by
  intro h k w
  unfold fC_X1_truncateText at w
  refine jr_iload_n (pc := 0) F (j := 1) dX1_truncateText_0 rfl ?_
  refine jr_i2l (pc := 1) F dX1_truncateText_1 ?_
  refine jr_lconst (pc := 2) F (x := 0) dX1_truncateText_2 (by decide +kernel) ?_
  refine jr_aload_n (pc := 3) F (j := 0) dX1_truncateText_3 rfl ?_
  refine jr_gi (pc := 4) (ci := 1) (f := 4) F rfl in_X1 (Nat.le_of_ble_eq_true rfl) q630 dX1_truncateText_4 w (fun g1 w => ?_)
  refine jr_i2l (pc := 7) F dX1_truncateText_7 ?_
  refine jr_callS (pc := 8) (As := [_, _, _]) F M (lw_S q2630 q1678 q120 q1679) dX1_truncateText_8 hC_X1_isBetween.2 rfl (Nat.le_of_ble_eq_true rfl) (Nat.le_of_ble_eq_true rfl) (Nat.le_of_ble_eq_true rfl) (Nat.zero_le _) (cC_X1_isBetween J w) (fun v9 h4 q9 => ?_) (fun E9 q9 h9 w9 => jr_out F M O (hE _ _ _ w9))
  obtain ⟨r3, rfl, w⟩ := q9
  obtain ⟨c5, hk9, w⟩ := w
  refine jr_callS (pc := 11) (As := [_]) F M (lw_S q2631 q2632 q120 q2633) dX1_truncateText_11 hC_X1_checkArgument.2 rfl (Nat.le_of_ble_eq_true rfl) (Nat.le_of_ble_eq_true rfl) (Nat.le_of_ble_eq_true rfl) hk9 (cC_X1_checkArgument J w) (fun v9 h7 q9 => ?_) (fun E9 q9 h9 w9 => jr_out F M O (hE _ _ _ w9))
  obtain ⟨rfl, w⟩ := q9
  refine jr_aload_n (pc := 14) F (j := 0) dX1_truncateText_14 rfl ?_
  refine jr_iload_n (pc := 15) F (j := 1) dX1_truncateText_15 rfl ?_
  refine jr_pi (pc := 16) (ci := 1) (f := 4) F rfl in_X1 tyX1_ok nmX1 (Nat.le_of_ble_eq_true rfl) rfl rfl q630 dX1_truncateText_16 w (fun h8 w => ?_)
  refine jr_iload_n (pc := 19) F (j := 1) dX1_truncateText_19 rfl ?_
  exact jr_iret (pc := 20) F M dX1_truncateText_20 (hQ _ _ w)

theorem cC_X1_truncateText {G : jj_G} {l : Launch} (J : jj_GJ G l) {x0 : Option Nat} {x1 : Int} {Q : Int → jj_H → Prop} {E : String → Nat → jj_H → Prop} {h : jj_H} {k : Nat} (w : fC_X1_truncateText (jj_gk G) x0 x1 Q E h k) : jj_Ct G l yX1_truncateText (ws_ yX1_truncateText cX1_truncateText 2 (some (.int))) 7 109 [.inr (.inr (.inl x0)), .inl x1] h k (jc_i Q) E := by
  refine jj_Ct.of (jK_gs J).1 (by decide +kernel) (Nat.le_of_ble_eq_true rfl) rfl (fun X hG hl F M O hnm => ?_)
  subst hG; subst hl
  exact sC_X1_truncateText F M O J hnm (fun r h q => ⟨r, rfl, q⟩) (fun _ _ _ q => q) _ _ _ _ w
theorem hC_X1_truncateText : yX1_truncateText.cls = RX1 ∧ yX1_truncateText.cls ≠ "java/lang/invoke/MethodHandle" ∧ yX1_truncateText.cls ≠ "java/lang/invoke/VarHandle" ∧ (parseMethodDescriptor yX1_truncateText.desc).map (fun d => d.parameters.length) = some 1 := by decide +kernel
/-! X1_count(I)I -/
def fC_X1_count (gk : Nat → Nat) (x0 : Option Nat) (x1 : Int) (Q : Int → jj_H → Prop) (E : String → Nat → jj_H → Prop) (h : jj_H) (k : Nat) : Prop :=
  fC_X1_isBetween gk (jj_i2l x1) 0 5 (fun r2 h3 =>
  ∃ c4, c4 ≤ k ∧ fC_X1_checkArgument gk r2 (fun h6 =>
  jj_r x1 ∧
  (x1 = 0 → (
    jp_gr h6 x0 1 0 (fun g7 =>
    jp_gr h6 g7 2 0 (fun g8 =>
    jq_J2_size g8 (fun r11 h9 k10 =>
    Q r11 h9) h6 (k - c4))))) ∧
  (x1 = 1 → (
    jp_gr h6 x0 1 0 (fun g12 =>
    jp_gr h6 g12 2 2 (fun g13 =>
    jq_J2_size g13 (fun r16 h14 k15 =>
    Q r16 h14) h6 (k - c4))))) ∧
  (x1 = 2 → (
    jp_gr h6 x0 1 0 (fun g17 =>
    jp_gr h6 g17 2 1 (fun g18 =>
    jq_J2_size g18 (fun r21 h19 k20 =>
    Q r21 h19) h6 (k - c4))))) ∧
  (x1 = 3 → (
    jp_gr h6 x0 1 0 (fun g22 =>
    jp_gr h6 g22 2 0 (fun g23 =>
    jq_J2_isEmpty g23 (fun r26 h24 k25 =>
    jj_r r26 ∧ (r26 = 0 → (
      jp_is h24 x0 1 ∧ ∃ c27, c27 ≤ k25 ∧ fC_X1_view gk x0 (fun r28 h29 =>
      jp_gr h29 r28 8 4 (fun g30 =>
      jq_J2_size g30 (fun r33 h31 k32 =>
      Q r33 h31) h29 (k25 - c27))) E h24 c27)) ∧
    (¬ r26 = 0 → (
      Q 0 h24))) h6 (k - c4))))) ∧
  (x1 = 4 → (
    jp_gr h6 x0 1 0 (fun g34 =>
    jp_gi h6 g34 2 5 (fun g35 =>
    Q g35 h6)))) ∧
  ((x1 < 0 ∨ 4 < x1) → (
    jp_gr h6 x0 1 0 (fun g36 =>
    jp_gr h6 g36 2 0 (fun g37 =>
    jq_J2_isEmpty g37 (fun r40 h38 k39 =>
    jj_r r40 ∧ (r40 = 0 → (
      jp_gr h38 x0 1 0 (fun g41 =>
      jp_gi h38 g41 2 4 (fun g42 =>
      Q g42 h38)))) ∧
    (¬ r40 = 0 → (
      Q (-1) h38))) h6 (k - c4)))))) E h3 c4) E h 0
theorem sC_X1_count {X : jj_X} {N : Option jj_AV → jj_H → Prop} {XN : String → Nat → jj_H → Prop} (F : jj_F X RX1 cX1_count 2) (M : jj_M X (some (.int)) 18 739 N XN) (O : jj_no X) (J : jj_GJ X.1 X.2.2.1) (hi : X.2.2.2.2.2.2.2.2.2.1.name = yX1_count.name) {Q : Int → jj_H → Prop} {E : String → Nat → jj_H → Prop} (hQ : ∀ r h, Q r h → N (some (.inl r)) h) (hE : ∀ e q h, E e q h → XN e q h) (x0 : Option Nat) (x1 : Int) : ∀ (h : jj_H) (k : Nat), fC_X1_count (jj_gk X.1) x0 x1 Q E h k → jj_J X 2 0 [(0, .inr (.inr (.inl x0))), (1, .inl x1)] [] h k := by
  intro h k w
  unfold fC_X1_count at w
  refine jr_iload_n (pc := 0) F (j := 1) dX1_count_0 rfl ?_
  refine jr_i2l (pc := 1) F dX1_count_1 ?_
  refine jr_lconst (pc := 2) F (x := 0) dX1_count_2 (by decide +kernel) ?_
  refine jr_ldc2 (pc := 3) F (x := 5) q2643 dX1_count_3 (by decide +kernel) ?_
  refine jr_callS (pc := 6) (As := [_, _, _]) F M (lw_S q2630 q1678 q120 q1679) dX1_count_6 hC_X1_isBetween.2 rfl (Nat.le_of_ble_eq_true rfl) (Nat.le_of_ble_eq_true rfl) (Nat.le_of_ble_eq_true rfl) (Nat.zero_le _) (cC_X1_isBetween J w) (fun v9 h3 q9 => ?_) (fun E9 q9 h9 w9 => jr_out F M O (hE _ _ _ w9))
  obtain ⟨r2, rfl, w⟩ := q9
  obtain ⟨c4, hk9, w⟩ := w
  refine jr_callS (pc := 9) (As := [_]) F M (lw_S q2631 q2632 q120 q2633) dX1_count_9 hC_X1_checkArgument.2 rfl (Nat.le_of_ble_eq_true rfl) (Nat.le_of_ble_eq_true rfl) (Nat.le_of_ble_eq_true rfl) hk9 (cC_X1_checkArgument J w) (fun v9 h6 q9 => ?_) (fun E9 q9 h9 w9 => jr_out F M O (hE _ _ _ w9))
  obtain ⟨rfl, w⟩ := q9
  refine jr_iload_n (pc := 12) F (j := 1) dX1_count_12 rfl ?_
  obtain ⟨hx9, w⟩ := w
  obtain ⟨w9, w⟩ := w
  rcases Decidable.em (x1 = 0) with e9 | e9_0
  · have w := w9 e9
    refine jr_tabIn (pc := 13) (tgt := 48) (off := 35) F hx9 dX1_count_13 (by rw [e9]; decide) (by rw [e9]; decide) (by rw [e9]; rfl) rfl ?_
    refine jr_aload_n (pc := 48) F (j := 0) dX1_count_48 rfl ?_
    refine jr_gr (pc := 49) (ci := 1) (f := 0) F rfl in_X1 (Nat.le_of_ble_eq_true rfl) q625 dX1_count_49 w (fun g7 w => ?_)
    refine jr_grN (pc := 52) (ci := 2) (f := 0) F rfl in_X2 (Nat.le_of_ble_eq_true rfl) q591 dX1_count_52 w (fun g8 w => ?_)
    refine jr_jV (pc := 55) (As := []) (ci := 14) F M (lw_V q1646 q676 q677 q124 q678) dX1_count_55 hj_J2_size rfl (Nat.le_of_ble_eq_true rfl) (Nat.le_of_ble_eq_true rfl) (Nat.le_of_ble_eq_true rfl) rfl (jK_J2_size J _ _ _ _ w) (fun v9 h9 k10 q9 => ?_)
    obtain ⟨r11, rfl, w⟩ := q9
    exact jr_iret (pc := 58) F M dX1_count_58 (hQ _ _ w)
  obtain ⟨w9, w⟩ := w
  rcases Decidable.em (x1 = 1) with e9 | e9_1
  · have w := w9 e9
    refine jr_tabIn (pc := 13) (tgt := 59) (off := 46) F hx9 dX1_count_13 (by rw [e9]; decide) (by rw [e9]; decide) (by rw [e9]; rfl) rfl ?_
    refine jr_aload_n (pc := 59) F (j := 0) dX1_count_59 rfl ?_
    refine jr_gr (pc := 60) (ci := 1) (f := 0) F rfl in_X1 (Nat.le_of_ble_eq_true rfl) q625 dX1_count_60 w (fun g12 w => ?_)
    refine jr_grN (pc := 63) (ci := 2) (f := 2) F rfl in_X2 (Nat.le_of_ble_eq_true rfl) q599 dX1_count_63 w (fun g13 w => ?_)
    refine jr_jV (pc := 66) (As := []) (ci := 14) F M (lw_V q1646 q676 q677 q124 q678) dX1_count_66 hj_J2_size rfl (Nat.le_of_ble_eq_true rfl) (Nat.le_of_ble_eq_true rfl) (Nat.le_of_ble_eq_true rfl) rfl (jK_J2_size J _ _ _ _ w) (fun v9 h14 k15 q9 => ?_)
    obtain ⟨r16, rfl, w⟩ := q9
    exact jr_iret (pc := 69) F M dX1_count_69 (hQ _ _ w)
  obtain ⟨w9, w⟩ := w
  rcases Decidable.em (x1 = 2) with e9 | e9_2
  · have w := w9 e9
    refine jr_tabIn (pc := 13) (tgt := 70) (off := 57) F hx9 dX1_count_13 (by rw [e9]; decide) (by rw [e9]; decide) (by rw [e9]; rfl) rfl ?_
    refine jr_aload_n (pc := 70) F (j := 0) dX1_count_70 rfl ?_
    refine jr_gr (pc := 71) (ci := 1) (f := 0) F rfl in_X1 (Nat.le_of_ble_eq_true rfl) q625 dX1_count_71 w (fun g17 w => ?_)
    refine jr_grN (pc := 74) (ci := 2) (f := 1) F rfl in_X2 (Nat.le_of_ble_eq_true rfl) q596 dX1_count_74 w (fun g18 w => ?_)
    refine jr_jV (pc := 77) (As := []) (ci := 14) F M (lw_V q1646 q676 q677 q124 q678) dX1_count_77 hj_J2_size rfl (Nat.le_of_ble_eq_true rfl) (Nat.le_of_ble_eq_true rfl) (Nat.le_of_ble_eq_true rfl) rfl (jK_J2_size J _ _ _ _ w) (fun v9 h19 k20 q9 => ?_)
    obtain ⟨r21, rfl, w⟩ := q9
    exact jr_iret (pc := 80) F M dX1_count_80 (hQ _ _ w)
  obtain ⟨w9, w⟩ := w
  rcases Decidable.em (x1 = 3) with e9 | e9_3
  · have w := w9 e9
    refine jr_tabIn (pc := 13) (tgt := 81) (off := 68) F hx9 dX1_count_13 (by rw [e9]; decide) (by rw [e9]; decide) (by rw [e9]; rfl) rfl ?_
    refine jr_aload_n (pc := 81) F (j := 0) dX1_count_81 rfl ?_
    refine jr_gr (pc := 82) (ci := 1) (f := 0) F rfl in_X1 (Nat.le_of_ble_eq_true rfl) q625 dX1_count_82 w (fun g22 w => ?_)
    refine jr_grN (pc := 85) (ci := 2) (f := 0) F rfl in_X2 (Nat.le_of_ble_eq_true rfl) q591 dX1_count_85 w (fun g23 w => ?_)
    refine jr_jV (pc := 88) (As := []) (ci := 14) F M (lw_V q655 q656 q657 q124 q658) dX1_count_88 hj_J2_isEmpty rfl (Nat.le_of_ble_eq_true rfl) (Nat.le_of_ble_eq_true rfl) (Nat.le_of_ble_eq_true rfl) rfl (jK_J2_isEmpty J _ _ _ _ w) (fun v9 h24 k25 q9 => ?_)
    obtain ⟨r26, rfl, w⟩ := q9
    obtain ⟨hx9, w1, w2⟩ := w
    refine jr_if_eq (pc := 91) (tgt := 98) F hx9 dX1_count_91 rfl (fun c9 => ?_) (fun c9 => ?_)
    · have w := w1 c9
      refine jr_aload_n (pc := 98) F (j := 0) dX1_count_98 rfl ?_
      obtain ⟨hi9, c27, hk9, w⟩ := w
      refine jr_cV (pc := 99) (As := []) (ci := 1) F M (lw_V q659 q661 qs1 q120 q662) dX1_count_99 hC_X1_view rfl (Nat.le_of_ble_eq_true rfl) (Nat.le_of_ble_eq_true rfl) (Nat.le_of_ble_eq_true rfl) rfl hi9 hk9 (cC_X1_view J w) (fun v9 h29 q9 => ?_) (fun E9 q9 h9 w9 => jr_out F M O (hE _ _ _ w9))
      obtain ⟨r28, rfl, w⟩ := q9
      refine jr_grN (pc := 102) (ci := 8) (f := 4) F rfl in_X10 (Nat.le_of_ble_eq_true rfl) q1601 dX1_count_102 w (fun g30 w => ?_)
      refine jr_jV (pc := 105) (As := []) (ci := 14) F M (lw_V q1646 q676 q677 q124 q678) dX1_count_105 hj_J2_size rfl (Nat.le_of_ble_eq_true rfl) (Nat.le_of_ble_eq_true rfl) (Nat.le_of_ble_eq_true rfl) rfl (jK_J2_size J _ _ _ _ w) (fun v9 h31 k32 q9 => ?_)
      obtain ⟨r33, rfl, w⟩ := q9
      exact jr_iret (pc := 108) F M dX1_count_108 (hQ _ _ w)
    · have w := w2 c9
      refine jr_iconst (pc := 94) F dX1_count_94 ?_
      refine jr_goto (pc := 95) (tgt := 108) F dX1_count_95 rfl ?_
      exact jr_iret (pc := 108) F M dX1_count_108 (hQ _ _ w)
  obtain ⟨w9, w⟩ := w
  rcases Decidable.em (x1 = 4) with e9 | e9_4
  · have w := w9 e9
    refine jr_tabIn (pc := 13) (tgt := 109) (off := 96) F hx9 dX1_count_13 (by rw [e9]; decide) (by rw [e9]; decide) (by rw [e9]; rfl) rfl ?_
    refine jr_aload_n (pc := 109) F (j := 0) dX1_count_109 rfl ?_
    refine jr_gr (pc := 110) (ci := 1) (f := 0) F rfl in_X1 (Nat.le_of_ble_eq_true rfl) q625 dX1_count_110 w (fun g34 w => ?_)
    refine jr_giN (pc := 113) (ci := 2) (f := 5) F rfl in_X2 (Nat.le_of_ble_eq_true rfl) q608 dX1_count_113 w (fun g35 w => ?_)
    exact jr_iret (pc := 116) F M dX1_count_116 (hQ _ _ w)
  have c9 := jj_to4 e9_0 e9_1 e9_2 e9_3 e9_4
  have w := w c9
  refine jr_tabOut (pc := 13) (tgt := 117) F hx9 dX1_count_13 c9 rfl ?_
  refine jr_aload_n (pc := 117) F (j := 0) dX1_count_117 rfl ?_
  refine jr_gr (pc := 118) (ci := 1) (f := 0) F rfl in_X1 (Nat.le_of_ble_eq_true rfl) q625 dX1_count_118 w (fun g36 w => ?_)
  refine jr_grN (pc := 121) (ci := 2) (f := 0) F rfl in_X2 (Nat.le_of_ble_eq_true rfl) q591 dX1_count_121 w (fun g37 w => ?_)
  refine jr_jV (pc := 124) (As := []) (ci := 14) F M (lw_V q655 q656 q657 q124 q658) dX1_count_124 hj_J2_isEmpty rfl (Nat.le_of_ble_eq_true rfl) (Nat.le_of_ble_eq_true rfl) (Nat.le_of_ble_eq_true rfl) rfl (jK_J2_isEmpty J _ _ _ _ w) (fun v9 h38 k39 q9 => ?_)
  obtain ⟨r40, rfl, w⟩ := q9
  obtain ⟨hx9, w1, w2⟩ := w
  refine jr_if_eq (pc := 127) (tgt := 134) F hx9 dX1_count_127 rfl (fun c9 => ?_) (fun c9 => ?_)
  · have w := w1 c9
    refine jr_aload_n (pc := 134) F (j := 0) dX1_count_134 rfl ?_
    refine jr_gr (pc := 135) (ci := 1) (f := 0) F rfl in_X1 (Nat.le_of_ble_eq_true rfl) q625 dX1_count_135 w (fun g41 w => ?_)
    refine jr_giN (pc := 138) (ci := 2) (f := 4) F rfl in_X2 (Nat.le_of_ble_eq_true rfl) q605 dX1_count_138 w (fun g42 w => ?_)
    exact jr_iret (pc := 141) F M dX1_count_141 (hQ _ _ w)
  · have w := w2 c9
    refine jr_iconst (pc := 130) F dX1_count_130 ?_
    refine jr_goto (pc := 131) (tgt := 141) F dX1_count_131 rfl ?_
    exact jr_iret (pc := 141) F M dX1_count_141 (hQ _ _ w)

theorem cC_X1_count {G : jj_G} {l : Launch} (J : jj_GJ G l) {x0 : Option Nat} {x1 : Int} {Q : Int → jj_H → Prop} {E : String → Nat → jj_H → Prop} {h : jj_H} {k : Nat} (w : fC_X1_count (jj_gk G) x0 x1 Q E h k) : jj_Ct G l yX1_count (ws_ yX1_count cX1_count 2 (some (.int))) 18 739 [.inr (.inr (.inl x0)), .inl x1] h k (jc_i Q) E := by
  refine jj_Ct.of (jK_gs J).1 (by decide +kernel) (Nat.le_of_ble_eq_true rfl) rfl (fun X hG hl F M O hnm => ?_)
  subst hG; subst hl
  exact sC_X1_count F M O J hnm (fun r h q => ⟨r, rfl, q⟩) (fun _ _ _ q => q) _ _ _ _ w
theorem hC_X1_count : yX1_count.cls = RX1 ∧ yX1_count.cls ≠ "java/lang/invoke/MethodHandle" ∧ yX1_count.cls ≠ "java/lang/invoke/VarHandle" ∧ (parseMethodDescriptor yX1_count.desc).map (fun d => d.parameters.length) = some 1 := by decide +kernel
/-! X1_change()V -/
def fC_X1_change (gk : Nat → Nat) (x0 : Option Nat) (Q : jj_H → Prop) (E : String → Nat → jj_H → Prop) (h : jj_H) (k : Nat) : Prop :=
  jp_pi h x0 1 4 0 (fun h1 =>
  jp_pr h1 x0 1 1 none (fun h2 =>
  Q h2))
theorem sC_X1_change {X : jj_X} {N : Option jj_AV → jj_H → Prop} {XN : String → Nat → jj_H → Prop} (F : jj_F X RX1 cX1_change 1) (M : jj_M X (none) 0 0 N XN) (O : jj_no X) (J : jj_GJ X.1 X.2.2.1) (hi : X.2.2.2.2.2.2.2.2.2.1.name = yX1_change.name) {Q : jj_H → Prop} {E : String → Nat → jj_H → Prop} (hQ : ∀ h, Q h → N none h) (hE : ∀ e q h, E e q h → XN e q h) (x0 : Option Nat) : ∀ (h : jj_H) (k : Nat), fC_X1_change (jj_gk X.1) x0 Q E h k → jj_J X 1 0 [(0, .inr (.inr (.inl x0)))] [] h k := by
  intro h k w
  unfold fC_X1_change at w
  refine jr_aload_n (pc := 0) F (j := 0) dX1_change_0 rfl ?_
  refine jr_iconst (pc := 1) F dX1_change_1 ?_
  refine jr_pi (pc := 2) (ci := 1) (f := 4) F rfl in_X1 tyX1_ok nmX1 (Nat.le_of_ble_eq_true rfl) rfl rfl q630 dX1_change_2 w (fun h1 w => ?_)
  refine jr_aload_n (pc := 5) F (j := 0) dX1_change_5 rfl ?_
  refine jr_null (pc := 6) F dX1_change_6 ?_
  refine jr_pr (pc := 7) (ci := 1) (f := 1) F rfl in_X1 tyX1_ok nmX1 (Nat.le_of_ble_eq_true rfl) rfl rfl q626 dX1_change_7 w (fun h2 w => ?_)
  exact jr_vret (pc := 10) F M dX1_change_10 (hQ _ w)

theorem cC_X1_change {G : jj_G} {l : Launch} (J : jj_GJ G l) {x0 : Option Nat} {Q : jj_H → Prop} {E : String → Nat → jj_H → Prop} {h : jj_H} {k : Nat} (w : fC_X1_change (jj_gk G) x0 Q E h k) : jj_Ct G l yX1_change (ws_ yX1_change cX1_change 1 (none)) 0 0 [.inr (.inr (.inl x0))] h k (jc_v Q) E := by
  refine jj_Ct.of (jK_gs J).1 (by decide +kernel) (Nat.le_of_ble_eq_true rfl) rfl (fun X hG hl F M O hnm => ?_)
  subst hG; subst hl
  exact sC_X1_change F M O J hnm (fun h q => ⟨rfl, q⟩) (fun _ _ _ q => q) _ _ _ w
theorem hC_X1_change : yX1_change.cls = RX1 ∧ yX1_change.cls ≠ "java/lang/invoke/MethodHandle" ∧ yX1_change.cls ≠ "java/lang/invoke/VarHandle" ∧ (parseMethodDescriptor yX1_change.desc).map (fun d => d.parameters.length) = some 0 := by decide +kernel
/-! X1_isLayout(II)Z -/
def fC_X1_isLayout (gk : Nat → Nat) (x0 : Int) (x1 : Int) (Q : Int → jj_H → Prop) (E : String → Nat → jj_H → Prop) (h : jj_H) (k : Nat) : Prop :=
  fC_X1_isBetween gk (jj_i2l x0) 8 60 (fun r2 h3 =>
  jj_r r2 ∧ (r2 = 0 → (
    Q 0 h3)) ∧
  (¬ r2 = 0 → (
    fC_X1_isBetween gk (jj_i2l x1) 1 40 (fun r5 h6 =>
    jj_r r5 ∧ (r5 = 0 → (
      Q 0 h6)) ∧
    (¬ r5 = 0 → (
      Q 1 h6))) E h3 0))) E h 0
theorem sC_X1_isLayout {X : jj_X} {N : Option jj_AV → jj_H → Prop} {XN : String → Nat → jj_H → Prop} (F : jj_F X RX1 cX1_isLayout 2) (M : jj_M X (some (.boolean)) 1 25 N XN) (O : jj_no X) (J : jj_GJ X.1 X.2.2.1) (hi : X.2.2.2.2.2.2.2.2.2.1.name = yX1_isLayout.name) {Q : Int → jj_H → Prop} {E : String → Nat → jj_H → Prop} (hQ : ∀ r h, Q r h → N (some (.inl r)) h) (hE : ∀ e q h, E e q h → XN e q h) (x0 : Int) (x1 : Int) : ∀ (h : jj_H) (k : Nat), fC_X1_isLayout (jj_gk X.1) x0 x1 Q E h k → jj_J X 2 0 [(0, .inl x0), (1, .inl x1)] [] h k := by
  intro h k w
  unfold fC_X1_isLayout at w
  refine jr_iload_n (pc := 0) F (j := 0) dX1_isLayout_0 rfl ?_
  refine jr_i2l (pc := 1) F dX1_isLayout_1 ?_
  refine jr_ldc2 (pc := 2) F (x := 8) q2654 dX1_isLayout_2 (by decide +kernel) ?_
  refine jr_ldc2 (pc := 5) F (x := 60) q2655 dX1_isLayout_5 (by decide +kernel) ?_
  refine jr_callS (pc := 8) (As := [_, _, _]) F M (lw_S q2630 q1678 q120 q1679) dX1_isLayout_8 hC_X1_isBetween.2 rfl (Nat.le_of_ble_eq_true rfl) (Nat.le_of_ble_eq_true rfl) (Nat.le_of_ble_eq_true rfl) (Nat.zero_le _) (cC_X1_isBetween J w) (fun v9 h3 q9 => ?_) (fun E9 q9 h9 w9 => jr_out F M O (hE _ _ _ w9))
  obtain ⟨r2, rfl, w⟩ := q9
  obtain ⟨hx9, w1, w2⟩ := w
  refine jr_if_eq (pc := 11) (tgt := 30) F hx9 dX1_isLayout_11 rfl (fun c9 => ?_) (fun c9 => ?_)
  · have w := w1 c9
    refine jr_iconst (pc := 30) F dX1_isLayout_30 ?_
    exact jr_zret (pc := 31) F M dX1_isLayout_31 (by decide) (hQ _ _ w)
  · have w := w2 c9
    refine jr_iload_n (pc := 14) F (j := 1) dX1_isLayout_14 rfl ?_
    refine jr_i2l (pc := 15) F dX1_isLayout_15 ?_
    refine jr_lconst (pc := 16) F (x := 1) dX1_isLayout_16 (by decide +kernel) ?_
    refine jr_ldc2 (pc := 17) F (x := 40) q2656 dX1_isLayout_17 (by decide +kernel) ?_
    refine jr_callS (pc := 20) (As := [_, _, _]) F M (lw_S q2630 q1678 q120 q1679) dX1_isLayout_20 hC_X1_isBetween.2 rfl (Nat.le_of_ble_eq_true rfl) (Nat.le_of_ble_eq_true rfl) (Nat.le_of_ble_eq_true rfl) (Nat.zero_le _) (cC_X1_isBetween J w) (fun v9 h6 q9 => ?_) (fun E9 q9 h9 w9 => jr_out F M O (hE _ _ _ w9))
    obtain ⟨r5, rfl, w⟩ := q9
    obtain ⟨hx9, w1, w2⟩ := w
    refine jr_if_eq (pc := 23) (tgt := 30) F hx9 dX1_isLayout_23 rfl (fun c9 => ?_) (fun c9 => ?_)
    · have w := w1 c9
      refine jr_iconst (pc := 30) F dX1_isLayout_30 ?_
      exact jr_zret (pc := 31) F M dX1_isLayout_31 (by decide) (hQ _ _ w)
    · have w := w2 c9
      refine jr_iconst (pc := 26) F dX1_isLayout_26 ?_
      refine jr_goto (pc := 27) (tgt := 31) F dX1_isLayout_27 rfl ?_
      exact jr_zret (pc := 31) F M dX1_isLayout_31 (by decide) (hQ _ _ w)

theorem cC_X1_isLayout {G : jj_G} {l : Launch} (J : jj_GJ G l) {x0 : Int} {x1 : Int} {Q : Int → jj_H → Prop} {E : String → Nat → jj_H → Prop} {h : jj_H} {k : Nat} (w : fC_X1_isLayout (jj_gk G) x0 x1 Q E h k) : jj_Ct G l yX1_isLayout (ws_ yX1_isLayout cX1_isLayout 2 (some (.boolean))) 1 25 [.inl x0, .inl x1] h k (jc_i Q) E := by
  refine jj_Ct.of (jK_gs J).1 (by decide +kernel) (Nat.le_of_ble_eq_true rfl) rfl (fun X hG hl F M O hnm => ?_)
  subst hG; subst hl
  exact sC_X1_isLayout F M O J hnm (fun r h q => ⟨r, rfl, q⟩) (fun _ _ _ q => q) _ _ _ _ w
theorem hC_X1_isLayout : yX1_isLayout.cls = RX1 ∧ yX1_isLayout.cls ≠ "java/lang/invoke/MethodHandle" ∧ yX1_isLayout.cls ≠ "java/lang/invoke/VarHandle" ∧ (parseMethodDescriptor yX1_isLayout.desc).map (fun d => d.parameters.length) = some 2 := by decide +kernel
/-! X14_init()V -/
def fC_X14_init (gk : Nat → Nat) (x0 : Option Nat) (Q : jj_H → Prop) (E : String → Nat → jj_H → Prop) (h : jj_H) (k : Nat) : Prop :=
  jq_J4_init_3 x0 none none 0 0 (fun h1 k2 =>
  Q h1) h k
theorem sC_X14_init {X : jj_X} {N : Option jj_AV → jj_H → Prop} {XN : String → Nat → jj_H → Prop} (F : jj_F X RX14 cX14_init 1) (M : jj_M X (none) 13 624 N XN) (O : jj_no X) (J : jj_GJ X.1 X.2.2.1) (hi : X.2.2.2.2.2.2.2.2.2.1.name = yX14_init.name) {Q : jj_H → Prop} {E : String → Nat → jj_H → Prop} (hQ : ∀ h, Q h → N none h) (hE : ∀ e q h, E e q h → XN e q h) (x0 : Option Nat) : ∀ (h : jj_H) (k : Nat), fC_X14_init (jj_gk X.1) x0 Q E h k → jj_J X 1 0 [(0, .inr (.inr (.inl x0)))] [] h k := by
  intro h k w
  unfold fC_X14_init at w
  refine jr_aload_n (pc := 0) F (j := 0) dX14_init_0 rfl ?_
  refine jr_null (pc := 1) F dX14_init_1 ?_
  refine jr_null (pc := 2) F dX14_init_2 ?_
  refine jr_iconst (pc := 3) F dX14_init_3 ?_
  refine jr_iconst (pc := 4) F dX14_init_4 ?_
  refine jr_jI (pc := 5) (As := [_, _, _, _]) F M q2756 q2445 q126 q2446 dX14_init_5 rfl hj_J4_init_3.2 rfl (Nat.le_of_ble_eq_true rfl) (Nat.le_of_ble_eq_true rfl) (Nat.le_of_ble_eq_true rfl) (jK_J4_init_3 J _ _ _ _ _ _ _ _ w) (fun v9 h1 k2 q9 => ?_)
  obtain ⟨rfl, w⟩ := q9
  exact jr_vret (pc := 8) F M dX14_init_8 (hQ _ w)

theorem cC_X14_init {G : jj_G} {l : Launch} (J : jj_GJ G l) {x0 : Option Nat} {Q : jj_H → Prop} {E : String → Nat → jj_H → Prop} {h : jj_H} {k : Nat} (w : fC_X14_init (jj_gk G) x0 Q E h k) : jj_Ct G l yX14_init (ws_ yX14_init cX14_init 1 (none)) 13 624 [.inr (.inr (.inl x0))] h k (jc_v Q) E := by
  refine jj_Ct.of (jK_gs J).1 (by decide +kernel) (Nat.le_of_ble_eq_true rfl) rfl (fun X hG hl F M O hnm => ?_)
  subst hG; subst hl
  exact sC_X14_init F M O J hnm (fun h q => ⟨rfl, q⟩) (fun _ _ _ q => q) _ _ _ w
theorem hC_X14_init : yX14_init.cls = RX14 ∧ yX14_init.cls ≠ "java/lang/invoke/MethodHandle" ∧ yX14_init.cls ≠ "java/lang/invoke/VarHandle" ∧ (parseMethodDescriptor yX14_init.desc).map (fun d => d.parameters.length) = some 0 := by decide +kernel
/-! X1_read(II)Ljava/util/ArrayList; -/
def fC_X1_read_j102 (gk : Nat → Nat) (Q : Option Nat → jj_H → Prop) (E : String → Nat → jj_H → Prop) (h : jj_H) (k : Nat) : Prop :=
  jp_nw h k 12 2 df_X8 (fun a1 h2 k3 =>
  jp_so (some a1) ∧ fC_X8_init gk (some a1) (fun h6 =>
  jp_th h6 (some a1) 12 (fun q9 => E "NoteImporter$WordException" q9 h6)) E h2 0)
def fC_X1_read_j55 (gk : Nat → Nat) (K21 : Int → jj_H → Nat → Prop) (x0 : Option Nat) (x1 : Int) (x2 : Int) (x3 : Option Nat) (x4 : Option Nat) (x5 : Int) (y0 : Int) (Q : Option Nat → jj_H → Prop) (E : String → Nat → jj_H → Prop) (h : jj_H) (k : Nat) : Prop :=
  fC_X1_isBetween gk (jj_i2l y0) 97 122 (fun r8 h9 =>
  jj_r r8 ∧ (r8 = 0 → (
    fC_X1_isBlank gk y0 (fun r11 h12 =>
    jj_r r11 ∧ (r11 = 0 → (
      fC_X1_read_j102 gk Q E h12 k)) ∧
    (¬ r11 = 0 → (
      jq_J8_length x4 (fun r15 h13 k14 =>
      jj_r r15 ∧ (r15 ≤ 8 → (
        jq_J8_length x4 (fun r18 h16 k17 =>
        jj_r r18 ∧ (r18 ≤ 0 → (
          ∀ v19, v19 = x5 + 1 →
          K21 v19 h16 k17)) ∧
        (¬ r18 ≤ 0 → (
          jq_J8_toString x4 (fun r22 h20 k21 =>
          jq_J2_add x3 r22 (fun r25 h23 k24 =>
          jq_J8_setLength x4 0 (fun h26 k27 =>
          ∀ v28, v28 = x5 + 1 →
          K21 v28 h26 k27) h23 k24) h20 k21) h16 k17))) h13 k14)) ∧
      (¬ r15 ≤ 8 → (
        fC_X1_read_j102 gk Q E h13 k14))) h12 k))) E h9 0)) ∧
  (¬ r8 = 0 → (
    jq_J8_append_3 x4 (jj_i2c y0) (fun r31 h29 k30 =>
    ∀ v32, v32 = x5 + 1 →
    K21 v32 h29 k30) h9 k))) E h 0
def fC_X1_read_l21 (gk : Nat → Nat) (x0 : Option Nat) (x1 : Int) (x2 : Int) (x3 : Option Nat) (x4 : Option Nat) (Q : Option Nat → jj_H → Prop) (E : String → Nat → jj_H → Prop) : Nat → Int → jj_H → Nat → Prop
  | 0, _, _, _ => False
  | n + 1, x5, h, k =>
  jp_gi h x0 1 4 (fun g33 =>
  jj_r x5 ∧ jj_r g33 ∧ (g33 < x5 → (
    jq_J2_size x3 (fun r36 h34 k35 =>
    fC_X1_isBetween gk (jj_i2l r36) (jj_i2l x1) (jj_i2l x2) (fun r38 h39 =>
    jj_r r38 ∧ (¬ r38 = 0 → (
      Q x3 h39)) ∧
    (r38 = 0 → (
      jp_nw h39 k35 13 2 df_X14 (fun a40 h41 k42 =>
      jp_so (some a40) ∧ fC_X14_init gk (some a40) (fun h45 =>
      jp_th h45 (some a40) 13 (fun q9 => E "NoteImporter$CountException" q9 h45)) E h41 0)))) E h34 0) h k)) ∧
  (¬ g33 < x5 → (
    jp_gi h x0 1 4 (fun g46 =>
    jj_r x5 ∧ jj_r g46 ∧ (g46 ≤ x5 → (
      fC_X1_read_j55 gk (fC_X1_read_l21 gk x0 x1 x2 x3 x4 Q E n) x0 x1 x2 x3 x4 x5 32 Q E h k)) ∧
    (¬ g46 ≤ x5 → (
      jp_gr h x0 1 3 (fun g47 =>
      jp_al h g47 2 x5 (fun g48 =>
      fC_X1_read_j55 gk (fC_X1_read_l21 gk x0 x1 x2 x3 x4 Q E n) x0 x1 x2 x3 x4 x5 (jj_and g48 255) Q E h k))))))))
def fC_X1_read (gk : Nat → Nat) (x0 : Option Nat) (x1 : Int) (x2 : Int) (Q : Option Nat → jj_H → Prop) (E : String → Nat → jj_H → Prop) (h : jj_H) (k : Nat) : Prop :=
  jp_nw h k 14 1 df_J2 (fun a49 h50 k51 =>
  jq_J2_init (some a49) 4 (fun h52 k53 =>
  jp_nw h52 k53 26 1 df_J8 (fun a54 h55 k56 =>
  jq_J8_init (some a54) (fun h57 k58 =>
  ∃ n9, fC_X1_read_l21 gk x0 x1 x2 (some a49) (some a54) Q E n9 0 h57 k58) h55 k56)) h50 k51)
theorem sC_X1_read_j102 {X : jj_X} {N : Option jj_AV → jj_H → Prop} {XN : String → Nat → jj_H → Prop} (F : jj_F X RX1 cX1_read 7) (M : jj_M X (some ((.object "java/util/ArrayList"))) 14 644 N XN) (O : jj_no X) (J : jj_GJ X.1 X.2.2.1) (hi : X.2.2.2.2.2.2.2.2.2.1.name = yX1_read.name) {Q : Option Nat → jj_H → Prop} {E : String → Nat → jj_H → Prop} (hQ : ∀ r h, Q r h → N (some (.inr (.inr (.inl r)))) h) (hE : ∀ e q h, E e q h → XN e q h) : ∀ (h : jj_H) (k : Nat), fC_X1_read_j102 (jj_gk X.1) Q E h k → jj_J X 7 102 [] [] h k := by
  intro h k w
  unfold fC_X1_read_j102 at w
  refine jr_new (pc := 102) (ci := 12) F rfl in_X8 tyX8_ok q2661 q2481 q174 dfo_X8 rfl ⟨by decide, by decide⟩ dX1_read_102 w (fun a1 h2 k3 w => ?_)
  refine jr_dup (pc := 105) F dX1_read_105 rfl ?_
  obtain ⟨hi9, w⟩ := w
  refine jr_cI (pc := 106) (As := []) F M q2674 q2490 q174 q2491 dX1_read_106 rfl hC_X8_init.2 rfl (Nat.le_of_ble_eq_true rfl) (Nat.le_of_ble_eq_true rfl) (Nat.le_of_ble_eq_true rfl) hi9 (Nat.zero_le _) (cC_X8_init J w) (fun v9 h6 q9 => ?_) (fun E9 q9 h9 w9 => jr_out F M O (hE _ _ _ w9))
  obtain ⟨rfl, w⟩ := q9
  refine jr_thr (pc := 109) (ci := 12) F rfl dX1_read_109 w (fun q9 w => ?_)
  exact jr_out F M O (hE _ _ _ w)

theorem sC_X1_read_j55 {X : jj_X} {N : Option jj_AV → jj_H → Prop} {XN : String → Nat → jj_H → Prop} (F : jj_F X RX1 cX1_read 7) (M : jj_M X (some ((.object "java/util/ArrayList"))) 14 644 N XN) (O : jj_no X) (J : jj_GJ X.1 X.2.2.1) (hi : X.2.2.2.2.2.2.2.2.2.1.name = yX1_read.name) {Q : Option Nat → jj_H → Prop} {E : String → Nat → jj_H → Prop} (hQ : ∀ r h, Q r h → N (some (.inr (.inr (.inl r)))) h) (hE : ∀ e q h, E e q h → XN e q h) (x0 : Option Nat) (x1 : Int) (x2 : Int) (x3 : Option Nat) (x4 : Option Nat) (x5 : Int) (y0 : Int) {K21 : Int → jj_H → Nat → Prop} (hK21 : ∀ (z5 : Int) (h : jj_H) (k : Nat), K21 z5 h k → jj_J X 7 21 [(0, .inr (.inr (.inl x0))), (1, .inl x1), (2, .inl x2), (3, .inr (.inr (.inl x3))), (4, .inr (.inr (.inl x4))), (5, .inl z5)] [] h k) : ∀ (h : jj_H) (k : Nat), fC_X1_read_j55 (jj_gk X.1) K21 x0 x1 x2 x3 x4 x5 y0 Q E h k → jj_J X 7 55 [(0, .inr (.inr (.inl x0))), (1, .inl x1), (2, .inl x2), (3, .inr (.inr (.inl x3))), (4, .inr (.inr (.inl x4))), (5, .inl x5)] [.inl y0] h k := by
  intro h k w
  unfold fC_X1_read_j55 at w
  refine jr_istore (pc := 55) F (vs' := [(6, .inl _), (0, .inr (.inr (.inl _))), (1, .inl _), (2, .inl _), (3, .inr (.inr (.inl _))), (4, .inr (.inr (.inl _))), (5, .inl _)]) dX1_read_55 (Nat.le_of_ble_eq_true rfl) rfl ?_
  refine jr_iload (pc := 57) F (j := 0) dX1_read_57 rfl ?_
  refine jr_i2l (pc := 59) F dX1_read_59 ?_
  refine jr_ldc2 (pc := 60) F (x := 97) q2669 dX1_read_60 (by decide +kernel) ?_
  refine jr_ldc2 (pc := 63) F (x := 122) q2670 dX1_read_63 (by decide +kernel) ?_
  refine jr_callS (pc := 66) (As := [_, _, _]) F M (lw_S q2630 q1678 q120 q1679) dX1_read_66 hC_X1_isBetween.2 rfl (Nat.le_of_ble_eq_true rfl) (Nat.le_of_ble_eq_true rfl) (Nat.le_of_ble_eq_true rfl) (Nat.zero_le _) (cC_X1_isBetween J w) (fun v9 h9 q9 => ?_) (fun E9 q9 h9 w9 => jr_out F M O (hE _ _ _ w9))
  obtain ⟨r8, rfl, w⟩ := q9
  obtain ⟨hx9, w1, w2⟩ := w
  refine jr_if_eq (pc := 69) (tgt := 84) F hx9 dX1_read_69 rfl (fun c9 => ?_) (fun c9 => ?_)
  · have w := w1 c9
    refine jr_iload (pc := 84) F (j := 0) dX1_read_84 rfl ?_
    refine jr_callS (pc := 86) (As := [_]) F M (lw_S q2672 q2352 q120 q2353) dX1_read_86 hC_X1_isBlank.2 rfl (Nat.le_of_ble_eq_true rfl) (Nat.le_of_ble_eq_true rfl) (Nat.le_of_ble_eq_true rfl) (Nat.zero_le _) (cC_X1_isBlank J w) (fun v9 h12 q9 => ?_) (fun E9 q9 h9 w9 => jr_out F M O (hE _ _ _ w9))
    obtain ⟨r11, rfl, w⟩ := q9
    obtain ⟨hx9, w1, w2⟩ := w
    refine jr_if_eq (pc := 89) (tgt := 102) F hx9 dX1_read_89 rfl (fun c9 => ?_) (fun c9 => ?_)
    · have w := w1 c9
      refine jj_J.sub [] rfl ?_
      exact sC_X1_read_j102 F M O J hi hQ hE _ _ w
    · have w := w2 c9
      refine jr_aload (pc := 92) F (j := 5) dX1_read_92 rfl ?_
      refine jr_jV (pc := 94) (As := []) (ci := 26) F M (lw_V q2673 q463 q3781 q130 q464) dX1_read_94 hj_J8_length rfl (Nat.le_of_ble_eq_true rfl) (Nat.le_of_ble_eq_true rfl) (Nat.le_of_ble_eq_true rfl) rfl (jK_J8_length J _ _ _ _ w) (fun v9 h13 k14 q9 => ?_)
      obtain ⟨r15, rfl, w⟩ := q9
      refine jr_bipush (pc := 97) F dX1_read_97 (by decide +kernel) ?_
      obtain ⟨hx9, w1, w2⟩ := w
      refine jr_icmp_le (pc := 99) (tgt := 110) F hx9 ⟨by decide, by decide⟩ dX1_read_99 rfl (fun c9 => ?_) (fun c9 => ?_)
      · have w := w1 c9
        refine jr_aload (pc := 110) F (j := 5) dX1_read_110 rfl ?_
        refine jr_jV (pc := 112) (As := []) (ci := 26) F M (lw_V q2673 q463 q3781 q130 q464) dX1_read_112 hj_J8_length rfl (Nat.le_of_ble_eq_true rfl) (Nat.le_of_ble_eq_true rfl) (Nat.le_of_ble_eq_true rfl) rfl (jK_J8_length J _ _ _ _ w) (fun v9 h16 k17 q9 => ?_)
        obtain ⟨r18, rfl, w⟩ := q9
        obtain ⟨hx9, w1, w2⟩ := w
        refine jr_if_le (pc := 115) (tgt := 134) F hx9 dX1_read_115 rfl (fun c9 => ?_) (fun c9 => ?_)
        · have w := w1 c9
          have w := w _ rfl
          refine jr_iinc (pc := 134) F (j := 6) (vs' := [(5, .inl _), (6, .inl _), (0, .inr (.inr (.inl _))), (1, .inl _), (2, .inl _), (3, .inr (.inr (.inl _))), (4, .inr (.inr (.inl _)))]) dX1_read_134 rfl rfl (Nat.le_of_ble_eq_true rfl) rfl ?_
          refine jr_goto (pc := 137) (tgt := 21) F dX1_read_137 rfl ?_
          refine jj_J.sub [2, 3, 4, 5, 6, 0] rfl ?_
          exact hK21 _ _ _ w
        · have w := w2 c9
          refine jr_aload_n (pc := 118) F (j := 4) dX1_read_118 rfl ?_
          refine jr_aload (pc := 119) F (j := 5) dX1_read_119 rfl ?_
          refine jr_jV (pc := 121) (As := []) (ci := 26) F M (lw_V q2675 q442 q443 q130 q444) dX1_read_121 hj_J8_toString rfl (Nat.le_of_ble_eq_true rfl) (Nat.le_of_ble_eq_true rfl) (Nat.le_of_ble_eq_true rfl) rfl (jK_J8_toString J _ _ _ _ w) (fun v9 h20 k21 q9 => ?_)
          obtain ⟨r22, rfl, w⟩ := q9
          refine jr_jV (pc := 124) (As := [_]) (ci := 14) F M (lw_V q2676 q820 q821 q124 q822) dX1_read_124 hj_J2_add rfl (Nat.le_of_ble_eq_true rfl) (Nat.le_of_ble_eq_true rfl) (Nat.le_of_ble_eq_true rfl) rfl (jK_J2_add J _ _ _ _ _ w) (fun v9 h23 k24 q9 => ?_)
          obtain ⟨r25, rfl, w⟩ := q9
          refine jr_pop (pc := 127) F dX1_read_127 rfl ?_
          refine jr_aload (pc := 128) F (j := 5) dX1_read_128 rfl ?_
          refine jr_iconst (pc := 130) F dX1_read_130 ?_
          refine jr_jV (pc := 131) (As := [_]) (ci := 26) F M (lw_V q2677 q2678 q2679 q130 q2680) dX1_read_131 hj_J8_setLength rfl (Nat.le_of_ble_eq_true rfl) (Nat.le_of_ble_eq_true rfl) (Nat.le_of_ble_eq_true rfl) rfl (jK_J8_setLength J _ _ _ _ _ w) (fun v9 h26 k27 q9 => ?_)
          obtain ⟨rfl, w⟩ := q9
          have w := w _ rfl
          refine jr_iinc (pc := 134) F (j := 6) (vs' := [(5, .inl _), (6, .inl _), (0, .inr (.inr (.inl _))), (1, .inl _), (2, .inl _), (3, .inr (.inr (.inl _))), (4, .inr (.inr (.inl _)))]) dX1_read_134 rfl rfl (Nat.le_of_ble_eq_true rfl) rfl ?_
          refine jr_goto (pc := 137) (tgt := 21) F dX1_read_137 rfl ?_
          refine jj_J.sub [2, 3, 4, 5, 6, 0] rfl ?_
          exact hK21 _ _ _ w
      · have w := w2 c9
        refine jj_J.sub [] rfl ?_
        exact sC_X1_read_j102 F M O J hi hQ hE _ _ w
  · have w := w2 c9
    refine jr_aload (pc := 72) F (j := 5) dX1_read_72 rfl ?_
    refine jr_iload (pc := 74) F (j := 0) dX1_read_74 rfl ?_
    refine jr_i2c (pc := 76) F dX1_read_76 ?_
    refine jr_jV (pc := 77) (As := [_]) (ci := 26) F M (lw_V q2671 q2364 q2365 q130 q2366) dX1_read_77 hj_J8_append_3 rfl (Nat.le_of_ble_eq_true rfl) (Nat.le_of_ble_eq_true rfl) (Nat.le_of_ble_eq_true rfl) rfl (jK_J8_append_3 J _ _ _ _ _ w) (fun v9 h29 k30 q9 => ?_)
    obtain ⟨r31, rfl, w⟩ := q9
    refine jr_pop (pc := 80) F dX1_read_80 rfl ?_
    refine jr_goto (pc := 81) (tgt := 134) F dX1_read_81 rfl ?_
    have w := w _ rfl
    refine jr_iinc (pc := 134) F (j := 6) (vs' := [(5, .inl _), (6, .inl _), (0, .inr (.inr (.inl _))), (1, .inl _), (2, .inl _), (3, .inr (.inr (.inl _))), (4, .inr (.inr (.inl _)))]) dX1_read_134 rfl rfl (Nat.le_of_ble_eq_true rfl) rfl ?_
    refine jr_goto (pc := 137) (tgt := 21) F dX1_read_137 rfl ?_
    refine jj_J.sub [2, 3, 4, 5, 6, 0] rfl ?_
    exact hK21 _ _ _ w

theorem sC_X1_read_l21 {X : jj_X} {N : Option jj_AV → jj_H → Prop} {XN : String → Nat → jj_H → Prop} (F : jj_F X RX1 cX1_read 7) (M : jj_M X (some ((.object "java/util/ArrayList"))) 14 644 N XN) (O : jj_no X) (J : jj_GJ X.1 X.2.2.1) (hi : X.2.2.2.2.2.2.2.2.2.1.name = yX1_read.name) {Q : Option Nat → jj_H → Prop} {E : String → Nat → jj_H → Prop} (hQ : ∀ r h, Q r h → N (some (.inr (.inr (.inl r)))) h) (hE : ∀ e q h, E e q h → XN e q h) (x0 : Option Nat) (x1 : Int) (x2 : Int) (x3 : Option Nat) (x4 : Option Nat) : ∀ (n : Nat) (x5 : Int) (h : jj_H) (k : Nat), fC_X1_read_l21 (jj_gk X.1) x0 x1 x2 x3 x4 Q E n x5 h k → jj_J X 7 21 [(0, .inr (.inr (.inl x0))), (1, .inl x1), (2, .inl x2), (3, .inr (.inr (.inl x3))), (4, .inr (.inr (.inl x4))), (5, .inl x5)] [] h k := by
  intro n
  induction n with
  | zero =>
    intro x5 h k w
    exact (show False from w).elim
  | succ n ih =>
    intro x5 h k w
    rw [fC_X1_read_l21] at w
    refine jr_iload (pc := 21) F (j := 5) dX1_read_21 rfl ?_
    refine jr_aload_n (pc := 23) F (j := 0) dX1_read_23 rfl ?_
    refine jr_gi (pc := 24) (ci := 1) (f := 4) F rfl in_X1 (Nat.le_of_ble_eq_true rfl) q630 dX1_read_24 w (fun g33 w => ?_)
    obtain ⟨hx9, hy9, w1, w2⟩ := w
    refine jr_icmp_gt (pc := 27) (tgt := 140) F hx9 hy9 dX1_read_27 rfl (fun c9 => ?_) (fun c9 => ?_)
    · have w := w1 c9
      refine jr_aload_n (pc := 140) F (j := 3) dX1_read_140 rfl ?_
      refine jr_jV (pc := 141) (As := []) (ci := 14) F M (lw_V q1646 q676 q677 q124 q678) dX1_read_141 hj_J2_size rfl (Nat.le_of_ble_eq_true rfl) (Nat.le_of_ble_eq_true rfl) (Nat.le_of_ble_eq_true rfl) rfl (jK_J2_size J _ _ _ _ w) (fun v9 h34 k35 q9 => ?_)
      obtain ⟨r36, rfl, w⟩ := q9
      refine jr_i2l (pc := 144) F dX1_read_144 ?_
      refine jr_iload_n (pc := 145) F (j := 1) dX1_read_145 rfl ?_
      refine jr_i2l (pc := 146) F dX1_read_146 ?_
      refine jr_iload_n (pc := 147) F (j := 2) dX1_read_147 rfl ?_
      refine jr_i2l (pc := 148) F dX1_read_148 ?_
      refine jr_callS (pc := 149) (As := [_, _, _]) F M (lw_S q2630 q1678 q120 q1679) dX1_read_149 hC_X1_isBetween.2 rfl (Nat.le_of_ble_eq_true rfl) (Nat.le_of_ble_eq_true rfl) (Nat.le_of_ble_eq_true rfl) (Nat.zero_le _) (cC_X1_isBetween J w) (fun v9 h39 q9 => ?_) (fun E9 q9 h9 w9 => jr_out F M O (hE _ _ _ w9))
      obtain ⟨r38, rfl, w⟩ := q9
      obtain ⟨hx9, w1, w2⟩ := w
      refine jr_if_ne (pc := 152) (tgt := 163) F hx9 dX1_read_152 rfl (fun c9 => ?_) (fun c9 => ?_)
      · have w := w1 c9
        refine jr_aload_n (pc := 163) F (j := 3) dX1_read_163 rfl ?_
        exact jr_aret (pc := 164) F M (Or.inl ⟨_, rfl⟩) dX1_read_164 (hQ _ _ w)
      · have w := w2 c9
        refine jr_new (pc := 155) (ci := 13) F rfl in_X14 tyX14_ok q2662 q2745 q184 dfo_X14 rfl ⟨by decide, by decide⟩ dX1_read_155 w (fun a40 h41 k42 w => ?_)
        refine jr_dup (pc := 158) F dX1_read_158 rfl ?_
        obtain ⟨hi9, w⟩ := w
        refine jr_cI (pc := 159) (As := []) F M q2753 q2754 q184 q2755 dX1_read_159 rfl hC_X14_init.2 rfl (Nat.le_of_ble_eq_true rfl) (Nat.le_of_ble_eq_true rfl) (Nat.le_of_ble_eq_true rfl) hi9 (Nat.zero_le _) (cC_X14_init J w) (fun v9 h45 q9 => ?_) (fun E9 q9 h9 w9 => jr_out F M O (hE _ _ _ w9))
        obtain ⟨rfl, w⟩ := q9
        refine jr_thr (pc := 162) (ci := 13) F rfl dX1_read_162 w (fun q9 w => ?_)
        exact jr_out F M O (hE _ _ _ w)
    · have w := w2 c9
      refine jr_iload (pc := 30) F (j := 5) dX1_read_30 rfl ?_
      refine jr_aload_n (pc := 32) F (j := 0) dX1_read_32 rfl ?_
      refine jr_gi (pc := 33) (ci := 1) (f := 4) F rfl in_X1 (Nat.le_of_ble_eq_true rfl) q630 dX1_read_33 w (fun g46 w => ?_)
      obtain ⟨hx9, hy9, w1, w2⟩ := w
      refine jr_icmp_ge (pc := 36) (tgt := 53) F hx9 hy9 dX1_read_36 rfl (fun c9 => ?_) (fun c9 => ?_)
      · have w := w1 c9
        refine jr_bipush (pc := 53) F dX1_read_53 (by decide +kernel) ?_
        exact sC_X1_read_j55 F M O J hi hQ hE _ _ _ _ _ _ _ ih _ _ w
      · have w := w2 c9
        refine jr_aload_n (pc := 39) F (j := 0) dX1_read_39 rfl ?_
        refine jr_gr (pc := 40) (ci := 1) (f := 3) F rfl in_X1 (Nat.le_of_ble_eq_true rfl) q629 dX1_read_40 w (fun g47 w => ?_)
        refine jr_iload (pc := 43) F (j := 5) dX1_read_43 rfl ?_
        refine jr_bald (pc := 45) F dX1_read_45 w (fun g48 w => ?_)
        refine jr_sipush (pc := 46) F dX1_read_46 (by decide +kernel) ?_
        refine jr_iand (pc := 49) F dX1_read_49 ?_
        refine jr_goto (pc := 50) (tgt := 55) F dX1_read_50 rfl ?_
        exact sC_X1_read_j55 F M O J hi hQ hE _ _ _ _ _ _ _ ih _ _ w

theorem sC_X1_read {X : jj_X} {N : Option jj_AV → jj_H → Prop} {XN : String → Nat → jj_H → Prop} (F : jj_F X RX1 cX1_read 7) (M : jj_M X (some ((.object "java/util/ArrayList"))) 14 644 N XN) (O : jj_no X) (J : jj_GJ X.1 X.2.2.1) (hi : X.2.2.2.2.2.2.2.2.2.1.name = yX1_read.name) {Q : Option Nat → jj_H → Prop} {E : String → Nat → jj_H → Prop} (hQ : ∀ r h, Q r h → N (some (.inr (.inr (.inl r)))) h) (hE : ∀ e q h, E e q h → XN e q h) (x0 : Option Nat) (x1 : Int) (x2 : Int) : ∀ (h : jj_H) (k : Nat), fC_X1_read (jj_gk X.1) x0 x1 x2 Q E h k → jj_J X 7 0 [(0, .inr (.inr (.inl x0))), (1, .inl x1), (2, .inl x2)] [] h k := by
  intro h k w
  unfold fC_X1_read at w
  refine jr_new (pc := 0) (ci := 14) F rfl in_J2 tyJ2_ok q2667 q201 q124 dfo_J2 rfl ⟨by decide, by decide⟩ dX1_read_0 w (fun a49 h50 k51 w => ?_)
  refine jr_dup (pc := 3) F dX1_read_3 rfl ?_
  refine jr_iconst (pc := 4) F dX1_read_4 ?_
  refine jr_jI (pc := 5) (As := [_]) F M q2668 q203 q124 q204 dX1_read_5 rfl hj_J2_init.2 rfl (Nat.le_of_ble_eq_true rfl) (Nat.le_of_ble_eq_true rfl) (Nat.le_of_ble_eq_true rfl) (jK_J2_init J _ _ _ _ _ w) (fun v9 h52 k53 q9 => ?_)
  obtain ⟨rfl, w⟩ := q9
  refine jr_astore_n (pc := 8) F (vs' := [(3, .inr (.inr (.inl _))), (0, .inr (.inr (.inl _))), (1, .inl _), (2, .inl _)]) dX1_read_8 (Nat.le_of_ble_eq_true rfl) rfl ?_
  refine jr_new (pc := 9) (ci := 26) F rfl in_J8 tyJ8_ok q623 q263 q130 dfo_J8 rfl ⟨by decide, by decide⟩ dX1_read_9 w (fun a54 h55 k56 w => ?_)
  refine jr_dup (pc := 12) F dX1_read_12 rfl ?_
  refine jr_jI (pc := 13) (As := []) F M q624 q265 q130 q266 dX1_read_13 rfl hj_J8_init.2 rfl (Nat.le_of_ble_eq_true rfl) (Nat.le_of_ble_eq_true rfl) (Nat.le_of_ble_eq_true rfl) (jK_J8_init J _ _ _ _ w) (fun v9 h57 k58 q9 => ?_)
  obtain ⟨rfl, w⟩ := q9
  refine jr_astore (pc := 16) F (vs' := [(4, .inr (.inr (.inl _))), (3, .inr (.inr (.inl _))), (0, .inr (.inr (.inl _))), (1, .inl _), (2, .inl _)]) dX1_read_16 (Nat.le_of_ble_eq_true rfl) rfl ?_
  refine jr_iconst (pc := 18) F dX1_read_18 ?_
  refine jr_istore (pc := 19) F (vs' := [(5, .inl _), (4, .inr (.inr (.inl _))), (3, .inr (.inr (.inl _))), (0, .inr (.inr (.inl _))), (1, .inl _), (2, .inl _)]) dX1_read_19 (Nat.le_of_ble_eq_true rfl) rfl ?_
  refine jj_J.sub [3, 4, 5, 2, 1, 0] rfl ?_
  obtain ⟨n9, w⟩ := w
  exact sC_X1_read_l21 F M O J hi hQ hE _ _ _ _ _ n9 _ _ _ w

theorem cC_X1_read {G : jj_G} {l : Launch} (J : jj_GJ G l) {x0 : Option Nat} {x1 : Int} {x2 : Int} {Q : Option Nat → jj_H → Prop} {E : String → Nat → jj_H → Prop} {h : jj_H} {k : Nat} (w : fC_X1_read (jj_gk G) x0 x1 x2 Q E h k) : jj_Ct G l yX1_read (ws_ yX1_read cX1_read 7 (some ((.object "java/util/ArrayList")))) 14 644 [.inr (.inr (.inl x0)), .inl x1, .inl x2] h k (jc_r Q) E := by
  refine jj_Ct.of (jK_gs J).1 (by decide +kernel) (Nat.le_of_ble_eq_true rfl) rfl (fun X hG hl F M O hnm => ?_)
  subst hG; subst hl
  exact sC_X1_read F M O J hnm (fun r h q => ⟨r, rfl, q⟩) (fun _ _ _ q => q) _ _ _ _ _ w
theorem hC_X1_read : yX1_read.cls = RX1 ∧ yX1_read.cls ≠ "java/lang/invoke/MethodHandle" ∧ yX1_read.cls ≠ "java/lang/invoke/VarHandle" ∧ (parseMethodDescriptor yX1_read.desc).map (fun d => d.parameters.length) = some 2 := by decide +kernel
/-! X1_words(II)Ljava/util/ArrayList; -/
def fC_X1_words_j7 (gk : Nat → Nat) (y0 : Option Nat) (Q : Option Nat → jj_H → Prop) (E : String → Nat → jj_H → Prop) (h : jj_H) (k : Nat) : Prop :=
  2 ≤ k ∧ ∀ q9, E "java/lang/IllegalArgumentException" q9 h
def fC_X1_words (gk : Nat → Nat) (x0 : Option Nat) (x1 : Int) (x2 : Int) (Q : Option Nat → jj_H → Prop) (E : String → Nat → jj_H → Prop) (h : jj_H) (k : Nat) : Prop :=
  jp_is h x0 1 ∧ ∃ c1, c1 ≤ k ∧ fC_X1_read gk x0 x1 x2 (fun r2 h3 =>
  Q r2 h3) (fun E9 q9 h9 => (E9 = "NoteImporter$WordException" ∧ fC_X1_words_j7 gk (some q9) Q E h9 (k - c1)) ∨ (E9 = "NoteImporter$CountException" ∧ fC_X1_words_j7 gk (some q9) Q E h9 (k - c1))) h c1
theorem sC_X1_words_j7 {X : jj_X} {N : Option jj_AV → jj_H → Prop} {XN : String → Nat → jj_H → Prop} (F : jj_F X RX1 cX1_words 4) (M : jj_M X (some ((.object "java/util/ArrayList"))) 15 670 N XN) (O : jj_tb X [(0, 6, 7, 117), (0, 6, 7, 131)]) (J : jj_GJ X.1 X.2.2.1) (hi : X.2.2.2.2.2.2.2.2.2.1.name = yX1_words.name) {Q : Option Nat → jj_H → Prop} {E : String → Nat → jj_H → Prop} (hQ : ∀ r h, Q r h → N (some (.inr (.inr (.inl r)))) h) (hE : ∀ e q h, E e q h → XN e q h) (y0 : Option Nat) : ∀ (h : jj_H) (k : Nat), fC_X1_words_j7 (jj_gk X.1) y0 Q E h k → jj_J X 4 7 [] [.inr (.inr (.inl y0))] h k := by
  intro h k w
  unfold fC_X1_words_j7 at w
  refine jr_astore_n (pc := 7) F (vs' := [(3, .inr (.inr (.inl _)))]) dX1_words_7 (Nat.le_of_ble_eq_true rfl) rfl ?_
  exact jr_throw0 (pc := 8) F M (jK_zq J) (jj_tbO O (by decide)) (cls := "java/lang/IllegalArgumentException") (names := ["java/lang/RuntimeException", "java/lang/Exception"]) (by decide +kernel) (by decide +kernel) q2634 q128 at_X1_9 og_X1_9 dX1_words_8 dX1_words_11 dX1_words_12 dX1_words_15 (Nat.le_of_ble_eq_true rfl) (Nat.le_of_ble_eq_true rfl) (Nat.le_of_ble_eq_true rfl) w.1 (fun q9 => hE _ _ _ (w.2 q9))

theorem sC_X1_words {X : jj_X} {N : Option jj_AV → jj_H → Prop} {XN : String → Nat → jj_H → Prop} (F : jj_F X RX1 cX1_words 4) (M : jj_M X (some ((.object "java/util/ArrayList"))) 15 670 N XN) (O : jj_tb X [(0, 6, 7, 117), (0, 6, 7, 131)]) (J : jj_GJ X.1 X.2.2.1) (hi : X.2.2.2.2.2.2.2.2.2.1.name = yX1_words.name) {Q : Option Nat → jj_H → Prop} {E : String → Nat → jj_H → Prop} (hQ : ∀ r h, Q r h → N (some (.inr (.inr (.inl r)))) h) (hE : ∀ e q h, E e q h → XN e q h) (x0 : Option Nat) (x1 : Int) (x2 : Int) : ∀ (h : jj_H) (k : Nat), fC_X1_words (jj_gk X.1) x0 x1 x2 Q E h k → jj_J X 4 0 [(0, .inr (.inr (.inl x0))), (1, .inl x1), (2, .inl x2)] [] h k := by
  intro h k w
  unfold fC_X1_words at w
  refine jr_aload_n (pc := 0) F (j := 0) dX1_words_0 rfl ?_
  refine jr_iload_n (pc := 1) F (j := 1) dX1_words_1 rfl ?_
  refine jr_iload_n (pc := 2) F (j := 2) dX1_words_2 rfl ?_
  obtain ⟨hi9, c1, hk9, w⟩ := w
  refine jr_cV (pc := 3) (As := [_, _]) (ci := 1) F M (lw_V q2663 q2665 qs35 q120 q2666) dX1_words_3 hC_X1_read rfl (Nat.le_of_ble_eq_true rfl) (Nat.le_of_ble_eq_true rfl) (Nat.le_of_ble_eq_true rfl) rfl hi9 hk9 (cC_X1_read J w) (fun v9 h3 q9 => ?_) (fun E9 q9 h9 w9 => ?_)
  · obtain ⟨r2, rfl, w⟩ := q9
    exact jr_aret (pc := 6) F M (Or.inl ⟨_, rfl⟩) dX1_words_6 (hQ _ _ w)
  · rcases w9 with ⟨rfl, w⟩ | ⟨rfl, w⟩
    · refine jr_catch F (jK_nc J) O [] ⟨0, 6, 7, 117⟩ [⟨0, 6, 7, 131⟩] rfl (fun z9 hz9 => nomatch hz9) (by decide) (by decide) q2661 q2482 (tgt := 7) rfl ?_
      refine jj_J.sub [] rfl ?_
      exact sC_X1_words_j7 F M O J hi hQ hE _ _ _ w
    · refine jr_catch F (jK_nc J) O [⟨0, 6, 7, 117⟩] ⟨0, 6, 7, 131⟩ [] rfl (fun z9 hz9 => by simp only [List.mem_cons, List.not_mem_nil, or_false] at hz9; subst hz9; exact Or.inr ⟨by decide, _, q2661, by decide⟩) (by decide) (by decide) q2662 q2746 (tgt := 7) rfl ?_
      refine jj_J.sub [] rfl ?_
      exact sC_X1_words_j7 F M O J hi hQ hE _ _ _ w

theorem cC_X1_words {G : jj_G} {l : Launch} (J : jj_GJ G l) {x0 : Option Nat} {x1 : Int} {x2 : Int} {Q : Option Nat → jj_H → Prop} {E : String → Nat → jj_H → Prop} {h : jj_H} {k : Nat} (w : fC_X1_words (jj_gk G) x0 x1 x2 Q E h k) : jj_Ct G l yX1_words (wsW_ yX1_words cX1_words 4 (some ((.object "java/util/ArrayList"))) [(0, 6, 7, 117), (0, 6, 7, 131)]) 15 670 [.inr (.inr (.inl x0)), .inl x1, .inl x2] h k (jc_r Q) E := by
  refine jj_Ct.ofW (jK_gs J).1 (by decide +kernel) (Nat.le_of_ble_eq_true rfl) rfl (fun X hG hl F M O hnm => ?_)
  subst hG; subst hl
  exact sC_X1_words F M O J hnm (fun r h q => ⟨r, rfl, q⟩) (fun _ _ _ q => q) _ _ _ _ _ w
theorem hC_X1_words : yX1_words.cls = RX1 ∧ yX1_words.cls ≠ "java/lang/invoke/MethodHandle" ∧ yX1_words.cls ≠ "java/lang/invoke/VarHandle" ∧ (parseMethodDescriptor yX1_words.desc).map (fun d => d.parameters.length) = some 2 := by decide +kernel
/-! X1_addEdition(II)I -/
def fC_X1_addEdition_j94 (gk : Nat → Nat) (K55 : jj_H → Nat → Prop) (x0 : Option Nat) (x4 : Option Nat) (x5 : Option Nat) (y0 : Option Nat) (y1 : Option Nat) (y2 : Int) (Q : Int → jj_H → Prop) (E : String → Nat → jj_H → Prop) (h : jj_H) (k : Nat) : Prop :=
  jp_is h y0 3 ∧ ∃ c1, c1 ≤ k ∧ fC_X5_add gk y0 y1 y2 (fun h3 =>
  K55 h3 (k - c1)) E h c1
def fC_X1_addEdition_l55 (gk : Nat → Nat) (x0 : Option Nat) (x4 : Option Nat) (x5 : Option Nat) (Q : Int → jj_H → Prop) (E : String → Nat → jj_H → Prop) : Nat → jj_H → Nat → Prop
  | 0, _, _ => False
  | n + 1, h, k =>
  jq_J21_hasNext x5 (fun r6 h4 k5 =>
  jj_r r6 ∧ (r6 = 0 → (
    jp_is h4 x0 1 ∧ fC_X1_change gk x0 (fun h9 =>
    jp_gr h9 x0 1 0 (fun g10 =>
    jp_is h9 g10 2 ∧ ∃ c11, c11 ≤ k5 ∧ fC_X2_addEdition gk g10 x4 (fun r12 h13 =>
    Q r12 h13) E h9 c11)) E h4 0)) ∧
  (¬ r6 = 0 → (
    jq_J21_next x5 (fun r16 h14 k15 =>
    jp_is h14 r16 25 ∧
    jp_is h14 x4 3 ∧ fC_X5_size gk x4 (fun r18 h19 =>
    jj_r r18 ∧ (¬ r18 = 0 → (
      fC_X1_addEdition_j94 gk (fC_X1_addEdition_l55 gk x0 x4 x5 Q E n) x0 x4 x5 x4 r16 0 Q E h19 k15)) ∧
    (r18 = 0 → (
      fC_X1_addEdition_j94 gk (fC_X1_addEdition_l55 gk x0 x4 x5 Q E n) x0 x4 x5 x4 r16 1 Q E h19 k15))) E h14 0) h4 k5))) h k
def fC_X1_addEdition_j35 (gk : Nat → Nat) (x0 : Option Nat) (x1 : Int) (x2 : Int) (x3 : Option Nat) (y0 : Int) (Q : Int → jj_H → Prop) (E : String → Nat → jj_H → Prop) (h : jj_H) (k : Nat) : Prop :=
  ∃ c20, c20 ≤ k ∧ fC_X1_checkState gk y0 (fun h22 =>
  jp_nw h22 (k - c20) 3 2 df_X5 (fun a23 h24 k25 =>
  jp_so (some a23) ∧ ∃ c26, c26 ≤ k25 ∧ fC_X5_init gk (some a23) x1 x2 (fun h28 =>
  jq_J2_iterator x3 (fun r31 h29 k30 =>
  ∃ n9, fC_X1_addEdition_l55 gk x0 (some a23) r31 Q E n9 h29 k30) h28 (k25 - c26)) E h24 c26)) E h c20
def fC_X1_addEdition (gk : Nat → Nat) (x0 : Option Nat) (x1 : Int) (x2 : Int) (Q : Int → jj_H → Prop) (E : String → Nat → jj_H → Prop) (h : jj_H) (k : Nat) : Prop :=
  fC_X1_isLayout gk x1 x2 (fun r33 h34 =>
  ∃ c35, c35 ≤ k ∧ fC_X1_checkArgument gk r33 (fun h37 =>
  jp_is h37 x0 1 ∧ ∃ c38, c38 ≤ (k - c35) ∧ fC_X1_words gk x0 1 120 (fun r39 h40 =>
  jp_gr h40 x0 1 0 (fun g41 =>
  jp_gr h40 g41 2 0 (fun g42 =>
  jq_J2_size g42 (fun r45 h43 k44 =>
  jj_r r45 ∧ (3 ≤ r45 → (
    fC_X1_addEdition_j35 gk x0 x1 x2 r39 0 Q E h43 k44)) ∧
  (¬ 3 ≤ r45 → (
    fC_X1_addEdition_j35 gk x0 x1 x2 r39 1 Q E h43 k44))) h40 ((k - c35) - c38)))) E h37 c38) E h34 c35) E h 0
theorem sC_X1_addEdition_j94 {X : jj_X} {N : Option jj_AV → jj_H → Prop} {XN : String → Nat → jj_H → Prop} (F : jj_F X RX1 cX1_addEdition 7) (M : jj_M X (some (.int)) 16 693 N XN) (O : jj_no X) (J : jj_GJ X.1 X.2.2.1) (hi : X.2.2.2.2.2.2.2.2.2.1.name = yX1_addEdition.name) {Q : Int → jj_H → Prop} {E : String → Nat → jj_H → Prop} (hQ : ∀ r h, Q r h → N (some (.inl r)) h) (hE : ∀ e q h, E e q h → XN e q h) (x0 : Option Nat) (x4 : Option Nat) (x5 : Option Nat) (y0 : Option Nat) (y1 : Option Nat) (y2 : Int) {K55 : jj_H → Nat → Prop} (hK55 : ∀ (h : jj_H) (k : Nat), K55 h k → jj_J X 7 55 [(0, .inr (.inr (.inl x0))), (4, .inr (.inr (.inl x4))), (5, .inr (.inr (.inl x5)))] [] h k) : ∀ (h : jj_H) (k : Nat), fC_X1_addEdition_j94 (jj_gk X.1) K55 x0 x4 x5 y0 y1 y2 Q E h k → jj_J X 7 94 [(0, .inr (.inr (.inl x0))), (4, .inr (.inr (.inl x4))), (5, .inr (.inr (.inl x5)))] [.inl y2, .inr (.inr (.inl y1)), .inr (.inr (.inl y0))] h k := by
  intro h k w
  unfold fC_X1_addEdition_j94 at w
  obtain ⟨hi9, c1, hk9, w⟩ := w
  refine jr_cV (pc := 94) (As := [_, _]) (ci := 3) F M (lw_V q2762 q2497 q2498 q149 q2499) dX1_addEdition_94 hC_X5_add rfl (Nat.le_of_ble_eq_true rfl) (Nat.le_of_ble_eq_true rfl) (Nat.le_of_ble_eq_true rfl) rfl hi9 hk9 (cC_X5_add J w) (fun v9 h3 q9 => ?_) (fun E9 q9 h9 w9 => jr_out F M O (hE _ _ _ w9))
  obtain ⟨rfl, w⟩ := q9
  refine jr_goto (pc := 97) (tgt := 55) F dX1_addEdition_97 rfl ?_
  exact hK55 _ _ w

theorem sC_X1_addEdition_l55 {X : jj_X} {N : Option jj_AV → jj_H → Prop} {XN : String → Nat → jj_H → Prop} (F : jj_F X RX1 cX1_addEdition 7) (M : jj_M X (some (.int)) 16 693 N XN) (O : jj_no X) (J : jj_GJ X.1 X.2.2.1) (hi : X.2.2.2.2.2.2.2.2.2.1.name = yX1_addEdition.name) {Q : Int → jj_H → Prop} {E : String → Nat → jj_H → Prop} (hQ : ∀ r h, Q r h → N (some (.inl r)) h) (hE : ∀ e q h, E e q h → XN e q h) (x0 : Option Nat) (x4 : Option Nat) (x5 : Option Nat) : ∀ (n : Nat) (h : jj_H) (k : Nat), fC_X1_addEdition_l55 (jj_gk X.1) x0 x4 x5 Q E n h k → jj_J X 7 55 [(0, .inr (.inr (.inl x0))), (4, .inr (.inr (.inl x4))), (5, .inr (.inr (.inl x5)))] [] h k := by
  intro n
  induction n with
  | zero =>
    intro  h k w
    exact (show False from w).elim
  | succ n ih =>
    intro  h k w
    rw [fC_X1_addEdition_l55] at w
    refine jr_aload (pc := 55) F (j := 2) dX1_addEdition_55 rfl ?_
    refine jr_jF (pc := 57) (As := []) (ci := 15) F M (fw_J21_hasNext q1639) (jK_f_J21_hasNext J) dX1_addEdition_57 (by decide +kernel) rfl (Nat.le_of_ble_eq_true rfl) (Nat.le_of_ble_eq_true rfl) (Nat.le_of_ble_eq_true rfl) rfl (jK_J21_hasNext J _ _ _ _ w) (fun v9 h4 k5 q9 => ?_)
    obtain ⟨r6, rfl, w⟩ := q9
    obtain ⟨hx9, w1, w2⟩ := w
    refine jr_if_eq (pc := 62) (tgt := 100) F hx9 dX1_addEdition_62 rfl (fun c9 => ?_) (fun c9 => ?_)
    · have w := w1 c9
      refine jr_aload_n (pc := 100) F (j := 0) dX1_addEdition_100 rfl ?_
      obtain ⟨hi9, w⟩ := w
      refine jr_cV (pc := 101) (As := []) (ci := 1) F M (lw_V q2763 q2765 qs36 q120 q2766) dX1_addEdition_101 hC_X1_change rfl (Nat.le_of_ble_eq_true rfl) (Nat.le_of_ble_eq_true rfl) (Nat.le_of_ble_eq_true rfl) rfl hi9 (Nat.zero_le _) (cC_X1_change J w) (fun v9 h9 q9 => ?_) (fun E9 q9 h9 w9 => jr_out F M O (hE _ _ _ w9))
      obtain ⟨rfl, w⟩ := q9
      refine jr_aload_n (pc := 104) F (j := 0) dX1_addEdition_104 rfl ?_
      refine jr_gr (pc := 105) (ci := 1) (f := 0) F rfl in_X1 (Nat.le_of_ble_eq_true rfl) q625 dX1_addEdition_105 w (fun g10 w => ?_)
      refine jr_aload (pc := 108) F (j := 1) dX1_addEdition_108 rfl ?_
      obtain ⟨hi9, c11, hk9, w⟩ := w
      refine jr_cV (pc := 110) (As := [_]) (ci := 2) F M (lw_V q2767 q2509 q2510 q121 q2511) dX1_addEdition_110 hC_X2_addEdition rfl (Nat.le_of_ble_eq_true rfl) (Nat.le_of_ble_eq_true rfl) (Nat.le_of_ble_eq_true rfl) rfl hi9 hk9 (cC_X2_addEdition J w) (fun v9 h13 q9 => ?_) (fun E9 q9 h9 w9 => jr_out F M O (hE _ _ _ w9))
      obtain ⟨r12, rfl, w⟩ := q9
      exact jr_iret (pc := 113) F M dX1_addEdition_113 (hQ _ _ w)
    · have w := w2 c9
      refine jr_aload (pc := 65) F (j := 2) dX1_addEdition_65 rfl ?_
      refine jr_jF (pc := 67) (As := []) (ci := 15) F M (fw_J21_next q1641) (jK_f_J21_next J) dX1_addEdition_67 (by decide +kernel) rfl (Nat.le_of_ble_eq_true rfl) (Nat.le_of_ble_eq_true rfl) (Nat.le_of_ble_eq_true rfl) rfl (jK_J21_next J _ _ _ _ w) (fun v9 h14 k15 q9 => ?_)
      obtain ⟨r16, rfl, w⟩ := q9
      obtain ⟨hi9, w⟩ := w
      refine jr_cast (pc := 72) (ci := 25) F rfl q2761 dX1_addEdition_72 hi9 ?_
      refine jr_astore (pc := 75) F (vs' := [(6, .inr (.inr (.inl _))), (0, .inr (.inr (.inl _))), (4, .inr (.inr (.inl _))), (5, .inr (.inr (.inl _)))]) dX1_addEdition_75 (Nat.le_of_ble_eq_true rfl) rfl ?_
      refine jr_aload (pc := 77) F (j := 2) dX1_addEdition_77 rfl ?_
      refine jr_aload (pc := 79) F (j := 0) dX1_addEdition_79 rfl ?_
      refine jr_aload (pc := 81) F (j := 2) dX1_addEdition_81 rfl ?_
      obtain ⟨hi9, w⟩ := w
      refine jr_cV (pc := 83) (As := []) (ci := 3) F M (lw_V q1664 q706 q707 q149 q708) dX1_addEdition_83 hC_X5_size rfl (Nat.le_of_ble_eq_true rfl) (Nat.le_of_ble_eq_true rfl) (Nat.le_of_ble_eq_true rfl) rfl hi9 (Nat.zero_le _) (cC_X5_size J w) (fun v9 h19 q9 => ?_) (fun E9 q9 h9 w9 => jr_out F M O (hE _ _ _ w9))
      obtain ⟨r18, rfl, w⟩ := q9
      obtain ⟨hx9, w1, w2⟩ := w
      refine jr_if_ne (pc := 86) (tgt := 93) F hx9 dX1_addEdition_86 rfl (fun c9 => ?_) (fun c9 => ?_)
      · have w := w1 c9
        refine jr_iconst (pc := 93) F dX1_addEdition_93 ?_
        refine jj_J.sub [1, 2, 3] rfl ?_
        exact sC_X1_addEdition_j94 F M O J hi hQ hE _ _ _ _ _ _ ih _ _ w
      · have w := w2 c9
        refine jr_iconst (pc := 89) F dX1_addEdition_89 ?_
        refine jr_goto (pc := 90) (tgt := 94) F dX1_addEdition_90 rfl ?_
        refine jj_J.sub [1, 2, 3] rfl ?_
        exact sC_X1_addEdition_j94 F M O J hi hQ hE _ _ _ _ _ _ ih _ _ w

theorem sC_X1_addEdition_j35 {X : jj_X} {N : Option jj_AV → jj_H → Prop} {XN : String → Nat → jj_H → Prop} (F : jj_F X RX1 cX1_addEdition 7) (M : jj_M X (some (.int)) 16 693 N XN) (O : jj_no X) (J : jj_GJ X.1 X.2.2.1) (hi : X.2.2.2.2.2.2.2.2.2.1.name = yX1_addEdition.name) {Q : Int → jj_H → Prop} {E : String → Nat → jj_H → Prop} (hQ : ∀ r h, Q r h → N (some (.inl r)) h) (hE : ∀ e q h, E e q h → XN e q h) (x0 : Option Nat) (x1 : Int) (x2 : Int) (x3 : Option Nat) (y0 : Int) : ∀ (h : jj_H) (k : Nat), fC_X1_addEdition_j35 (jj_gk X.1) x0 x1 x2 x3 y0 Q E h k → jj_J X 7 35 [(0, .inr (.inr (.inl x0))), (1, .inl x1), (2, .inl x2), (3, .inr (.inr (.inl x3)))] [.inl y0] h k := by
  intro h k w
  unfold fC_X1_addEdition_j35 at w
  obtain ⟨c20, hk9, w⟩ := w
  refine jr_callS (pc := 35) (As := [_]) F M (lw_S q2604 q2605 q120 q2606) dX1_addEdition_35 hC_X1_checkState.2 rfl (Nat.le_of_ble_eq_true rfl) (Nat.le_of_ble_eq_true rfl) (Nat.le_of_ble_eq_true rfl) hk9 (cC_X1_checkState J w) (fun v9 h22 q9 => ?_) (fun E9 q9 h9 w9 => jr_out F M O (hE _ _ _ w9))
  obtain ⟨rfl, w⟩ := q9
  refine jr_new (pc := 38) (ci := 3) F rfl in_X5 tyX5_ok q2759 q1854 q149 dfo_X5 rfl ⟨by decide, by decide⟩ dX1_addEdition_38 w (fun a23 h24 k25 w => ?_)
  refine jr_dup (pc := 41) F dX1_addEdition_41 rfl ?_
  refine jr_iload_n (pc := 42) F (j := 1) dX1_addEdition_42 rfl ?_
  refine jr_iload_n (pc := 43) F (j := 2) dX1_addEdition_43 rfl ?_
  obtain ⟨hi9, c26, hk9, w⟩ := w
  refine jr_cI (pc := 44) (As := [_, _]) F M q2760 q1856 q149 q1857 dX1_addEdition_44 rfl hC_X5_init.2 rfl (Nat.le_of_ble_eq_true rfl) (Nat.le_of_ble_eq_true rfl) (Nat.le_of_ble_eq_true rfl) hi9 hk9 (cC_X5_init J w) (fun v9 h28 q9 => ?_) (fun E9 q9 h9 w9 => jr_out F M O (hE _ _ _ w9))
  obtain ⟨rfl, w⟩ := q9
  refine jr_astore (pc := 47) F (vs' := [(4, .inr (.inr (.inl _))), (0, .inr (.inr (.inl _))), (1, .inl _), (2, .inl _), (3, .inr (.inr (.inl _)))]) dX1_addEdition_47 (Nat.le_of_ble_eq_true rfl) rfl ?_
  refine jr_aload_n (pc := 49) F (j := 4) dX1_addEdition_49 rfl ?_
  refine jr_jV (pc := 50) (As := []) (ci := 14) F M (lw_V q1615 q1616 q1617 q124 q1618) dX1_addEdition_50 hj_J2_iterator rfl (Nat.le_of_ble_eq_true rfl) (Nat.le_of_ble_eq_true rfl) (Nat.le_of_ble_eq_true rfl) rfl (jK_J2_iterator J _ _ _ _ w) (fun v9 h29 k30 q9 => ?_)
  obtain ⟨r31, rfl, w⟩ := q9
  refine jr_astore (pc := 53) F (vs' := [(5, .inr (.inr (.inl _))), (4, .inr (.inr (.inl _))), (0, .inr (.inr (.inl _))), (1, .inl _), (2, .inl _), (3, .inr (.inr (.inl _)))]) dX1_addEdition_53 (Nat.le_of_ble_eq_true rfl) rfl ?_
  refine jj_J.sub [2, 1, 0] rfl ?_
  obtain ⟨n9, w⟩ := w
  exact sC_X1_addEdition_l55 F M O J hi hQ hE _ _ _ n9 _ _ w

theorem sC_X1_addEdition {X : jj_X} {N : Option jj_AV → jj_H → Prop} {XN : String → Nat → jj_H → Prop} (F : jj_F X RX1 cX1_addEdition 7) (M : jj_M X (some (.int)) 16 693 N XN) (O : jj_no X) (J : jj_GJ X.1 X.2.2.1) (hi : X.2.2.2.2.2.2.2.2.2.1.name = yX1_addEdition.name) {Q : Int → jj_H → Prop} {E : String → Nat → jj_H → Prop} (hQ : ∀ r h, Q r h → N (some (.inl r)) h) (hE : ∀ e q h, E e q h → XN e q h) (x0 : Option Nat) (x1 : Int) (x2 : Int) : ∀ (h : jj_H) (k : Nat), fC_X1_addEdition (jj_gk X.1) x0 x1 x2 Q E h k → jj_J X 7 0 [(0, .inr (.inr (.inl x0))), (1, .inl x1), (2, .inl x2)] [] h k := by
  intro h k w
  unfold fC_X1_addEdition at w
  refine jr_iload_n (pc := 0) F (j := 1) dX1_addEdition_0 rfl ?_
  refine jr_iload_n (pc := 1) F (j := 2) dX1_addEdition_1 rfl ?_
  refine jr_callS (pc := 2) (As := [_, _]) F M (lw_S q2651 q2652 q120 q2653) dX1_addEdition_2 hC_X1_isLayout.2 rfl (Nat.le_of_ble_eq_true rfl) (Nat.le_of_ble_eq_true rfl) (Nat.le_of_ble_eq_true rfl) (Nat.zero_le _) (cC_X1_isLayout J w) (fun v9 h34 q9 => ?_) (fun E9 q9 h9 w9 => jr_out F M O (hE _ _ _ w9))
  obtain ⟨r33, rfl, w⟩ := q9
  obtain ⟨c35, hk9, w⟩ := w
  refine jr_callS (pc := 5) (As := [_]) F M (lw_S q2631 q2632 q120 q2633) dX1_addEdition_5 hC_X1_checkArgument.2 rfl (Nat.le_of_ble_eq_true rfl) (Nat.le_of_ble_eq_true rfl) (Nat.le_of_ble_eq_true rfl) hk9 (cC_X1_checkArgument J w) (fun v9 h37 q9 => ?_) (fun E9 q9 h9 w9 => jr_out F M O (hE _ _ _ w9))
  obtain ⟨rfl, w⟩ := q9
  refine jr_aload_n (pc := 8) F (j := 0) dX1_addEdition_8 rfl ?_
  refine jr_iconst (pc := 9) F dX1_addEdition_9 ?_
  refine jr_bipush (pc := 10) F dX1_addEdition_10 (by decide +kernel) ?_
  obtain ⟨hi9, c38, hk9, w⟩ := w
  refine jr_cVX (pc := 12) (As := [_, _]) (ci := 1) F M (lw_VW q2657 q2659 qs34 q120 q2660) dX1_addEdition_12 hC_X1_words rfl (Nat.le_of_ble_eq_true rfl) (Nat.le_of_ble_eq_true rfl) (Nat.le_of_ble_eq_true rfl) rfl hi9 hk9 (cC_X1_words J w) (fun v9 h40 q9 => ?_) (fun E9 q9 h9 w9 => jr_out F M O (hE _ _ _ w9))
  obtain ⟨r39, rfl, w⟩ := q9
  refine jr_astore_n (pc := 15) F (vs' := [(3, .inr (.inr (.inl _))), (0, .inr (.inr (.inl _))), (1, .inl _), (2, .inl _)]) dX1_addEdition_15 (Nat.le_of_ble_eq_true rfl) rfl ?_
  refine jr_aload_n (pc := 16) F (j := 1) dX1_addEdition_16 rfl ?_
  refine jr_gr (pc := 17) (ci := 1) (f := 0) F rfl in_X1 (Nat.le_of_ble_eq_true rfl) q625 dX1_addEdition_17 w (fun g41 w => ?_)
  refine jr_grN (pc := 20) (ci := 2) (f := 0) F rfl in_X2 (Nat.le_of_ble_eq_true rfl) q591 dX1_addEdition_20 w (fun g42 w => ?_)
  refine jr_jV (pc := 23) (As := []) (ci := 14) F M (lw_V q1646 q676 q677 q124 q678) dX1_addEdition_23 hj_J2_size rfl (Nat.le_of_ble_eq_true rfl) (Nat.le_of_ble_eq_true rfl) (Nat.le_of_ble_eq_true rfl) rfl (jK_J2_size J _ _ _ _ w) (fun v9 h43 k44 q9 => ?_)
  obtain ⟨r45, rfl, w⟩ := q9
  refine jr_iconst (pc := 26) F dX1_addEdition_26 ?_
  obtain ⟨hx9, w1, w2⟩ := w
  refine jr_icmp_ge (pc := 27) (tgt := 34) F hx9 ⟨by decide, by decide⟩ dX1_addEdition_27 rfl (fun c9 => ?_) (fun c9 => ?_)
  · have w := w1 c9
    refine jr_iconst (pc := 34) F dX1_addEdition_34 ?_
    refine jj_J.sub [1, 2, 3, 0] rfl ?_
    exact sC_X1_addEdition_j35 F M O J hi hQ hE _ _ _ _ _ _ _ w
  · have w := w2 c9
    refine jr_iconst (pc := 30) F dX1_addEdition_30 ?_
    refine jr_goto (pc := 31) (tgt := 35) F dX1_addEdition_31 rfl ?_
    refine jj_J.sub [1, 2, 3, 0] rfl ?_
    exact sC_X1_addEdition_j35 F M O J hi hQ hE _ _ _ _ _ _ _ w

theorem cC_X1_addEdition {G : jj_G} {l : Launch} (J : jj_GJ G l) {x0 : Option Nat} {x1 : Int} {x2 : Int} {Q : Int → jj_H → Prop} {E : String → Nat → jj_H → Prop} {h : jj_H} {k : Nat} (w : fC_X1_addEdition (jj_gk G) x0 x1 x2 Q E h k) : jj_Ct G l yX1_addEdition (ws_ yX1_addEdition cX1_addEdition 7 (some (.int))) 16 693 [.inr (.inr (.inl x0)), .inl x1, .inl x2] h k (jc_i Q) E := by
  refine jj_Ct.of (jK_gs J).1 (by decide +kernel) (Nat.le_of_ble_eq_true rfl) rfl (fun X hG hl F M O hnm => ?_)
  subst hG; subst hl
  exact sC_X1_addEdition F M O J hnm (fun r h q => ⟨r, rfl, q⟩) (fun _ _ _ q => q) _ _ _ _ _ w
theorem hC_X1_addEdition : yX1_addEdition.cls = RX1 ∧ yX1_addEdition.cls ≠ "java/lang/invoke/MethodHandle" ∧ yX1_addEdition.cls ≠ "java/lang/invoke/VarHandle" ∧ (parseMethodDescriptor yX1_addEdition.desc).map (fun d => d.parameters.length) = some 2 := by decide +kernel
/-! X1_checkIndex(Z)V -/
def fC_X1_checkIndex (gk : Nat → Nat) (x0 : Int) (Q : jj_H → Prop) (E : String → Nat → jj_H → Prop) (h : jj_H) (k : Nat) : Prop :=
  jj_r x0 ∧ (¬ x0 = 0 → (
    Q h)) ∧
  (x0 = 0 → (
    2 ≤ k ∧ ∀ q9, E "java/lang/IndexOutOfBoundsException" q9 h))
theorem sC_X1_checkIndex {X : jj_X} {N : Option jj_AV → jj_H → Prop} {XN : String → Nat → jj_H → Prop} (F : jj_F X RX1 cX1_checkIndex 1) (M : jj_M X (none) 6 89 N XN) (O : jj_no X) (J : jj_GJ X.1 X.2.2.1) (hi : X.2.2.2.2.2.2.2.2.2.1.name = yX1_checkIndex.name) {Q : jj_H → Prop} {E : String → Nat → jj_H → Prop} (hQ : ∀ h, Q h → N none h) (hE : ∀ e q h, E e q h → XN e q h) (x0 : Int) : ∀ (h : jj_H) (k : Nat), fC_X1_checkIndex (jj_gk X.1) x0 Q E h k → jj_J X 1 0 [(0, .inl x0)] [] h k := by
  intro h k w
  unfold fC_X1_checkIndex at w
  refine jr_iload_n (pc := 0) F (j := 0) dX1_checkIndex_0 rfl ?_
  obtain ⟨hx9, w1, w2⟩ := w
  refine jr_if_ne (pc := 1) (tgt := 12) F hx9 dX1_checkIndex_1 rfl (fun c9 => ?_) (fun c9 => ?_)
  · have w := w1 c9
    exact jr_vret (pc := 12) F M dX1_checkIndex_12 (hQ _ w)
  · have w := w2 c9
    exact jr_throw0 (pc := 4) F M (jK_zq J) (fun x9 hx9 => (O x9 hx9).elim) (cls := "java/lang/IndexOutOfBoundsException") (names := ["java/lang/RuntimeException", "java/lang/Exception"]) (by decide +kernel) (by decide +kernel) q2785 q181 at_X1_3 og_X1_3 dX1_checkIndex_4 dX1_checkIndex_7 dX1_checkIndex_8 dX1_checkIndex_11 (Nat.le_of_ble_eq_true rfl) (Nat.le_of_ble_eq_true rfl) (Nat.le_of_ble_eq_true rfl) w.1 (fun q9 => hE _ _ _ (w.2 q9))

theorem cC_X1_checkIndex {G : jj_G} {l : Launch} (J : jj_GJ G l) {x0 : Int} {Q : jj_H → Prop} {E : String → Nat → jj_H → Prop} {h : jj_H} {k : Nat} (w : fC_X1_checkIndex (jj_gk G) x0 Q E h k) : jj_Ct G l yX1_checkIndex (ws_ yX1_checkIndex cX1_checkIndex 1 (none)) 6 89 [.inl x0] h k (jc_v Q) E := by
  refine jj_Ct.of (jK_gs J).1 (by decide +kernel) (Nat.le_of_ble_eq_true rfl) rfl (fun X hG hl F M O hnm => ?_)
  subst hG; subst hl
  exact sC_X1_checkIndex F M O J hnm (fun h q => ⟨rfl, q⟩) (fun _ _ _ q => q) _ _ _ w
theorem hC_X1_checkIndex : yX1_checkIndex.cls = RX1 ∧ yX1_checkIndex.cls ≠ "java/lang/invoke/MethodHandle" ∧ yX1_checkIndex.cls ≠ "java/lang/invoke/VarHandle" ∧ (parseMethodDescriptor yX1_checkIndex.desc).map (fun d => d.parameters.length) = some 1 := by decide +kernel
/-! X1_edition(I)LNoteImporter$Edition; -/
def fC_X1_edition (gk : Nat → Nat) (x0 : Option Nat) (x1 : Int) (Q : Option Nat → jj_H → Prop) (E : String → Nat → jj_H → Prop) (h : jj_H) (k : Nat) : Prop :=
  jp_gr h x0 1 0 (fun g1 =>
  jp_gr h g1 2 0 (fun g2 =>
  jq_J2_size g2 (fun r5 h3 k4 =>
  fC_X1_isBetween gk (jj_i2l x1) 0 (jj_i2l (r5 - 1)) (fun r7 h8 =>
  ∃ c9, c9 ≤ k4 ∧ fC_X1_checkIndex gk r7 (fun h11 =>
  jp_gr h11 x0 1 0 (fun g12 =>
  jp_gr h11 g12 2 0 (fun g13 =>
  jq_J2_get g13 x1 (fun r16 h14 k15 =>
  jp_is h14 r16 3 ∧
  Q r16 h14) h11 (k4 - c9)))) E h8 c9) E h3 0) h k))
theorem sC_X1_edition {X : jj_X} {N : Option jj_AV → jj_H → Prop} {XN : String → Nat → jj_H → Prop} (F : jj_F X RX1 cX1_edition 2) (M : jj_M X (some ((.object "NoteImporter$Edition"))) 13 621 N XN) (O : jj_no X) (J : jj_GJ X.1 X.2.2.1) (hi : X.2.2.2.2.2.2.2.2.2.1.name = yX1_edition.name) {Q : Option Nat → jj_H → Prop} {E : String → Nat → jj_H → Prop} (hQ : ∀ r h, Q r h → N (some (.inr (.inr (.inl r)))) h) (hE : ∀ e q h, E e q h → XN e q h) (x0 : Option Nat) (x1 : Int) : ∀ (h : jj_H) (k : Nat), fC_X1_edition (jj_gk X.1) x0 x1 Q E h k → jj_J X 2 0 [(0, .inr (.inr (.inl x0))), (1, .inl x1)] [] h k := by
  intro h k w
  unfold fC_X1_edition at w
  refine jr_iload_n (pc := 0) F (j := 1) dX1_edition_0 rfl ?_
  refine jr_i2l (pc := 1) F dX1_edition_1 ?_
  refine jr_lconst (pc := 2) F (x := 0) dX1_edition_2 (by decide +kernel) ?_
  refine jr_aload_n (pc := 3) F (j := 0) dX1_edition_3 rfl ?_
  refine jr_gr (pc := 4) (ci := 1) (f := 0) F rfl in_X1 (Nat.le_of_ble_eq_true rfl) q625 dX1_edition_4 w (fun g1 w => ?_)
  refine jr_grN (pc := 7) (ci := 2) (f := 0) F rfl in_X2 (Nat.le_of_ble_eq_true rfl) q591 dX1_edition_7 w (fun g2 w => ?_)
  refine jr_jV (pc := 10) (As := []) (ci := 14) F M (lw_V q1646 q676 q677 q124 q678) dX1_edition_10 hj_J2_size rfl (Nat.le_of_ble_eq_true rfl) (Nat.le_of_ble_eq_true rfl) (Nat.le_of_ble_eq_true rfl) rfl (jK_J2_size J _ _ _ _ w) (fun v9 h3 k4 q9 => ?_)
  obtain ⟨r5, rfl, w⟩ := q9
  refine jr_iconst (pc := 13) F dX1_edition_13 ?_
  refine jr_isub (pc := 14) F dX1_edition_14 ?_
  refine jr_i2l (pc := 15) F dX1_edition_15 ?_
  refine jr_callS (pc := 16) (As := [_, _, _]) F M (lw_S q2630 q1678 q120 q1679) dX1_edition_16 hC_X1_isBetween.2 rfl (Nat.le_of_ble_eq_true rfl) (Nat.le_of_ble_eq_true rfl) (Nat.le_of_ble_eq_true rfl) (Nat.zero_le _) (cC_X1_isBetween J w) (fun v9 h8 q9 => ?_) (fun E9 q9 h9 w9 => jr_out F M O (hE _ _ _ w9))
  obtain ⟨r7, rfl, w⟩ := q9
  obtain ⟨c9, hk9, w⟩ := w
  refine jr_callS (pc := 19) (As := [_]) F M (lw_S q2782 q2783 q120 q2784) dX1_edition_19 hC_X1_checkIndex.2 rfl (Nat.le_of_ble_eq_true rfl) (Nat.le_of_ble_eq_true rfl) (Nat.le_of_ble_eq_true rfl) hk9 (cC_X1_checkIndex J w) (fun v9 h11 q9 => ?_) (fun E9 q9 h9 w9 => jr_out F M O (hE _ _ _ w9))
  obtain ⟨rfl, w⟩ := q9
  refine jr_aload_n (pc := 22) F (j := 0) dX1_edition_22 rfl ?_
  refine jr_gr (pc := 23) (ci := 1) (f := 0) F rfl in_X1 (Nat.le_of_ble_eq_true rfl) q625 dX1_edition_23 w (fun g12 w => ?_)
  refine jr_grN (pc := 26) (ci := 2) (f := 0) F rfl in_X2 (Nat.le_of_ble_eq_true rfl) q591 dX1_edition_26 w (fun g13 w => ?_)
  refine jr_iload_n (pc := 29) F (j := 1) dX1_edition_29 rfl ?_
  refine jr_jV (pc := 30) (As := [_]) (ci := 14) F M (lw_V q1613 q681 q682 q124 q683) dX1_edition_30 hj_J2_get rfl (Nat.le_of_ble_eq_true rfl) (Nat.le_of_ble_eq_true rfl) (Nat.le_of_ble_eq_true rfl) rfl (jK_J2_get J _ _ _ _ _ w) (fun v9 h14 k15 q9 => ?_)
  obtain ⟨r16, rfl, w⟩ := q9
  obtain ⟨hi9, w⟩ := w
  refine jr_cast (pc := 33) (ci := 3) F rfl q2759 dX1_edition_33 hi9 ?_
  exact jr_aret (pc := 36) F M (Or.inl ⟨_, rfl⟩) dX1_edition_36 (hQ _ _ w)

theorem cC_X1_edition {G : jj_G} {l : Launch} (J : jj_GJ G l) {x0 : Option Nat} {x1 : Int} {Q : Option Nat → jj_H → Prop} {E : String → Nat → jj_H → Prop} {h : jj_H} {k : Nat} (w : fC_X1_edition (jj_gk G) x0 x1 Q E h k) : jj_Ct G l yX1_edition (ws_ yX1_edition cX1_edition 2 (some ((.object "NoteImporter$Edition")))) 13 621 [.inr (.inr (.inl x0)), .inl x1] h k (jc_r Q) E := by
  refine jj_Ct.of (jK_gs J).1 (by decide +kernel) (Nat.le_of_ble_eq_true rfl) rfl (fun X hG hl F M O hnm => ?_)
  subst hG; subst hl
  exact sC_X1_edition F M O J hnm (fun r h q => ⟨r, rfl, q⟩) (fun _ _ _ q => q) _ _ _ _ w
theorem hC_X1_edition : yX1_edition.cls = RX1 ∧ yX1_edition.cls ≠ "java/lang/invoke/MethodHandle" ∧ yX1_edition.cls ≠ "java/lang/invoke/VarHandle" ∧ (parseMethodDescriptor yX1_edition.desc).map (fun d => d.parameters.length) = some 1 := by decide +kernel
/-! X1_setLayout(III)I -/
def fC_X1_setLayout (gk : Nat → Nat) (x0 : Option Nat) (x1 : Int) (x2 : Int) (x3 : Int) (Q : Int → jj_H → Prop) (E : String → Nat → jj_H → Prop) (h : jj_H) (k : Nat) : Prop :=
  jp_is h x0 1 ∧ ∃ c1, c1 ≤ k ∧ fC_X1_edition gk x0 x1 (fun r2 h3 =>
  fC_X1_isLayout gk x2 x3 (fun r5 h6 =>
  ∃ c7, c7 ≤ (k - c1) ∧ fC_X1_checkArgument gk r5 (fun h9 =>
  jp_pi h9 r2 3 2 x2 (fun h10 =>
  jp_pi h10 r2 3 3 x3 (fun h11 =>
  jp_is h11 r2 3 ∧ fC_X5_lay gk r2 (fun h14 =>
  jp_is h14 r2 3 ∧ fC_X5_pageCount gk r2 (fun r16 h17 =>
  Q r16 h17) E h14 0) E h11 0))) E h6 c7) E h3 0) E h c1
theorem sC_X1_setLayout {X : jj_X} {N : Option jj_AV → jj_H → Prop} {XN : String → Nat → jj_H → Prop} (F : jj_F X RX1 cX1_setLayout 5) (M : jj_M X (some (.int)) 16 680 N XN) (O : jj_no X) (J : jj_GJ X.1 X.2.2.1) (hi : X.2.2.2.2.2.2.2.2.2.1.name = yX1_setLayout.name) {Q : Int → jj_H → Prop} {E : String → Nat → jj_H → Prop} (hQ : ∀ r h, Q r h → N (some (.inl r)) h) (hE : ∀ e q h, E e q h → XN e q h) (x0 : Option Nat) (x1 : Int) (x2 : Int) (x3 : Int) : ∀ (h : jj_H) (k : Nat), fC_X1_setLayout (jj_gk X.1) x0 x1 x2 x3 Q E h k → jj_J X 5 0 [(0, .inr (.inr (.inl x0))), (1, .inl x1), (2, .inl x2), (3, .inl x3)] [] h k := by
  intro h k w
  unfold fC_X1_setLayout at w
  refine jr_aload_n (pc := 0) F (j := 0) dX1_setLayout_0 rfl ?_
  refine jr_iload_n (pc := 1) F (j := 1) dX1_setLayout_1 rfl ?_
  obtain ⟨hi9, c1, hk9, w⟩ := w
  refine jr_cV (pc := 2) (As := [_]) (ci := 1) F M (lw_V q2778 q2780 qs37 q120 q2781) dX1_setLayout_2 hC_X1_edition rfl (Nat.le_of_ble_eq_true rfl) (Nat.le_of_ble_eq_true rfl) (Nat.le_of_ble_eq_true rfl) rfl hi9 hk9 (cC_X1_edition J w) (fun v9 h3 q9 => ?_) (fun E9 q9 h9 w9 => jr_out F M O (hE _ _ _ w9))
  obtain ⟨r2, rfl, w⟩ := q9
  refine jr_astore (pc := 5) F (vs' := [(4, .inr (.inr (.inl _))), (0, .inr (.inr (.inl _))), (1, .inl _), (2, .inl _), (3, .inl _)]) dX1_setLayout_5 (Nat.le_of_ble_eq_true rfl) rfl ?_
  refine jr_iload_n (pc := 7) F (j := 3) dX1_setLayout_7 rfl ?_
  refine jr_iload_n (pc := 8) F (j := 4) dX1_setLayout_8 rfl ?_
  refine jr_callS (pc := 9) (As := [_, _]) F M (lw_S q2651 q2652 q120 q2653) dX1_setLayout_9 hC_X1_isLayout.2 rfl (Nat.le_of_ble_eq_true rfl) (Nat.le_of_ble_eq_true rfl) (Nat.le_of_ble_eq_true rfl) (Nat.zero_le _) (cC_X1_isLayout J w) (fun v9 h6 q9 => ?_) (fun E9 q9 h9 w9 => jr_out F M O (hE _ _ _ w9))
  obtain ⟨r5, rfl, w⟩ := q9
  obtain ⟨c7, hk9, w⟩ := w
  refine jr_callS (pc := 12) (As := [_]) F M (lw_S q2631 q2632 q120 q2633) dX1_setLayout_12 hC_X1_checkArgument.2 rfl (Nat.le_of_ble_eq_true rfl) (Nat.le_of_ble_eq_true rfl) (Nat.le_of_ble_eq_true rfl) hk9 (cC_X1_checkArgument J w) (fun v9 h9 q9 => ?_) (fun E9 q9 h9 w9 => jr_out F M O (hE _ _ _ w9))
  obtain ⟨rfl, w⟩ := q9
  refine jr_aload (pc := 15) F (j := 0) dX1_setLayout_15 rfl ?_
  refine jr_iload_n (pc := 17) F (j := 3) dX1_setLayout_17 rfl ?_
  refine jr_piN (pc := 18) (ci := 3) (f := 2) F rfl in_X5 tyX5_ok nmX5 (Nat.le_of_ble_eq_true rfl) rfl rfl q1867 dX1_setLayout_18 w (fun h10 w => ?_)
  refine jr_aload (pc := 21) F (j := 0) dX1_setLayout_21 rfl ?_
  refine jr_iload_n (pc := 23) F (j := 4) dX1_setLayout_23 rfl ?_
  refine jr_piN (pc := 24) (ci := 3) (f := 3) F rfl in_X5 tyX5_ok nmX5 (Nat.le_of_ble_eq_true rfl) rfl rfl q1870 dX1_setLayout_24 w (fun h11 w => ?_)
  refine jr_aload (pc := 27) F (j := 0) dX1_setLayout_27 rfl ?_
  obtain ⟨hi9, w⟩ := w
  refine jr_cV (pc := 29) (As := []) (ci := 3) F M (lw_V q2800 q1990 q1991 q149 q1992) dX1_setLayout_29 hC_X5_lay rfl (Nat.le_of_ble_eq_true rfl) (Nat.le_of_ble_eq_true rfl) (Nat.le_of_ble_eq_true rfl) rfl hi9 (Nat.zero_le _) (cC_X5_lay J w) (fun v9 h14 q9 => ?_) (fun E9 q9 h9 w9 => jr_out F M O (hE _ _ _ w9))
  obtain ⟨rfl, w⟩ := q9
  refine jr_aload (pc := 32) F (j := 0) dX1_setLayout_32 rfl ?_
  obtain ⟨hi9, w⟩ := w
  refine jr_cV (pc := 34) (As := []) (ci := 3) F M (lw_V q1652 q1653 q1654 q149 q1655) dX1_setLayout_34 hC_X5_pageCount rfl (Nat.le_of_ble_eq_true rfl) (Nat.le_of_ble_eq_true rfl) (Nat.le_of_ble_eq_true rfl) rfl hi9 (Nat.zero_le _) (cC_X5_pageCount J w) (fun v9 h17 q9 => ?_) (fun E9 q9 h9 w9 => jr_out F M O (hE _ _ _ w9))
  obtain ⟨r16, rfl, w⟩ := q9
  exact jr_iret (pc := 37) F M dX1_setLayout_37 (hQ _ _ w)

theorem cC_X1_setLayout {G : jj_G} {l : Launch} (J : jj_GJ G l) {x0 : Option Nat} {x1 : Int} {x2 : Int} {x3 : Int} {Q : Int → jj_H → Prop} {E : String → Nat → jj_H → Prop} {h : jj_H} {k : Nat} (w : fC_X1_setLayout (jj_gk G) x0 x1 x2 x3 Q E h k) : jj_Ct G l yX1_setLayout (ws_ yX1_setLayout cX1_setLayout 5 (some (.int))) 16 680 [.inr (.inr (.inl x0)), .inl x1, .inl x2, .inl x3] h k (jc_i Q) E := by
  refine jj_Ct.of (jK_gs J).1 (by decide +kernel) (Nat.le_of_ble_eq_true rfl) rfl (fun X hG hl F M O hnm => ?_)
  subst hG; subst hl
  exact sC_X1_setLayout F M O J hnm (fun r h q => ⟨r, rfl, q⟩) (fun _ _ _ q => q) _ _ _ _ _ _ w
theorem hC_X1_setLayout : yX1_setLayout.cls = RX1 ∧ yX1_setLayout.cls ≠ "java/lang/invoke/MethodHandle" ∧ yX1_setLayout.cls ≠ "java/lang/invoke/VarHandle" ∧ (parseMethodDescriptor yX1_setLayout.desc).map (fun d => d.parameters.length) = some 3 := by decide +kernel
/-! X1_edition_2(II)I -/
def fC_X1_edition_2 (gk : Nat → Nat) (x0 : Option Nat) (x1 : Int) (x2 : Int) (Q : Int → jj_H → Prop) (E : String → Nat → jj_H → Prop) (h : jj_H) (k : Nat) : Prop :=
  jp_is h x0 1 ∧ ∃ c1, c1 ≤ k ∧ fC_X1_edition gk x0 x1 (fun r2 h3 =>
  fC_X1_isBetween gk (jj_i2l x2) 0 4 (fun r5 h6 =>
  ∃ c7, c7 ≤ (k - c1) ∧ fC_X1_checkArgument gk r5 (fun h9 =>
  jj_r x2 ∧
  (x2 = 0 → (
    jp_is h9 r2 3 ∧ fC_X5_size gk r2 (fun r11 h12 =>
    Q r11 h12) E h9 0)) ∧
  (x2 = 1 → (
    jp_is h9 r2 3 ∧ fC_X5_lineCount gk r2 (fun r14 h15 =>
    Q r14 h15) E h9 0)) ∧
  (x2 = 2 → (
    jp_is h9 r2 3 ∧ fC_X5_pageCount gk r2 (fun r17 h18 =>
    Q r17 h18) E h9 0)) ∧
  (x2 = 3 → (
    jp_gi h9 r2 3 2 (fun g19 =>
    Q g19 h9))) ∧
  ((x2 < 0 ∨ 3 < x2) → (
    jp_gi h9 r2 3 3 (fun g20 =>
    Q g20 h9)))) E h6 c7) E h3 0) E h c1
theorem sC_X1_edition_2 {X : jj_X} {N : Option jj_AV → jj_H → Prop} {XN : String → Nat → jj_H → Prop} (F : jj_F X RX1 cX1_edition_2 4) (M : jj_M X (some (.int)) 16 680 N XN) (O : jj_no X) (J : jj_GJ X.1 X.2.2.1) (hi : X.2.2.2.2.2.2.2.2.2.1.name = yX1_edition_2.name) {Q : Int → jj_H → Prop} {E : String → Nat → jj_H → Prop} (hQ : ∀ r h, Q r h → N (some (.inl r)) h) (hE : ∀ e q h, E e q h → XN e q h) (x0 : Option Nat) (x1 : Int) (x2 : Int) : ∀ (h : jj_H) (k : Nat), fC_X1_edition_2 (jj_gk X.1) x0 x1 x2 Q E h k → jj_J X 4 0 [(0, .inr (.inr (.inl x0))), (1, .inl x1), (2, .inl x2)] [] h k := by
  intro h k w
  unfold fC_X1_edition_2 at w
  refine jr_aload_n (pc := 0) F (j := 0) dX1_edition_2_0 rfl ?_
  refine jr_iload_n (pc := 1) F (j := 1) dX1_edition_2_1 rfl ?_
  obtain ⟨hi9, c1, hk9, w⟩ := w
  refine jr_cV (pc := 2) (As := [_]) (ci := 1) F M (lw_V q2778 q2780 qs37 q120 q2781) dX1_edition_2_2 hC_X1_edition rfl (Nat.le_of_ble_eq_true rfl) (Nat.le_of_ble_eq_true rfl) (Nat.le_of_ble_eq_true rfl) rfl hi9 hk9 (cC_X1_edition J w) (fun v9 h3 q9 => ?_) (fun E9 q9 h9 w9 => jr_out F M O (hE _ _ _ w9))
  obtain ⟨r2, rfl, w⟩ := q9
  refine jr_astore_n (pc := 5) F (vs' := [(3, .inr (.inr (.inl _))), (0, .inr (.inr (.inl _))), (1, .inl _), (2, .inl _)]) dX1_edition_2_5 (Nat.le_of_ble_eq_true rfl) rfl ?_
  refine jr_iload_n (pc := 6) F (j := 3) dX1_edition_2_6 rfl ?_
  refine jr_i2l (pc := 7) F dX1_edition_2_7 ?_
  refine jr_lconst (pc := 8) F (x := 0) dX1_edition_2_8 (by decide +kernel) ?_
  refine jr_ldc2 (pc := 9) F (x := 4) q2808 dX1_edition_2_9 (by decide +kernel) ?_
  refine jr_callS (pc := 12) (As := [_, _, _]) F M (lw_S q2630 q1678 q120 q1679) dX1_edition_2_12 hC_X1_isBetween.2 rfl (Nat.le_of_ble_eq_true rfl) (Nat.le_of_ble_eq_true rfl) (Nat.le_of_ble_eq_true rfl) (Nat.zero_le _) (cC_X1_isBetween J w) (fun v9 h6 q9 => ?_) (fun E9 q9 h9 w9 => jr_out F M O (hE _ _ _ w9))
  obtain ⟨r5, rfl, w⟩ := q9
  obtain ⟨c7, hk9, w⟩ := w
  refine jr_callS (pc := 15) (As := [_]) F M (lw_S q2631 q2632 q120 q2633) dX1_edition_2_15 hC_X1_checkArgument.2 rfl (Nat.le_of_ble_eq_true rfl) (Nat.le_of_ble_eq_true rfl) (Nat.le_of_ble_eq_true rfl) hk9 (cC_X1_checkArgument J w) (fun v9 h9 q9 => ?_) (fun E9 q9 h9 w9 => jr_out F M O (hE _ _ _ w9))
  obtain ⟨rfl, w⟩ := q9
  refine jr_iload_n (pc := 18) F (j := 3) dX1_edition_2_18 rfl ?_
  obtain ⟨hx9, w⟩ := w
  obtain ⟨w9, w⟩ := w
  rcases Decidable.em (x2 = 0) with e9 | e9_0
  · have w := w9 e9
    refine jr_tabIn (pc := 19) (tgt := 48) (off := 29) F hx9 dX1_edition_2_19 (by rw [e9]; decide) (by rw [e9]; decide) (by rw [e9]; rfl) rfl ?_
    refine jr_aload_n (pc := 48) F (j := 0) dX1_edition_2_48 rfl ?_
    obtain ⟨hi9, w⟩ := w
    refine jr_cV (pc := 49) (As := []) (ci := 3) F M (lw_V q1664 q706 q707 q149 q708) dX1_edition_2_49 hC_X5_size rfl (Nat.le_of_ble_eq_true rfl) (Nat.le_of_ble_eq_true rfl) (Nat.le_of_ble_eq_true rfl) rfl hi9 (Nat.zero_le _) (cC_X5_size J w) (fun v9 h12 q9 => ?_) (fun E9 q9 h9 w9 => jr_out F M O (hE _ _ _ w9))
    obtain ⟨r11, rfl, w⟩ := q9
    exact jr_iret (pc := 52) F M dX1_edition_2_52 (hQ _ _ w)
  obtain ⟨w9, w⟩ := w
  rcases Decidable.em (x2 = 1) with e9 | e9_1
  · have w := w9 e9
    refine jr_tabIn (pc := 19) (tgt := 53) (off := 34) F hx9 dX1_edition_2_19 (by rw [e9]; decide) (by rw [e9]; decide) (by rw [e9]; rfl) rfl ?_
    refine jr_aload_n (pc := 53) F (j := 0) dX1_edition_2_53 rfl ?_
    obtain ⟨hi9, w⟩ := w
    refine jr_cV (pc := 54) (As := []) (ci := 3) F M (lw_V q2809 q1657 q1658 q149 q1659) dX1_edition_2_54 hC_X5_lineCount rfl (Nat.le_of_ble_eq_true rfl) (Nat.le_of_ble_eq_true rfl) (Nat.le_of_ble_eq_true rfl) rfl hi9 (Nat.zero_le _) (cC_X5_lineCount J w) (fun v9 h15 q9 => ?_) (fun E9 q9 h9 w9 => jr_out F M O (hE _ _ _ w9))
    obtain ⟨r14, rfl, w⟩ := q9
    exact jr_iret (pc := 57) F M dX1_edition_2_57 (hQ _ _ w)
  obtain ⟨w9, w⟩ := w
  rcases Decidable.em (x2 = 2) with e9 | e9_2
  · have w := w9 e9
    refine jr_tabIn (pc := 19) (tgt := 58) (off := 39) F hx9 dX1_edition_2_19 (by rw [e9]; decide) (by rw [e9]; decide) (by rw [e9]; rfl) rfl ?_
    refine jr_aload_n (pc := 58) F (j := 0) dX1_edition_2_58 rfl ?_
    obtain ⟨hi9, w⟩ := w
    refine jr_cV (pc := 59) (As := []) (ci := 3) F M (lw_V q1652 q1653 q1654 q149 q1655) dX1_edition_2_59 hC_X5_pageCount rfl (Nat.le_of_ble_eq_true rfl) (Nat.le_of_ble_eq_true rfl) (Nat.le_of_ble_eq_true rfl) rfl hi9 (Nat.zero_le _) (cC_X5_pageCount J w) (fun v9 h18 q9 => ?_) (fun E9 q9 h9 w9 => jr_out F M O (hE _ _ _ w9))
    obtain ⟨r17, rfl, w⟩ := q9
    exact jr_iret (pc := 62) F M dX1_edition_2_62 (hQ _ _ w)
  obtain ⟨w9, w⟩ := w
  rcases Decidable.em (x2 = 3) with e9 | e9_3
  · have w := w9 e9
    refine jr_tabIn (pc := 19) (tgt := 63) (off := 44) F hx9 dX1_edition_2_19 (by rw [e9]; decide) (by rw [e9]; decide) (by rw [e9]; rfl) rfl ?_
    refine jr_aload_n (pc := 63) F (j := 0) dX1_edition_2_63 rfl ?_
    refine jr_giN (pc := 64) (ci := 3) (f := 2) F rfl in_X5 (Nat.le_of_ble_eq_true rfl) q1867 dX1_edition_2_64 w (fun g19 w => ?_)
    exact jr_iret (pc := 67) F M dX1_edition_2_67 (hQ _ _ w)
  have c9 := jj_to3 e9_0 e9_1 e9_2 e9_3
  have w := w c9
  refine jr_tabOut (pc := 19) (tgt := 68) F hx9 dX1_edition_2_19 c9 rfl ?_
  refine jr_aload_n (pc := 68) F (j := 0) dX1_edition_2_68 rfl ?_
  refine jr_giN (pc := 69) (ci := 3) (f := 3) F rfl in_X5 (Nat.le_of_ble_eq_true rfl) q1870 dX1_edition_2_69 w (fun g20 w => ?_)
  exact jr_iret (pc := 72) F M dX1_edition_2_72 (hQ _ _ w)

theorem cC_X1_edition_2 {G : jj_G} {l : Launch} (J : jj_GJ G l) {x0 : Option Nat} {x1 : Int} {x2 : Int} {Q : Int → jj_H → Prop} {E : String → Nat → jj_H → Prop} {h : jj_H} {k : Nat} (w : fC_X1_edition_2 (jj_gk G) x0 x1 x2 Q E h k) : jj_Ct G l yX1_edition_2 (ws_ yX1_edition_2 cX1_edition_2 4 (some (.int))) 16 680 [.inr (.inr (.inl x0)), .inl x1, .inl x2] h k (jc_i Q) E := by
  refine jj_Ct.of (jK_gs J).1 (by decide +kernel) (Nat.le_of_ble_eq_true rfl) rfl (fun X hG hl F M O hnm => ?_)
  subst hG; subst hl
  exact sC_X1_edition_2 F M O J hnm (fun r h q => ⟨r, rfl, q⟩) (fun _ _ _ q => q) _ _ _ _ _ w
theorem hC_X1_edition_2 : yX1_edition_2.cls = RX1 ∧ yX1_edition_2.cls ≠ "java/lang/invoke/MethodHandle" ∧ yX1_edition_2.cls ≠ "java/lang/invoke/VarHandle" ∧ (parseMethodDescriptor yX1_edition_2.desc).map (fun d => d.parameters.length) = some 2 := by decide +kernel
/-! X1_editionWith(II)LNoteImporter$Edition; -/
def fC_X1_editionWith (gk : Nat → Nat) (x0 : Option Nat) (x1 : Int) (x2 : Int) (Q : Option Nat → jj_H → Prop) (E : String → Nat → jj_H → Prop) (h : jj_H) (k : Nat) : Prop :=
  jp_is h x0 1 ∧ ∃ c1, c1 ≤ k ∧ fC_X1_edition gk x0 x1 (fun r2 h3 =>
  jp_is h3 r2 3 ∧ fC_X5_last gk r2 (fun r5 h6 =>
  fC_X1_isBetween gk (jj_i2l x2) 0 (jj_i2l r5) (fun r8 h9 =>
  ∃ c10, c10 ≤ (k - c1) ∧ fC_X1_checkIndex gk r8 (fun h12 =>
  Q r2 h12) E h9 c10) E h6 0) E h3 0) E h c1
theorem sC_X1_editionWith {X : jj_X} {N : Option jj_AV → jj_H → Prop} {XN : String → Nat → jj_H → Prop} (F : jj_F X RX1 cX1_editionWith 4) (M : jj_M X (some ((.object "NoteImporter$Edition"))) 14 642 N XN) (O : jj_no X) (J : jj_GJ X.1 X.2.2.1) (hi : X.2.2.2.2.2.2.2.2.2.1.name = yX1_editionWith.name) {Q : Option Nat → jj_H → Prop} {E : String → Nat → jj_H → Prop} (hQ : ∀ r h, Q r h → N (some (.inr (.inr (.inl r)))) h) (hE : ∀ e q h, E e q h → XN e q h) (x0 : Option Nat) (x1 : Int) (x2 : Int) : ∀ (h : jj_H) (k : Nat), fC_X1_editionWith (jj_gk X.1) x0 x1 x2 Q E h k → jj_J X 4 0 [(0, .inr (.inr (.inl x0))), (1, .inl x1), (2, .inl x2)] [] h k := by
  intro h k w
  unfold fC_X1_editionWith at w
  refine jr_aload_n (pc := 0) F (j := 0) dX1_editionWith_0 rfl ?_
  refine jr_iload_n (pc := 1) F (j := 1) dX1_editionWith_1 rfl ?_
  obtain ⟨hi9, c1, hk9, w⟩ := w
  refine jr_cV (pc := 2) (As := [_]) (ci := 1) F M (lw_V q2778 q2780 qs37 q120 q2781) dX1_editionWith_2 hC_X1_edition rfl (Nat.le_of_ble_eq_true rfl) (Nat.le_of_ble_eq_true rfl) (Nat.le_of_ble_eq_true rfl) rfl hi9 hk9 (cC_X1_edition J w) (fun v9 h3 q9 => ?_) (fun E9 q9 h9 w9 => jr_out F M O (hE _ _ _ w9))
  obtain ⟨r2, rfl, w⟩ := q9
  refine jr_astore_n (pc := 5) F (vs' := [(3, .inr (.inr (.inl _))), (0, .inr (.inr (.inl _))), (1, .inl _), (2, .inl _)]) dX1_editionWith_5 (Nat.le_of_ble_eq_true rfl) rfl ?_
  refine jr_iload_n (pc := 6) F (j := 3) dX1_editionWith_6 rfl ?_
  refine jr_i2l (pc := 7) F dX1_editionWith_7 ?_
  refine jr_lconst (pc := 8) F (x := 0) dX1_editionWith_8 (by decide +kernel) ?_
  refine jr_aload_n (pc := 9) F (j := 0) dX1_editionWith_9 rfl ?_
  obtain ⟨hi9, w⟩ := w
  refine jr_cV (pc := 10) (As := []) (ci := 3) F M (lw_V q2821 q1661 q1662 q149 q1663) dX1_editionWith_10 hC_X5_last rfl (Nat.le_of_ble_eq_true rfl) (Nat.le_of_ble_eq_true rfl) (Nat.le_of_ble_eq_true rfl) rfl hi9 (Nat.zero_le _) (cC_X5_last J w) (fun v9 h6 q9 => ?_) (fun E9 q9 h9 w9 => jr_out F M O (hE _ _ _ w9))
  obtain ⟨r5, rfl, w⟩ := q9
  refine jr_i2l (pc := 13) F dX1_editionWith_13 ?_
  refine jr_callS (pc := 14) (As := [_, _, _]) F M (lw_S q2630 q1678 q120 q1679) dX1_editionWith_14 hC_X1_isBetween.2 rfl (Nat.le_of_ble_eq_true rfl) (Nat.le_of_ble_eq_true rfl) (Nat.le_of_ble_eq_true rfl) (Nat.zero_le _) (cC_X1_isBetween J w) (fun v9 h9 q9 => ?_) (fun E9 q9 h9 w9 => jr_out F M O (hE _ _ _ w9))
  obtain ⟨r8, rfl, w⟩ := q9
  obtain ⟨c10, hk9, w⟩ := w
  refine jr_callS (pc := 17) (As := [_]) F M (lw_S q2782 q2783 q120 q2784) dX1_editionWith_17 hC_X1_checkIndex.2 rfl (Nat.le_of_ble_eq_true rfl) (Nat.le_of_ble_eq_true rfl) (Nat.le_of_ble_eq_true rfl) hk9 (cC_X1_checkIndex J w) (fun v9 h12 q9 => ?_) (fun E9 q9 h9 w9 => jr_out F M O (hE _ _ _ w9))
  obtain ⟨rfl, w⟩ := q9
  refine jr_aload_n (pc := 20) F (j := 0) dX1_editionWith_20 rfl ?_
  exact jr_aret (pc := 21) F M (Or.inl ⟨_, rfl⟩) dX1_editionWith_21 (hQ _ _ w)

theorem cC_X1_editionWith {G : jj_G} {l : Launch} (J : jj_GJ G l) {x0 : Option Nat} {x1 : Int} {x2 : Int} {Q : Option Nat → jj_H → Prop} {E : String → Nat → jj_H → Prop} {h : jj_H} {k : Nat} (w : fC_X1_editionWith (jj_gk G) x0 x1 x2 Q E h k) : jj_Ct G l yX1_editionWith (ws_ yX1_editionWith cX1_editionWith 4 (some ((.object "NoteImporter$Edition")))) 14 642 [.inr (.inr (.inl x0)), .inl x1, .inl x2] h k (jc_r Q) E := by
  refine jj_Ct.of (jK_gs J).1 (by decide +kernel) (Nat.le_of_ble_eq_true rfl) rfl (fun X hG hl F M O hnm => ?_)
  subst hG; subst hl
  exact sC_X1_editionWith F M O J hnm (fun r h q => ⟨r, rfl, q⟩) (fun _ _ _ q => q) _ _ _ _ _ w
theorem hC_X1_editionWith : yX1_editionWith.cls = RX1 ∧ yX1_editionWith.cls ≠ "java/lang/invoke/MethodHandle" ∧ yX1_editionWith.cls ≠ "java/lang/invoke/VarHandle" ∧ (parseMethodDescriptor yX1_editionWith.desc).map (fun d => d.parameters.length) = some 2 := by decide +kernel
/-! X1_word(III)I -/
def fC_X1_word (gk : Nat → Nat) (x0 : Option Nat) (x1 : Int) (x2 : Int) (x3 : Int) (Q : Int → jj_H → Prop) (E : String → Nat → jj_H → Prop) (h : jj_H) (k : Nat) : Prop :=
  jp_is h x0 1 ∧ ∃ c1, c1 ≤ k ∧ fC_X1_editionWith gk x0 x1 x2 (fun r2 h3 =>
  fC_X1_isBetween gk (jj_i2l x3) 0 5 (fun r5 h6 =>
  ∃ c7, c7 ≤ (k - c1) ∧ fC_X1_checkArgument gk r5 (fun h9 =>
  jj_r x3 ∧
  (x3 = 0 → (
    jp_is h9 r2 3 ∧ fC_X5_page gk r2 x2 (fun r11 h12 =>
    Q r11 h12) E h9 0)) ∧
  (x3 = 1 → (
    jp_gr h9 r2 3 4 (fun g13 =>
    jp_al h9 g13 0 x2 (fun g14 =>
    jp_gi h9 r2 3 3 (fun g15 =>
    (jj_r g15 ∧ g15 ≠ 0) ∧
    Q (jj_rem g14 g15) h9))))) ∧
  (x3 = 2 → (
    jp_gr h9 r2 3 5 (fun g16 =>
    jp_al h9 g16 0 x2 (fun g17 =>
    Q g17 h9)))) ∧
  (x3 = 3 → (
    jp_gr h9 r2 3 6 (fun g18 =>
    jp_al h9 g18 0 x2 (fun g19 =>
    Q g19 h9)))) ∧
  (x3 = 4 → (
    jp_gr h9 r2 3 0 (fun g20 =>
    jq_J2_get g20 x2 (fun r23 h21 k22 =>
    jp_is h21 r23 25 ∧
    jq_J9_length r23 (fun r26 h24 k25 =>
    Q r26 h24) h21 k22) h9 ((k - c1) - c7)))) ∧
  ((x3 < 0 ∨ 4 < x3) → (
    jp_gr h9 r2 3 1 (fun g27 =>
    jq_J2_get g27 x2 (fun r30 h28 k29 =>
    jp_is h28 r30 31 ∧
    jq_J34_booleanValue r30 (fun r33 h31 k32 =>
    jj_r r33 ∧ (r33 = 0 → (
      Q 0 h31)) ∧
    (¬ r33 = 0 → (
      Q 1 h31))) h28 k29) h9 ((k - c1) - c7))))) E h6 c7) E h3 0) E h c1
theorem sC_X1_word {X : jj_X} {N : Option jj_AV → jj_H → Prop} {XN : String → Nat → jj_H → Prop} (F : jj_F X RX1 cX1_word 5) (M : jj_M X (some (.int)) 15 665 N XN) (O : jj_no X) (J : jj_GJ X.1 X.2.2.1) (hi : X.2.2.2.2.2.2.2.2.2.1.name = yX1_word.name) {Q : Int → jj_H → Prop} {E : String → Nat → jj_H → Prop} (hQ : ∀ r h, Q r h → N (some (.inl r)) h) (hE : ∀ e q h, E e q h → XN e q h) (x0 : Option Nat) (x1 : Int) (x2 : Int) (x3 : Int) : ∀ (h : jj_H) (k : Nat), fC_X1_word (jj_gk X.1) x0 x1 x2 x3 Q E h k → jj_J X 5 0 [(0, .inr (.inr (.inl x0))), (1, .inl x1), (2, .inl x2), (3, .inl x3)] [] h k := by
  intro h k w
  unfold fC_X1_word at w
  refine jr_aload_n (pc := 0) F (j := 0) dX1_word_0 rfl ?_
  refine jr_iload_n (pc := 1) F (j := 1) dX1_word_1 rfl ?_
  refine jr_iload_n (pc := 2) F (j := 2) dX1_word_2 rfl ?_
  obtain ⟨hi9, c1, hk9, w⟩ := w
  refine jr_cV (pc := 3) (As := [_, _]) (ci := 1) F M (lw_V q2817 q2819 qs38 q120 q2820) dX1_word_3 hC_X1_editionWith rfl (Nat.le_of_ble_eq_true rfl) (Nat.le_of_ble_eq_true rfl) (Nat.le_of_ble_eq_true rfl) rfl hi9 hk9 (cC_X1_editionWith J w) (fun v9 h3 q9 => ?_) (fun E9 q9 h9 w9 => jr_out F M O (hE _ _ _ w9))
  obtain ⟨r2, rfl, w⟩ := q9
  refine jr_astore (pc := 6) F (vs' := [(4, .inr (.inr (.inl _))), (0, .inr (.inr (.inl _))), (1, .inl _), (2, .inl _), (3, .inl _)]) dX1_word_6 (Nat.le_of_ble_eq_true rfl) rfl ?_
  refine jr_iload_n (pc := 8) F (j := 4) dX1_word_8 rfl ?_
  refine jr_i2l (pc := 9) F dX1_word_9 ?_
  refine jr_lconst (pc := 10) F (x := 0) dX1_word_10 (by decide +kernel) ?_
  refine jr_ldc2 (pc := 11) F (x := 5) q2643 dX1_word_11 (by decide +kernel) ?_
  refine jr_callS (pc := 14) (As := [_, _, _]) F M (lw_S q2630 q1678 q120 q1679) dX1_word_14 hC_X1_isBetween.2 rfl (Nat.le_of_ble_eq_true rfl) (Nat.le_of_ble_eq_true rfl) (Nat.le_of_ble_eq_true rfl) (Nat.zero_le _) (cC_X1_isBetween J w) (fun v9 h6 q9 => ?_) (fun E9 q9 h9 w9 => jr_out F M O (hE _ _ _ w9))
  obtain ⟨r5, rfl, w⟩ := q9
  obtain ⟨c7, hk9, w⟩ := w
  refine jr_callS (pc := 17) (As := [_]) F M (lw_S q2631 q2632 q120 q2633) dX1_word_17 hC_X1_checkArgument.2 rfl (Nat.le_of_ble_eq_true rfl) (Nat.le_of_ble_eq_true rfl) (Nat.le_of_ble_eq_true rfl) hk9 (cC_X1_checkArgument J w) (fun v9 h9 q9 => ?_) (fun E9 q9 h9 w9 => jr_out F M O (hE _ _ _ w9))
  obtain ⟨rfl, w⟩ := q9
  refine jr_iload_n (pc := 20) F (j := 4) dX1_word_20 rfl ?_
  obtain ⟨hx9, w⟩ := w
  obtain ⟨w9, w⟩ := w
  rcases Decidable.em (x3 = 0) with e9 | e9_0
  · have w := w9 e9
    refine jr_tabIn (pc := 21) (tgt := 56) (off := 35) F hx9 dX1_word_21 (by rw [e9]; decide) (by rw [e9]; decide) (by rw [e9]; rfl) rfl ?_
    refine jr_aload (pc := 56) F (j := 0) dX1_word_56 rfl ?_
    refine jr_iload_n (pc := 58) F (j := 3) dX1_word_58 rfl ?_
    obtain ⟨hi9, w⟩ := w
    refine jr_cV (pc := 59) (As := [_]) (ci := 3) F M (lw_V q1665 q1666 q1667 q149 q1668) dX1_word_59 hC_X5_page rfl (Nat.le_of_ble_eq_true rfl) (Nat.le_of_ble_eq_true rfl) (Nat.le_of_ble_eq_true rfl) rfl hi9 (Nat.zero_le _) (cC_X5_page J w) (fun v9 h12 q9 => ?_) (fun E9 q9 h9 w9 => jr_out F M O (hE _ _ _ w9))
    obtain ⟨r11, rfl, w⟩ := q9
    exact jr_iret (pc := 62) F M dX1_word_62 (hQ _ _ w)
  obtain ⟨w9, w⟩ := w
  rcases Decidable.em (x3 = 1) with e9 | e9_1
  · have w := w9 e9
    refine jr_tabIn (pc := 21) (tgt := 63) (off := 42) F hx9 dX1_word_21 (by rw [e9]; decide) (by rw [e9]; decide) (by rw [e9]; rfl) rfl ?_
    refine jr_aload (pc := 63) F (j := 0) dX1_word_63 rfl ?_
    refine jr_grN (pc := 65) (ci := 3) (f := 4) F rfl in_X5 (Nat.le_of_ble_eq_true rfl) q1874 dX1_word_65 w (fun g13 w => ?_)
    refine jr_iload_n (pc := 68) F (j := 3) dX1_word_68 rfl ?_
    refine jr_iald (pc := 69) F dX1_word_69 w (fun g14 w => ?_)
    refine jr_aload (pc := 70) F (j := 0) dX1_word_70 rfl ?_
    refine jr_giN (pc := 72) (ci := 3) (f := 3) F rfl in_X5 (Nat.le_of_ble_eq_true rfl) q1870 dX1_word_72 w (fun g15 w => ?_)
    obtain ⟨hd9, w⟩ := w
    refine jr_irem (pc := 75) F dX1_word_75 hd9 ?_
    exact jr_iret (pc := 76) F M dX1_word_76 (hQ _ _ w)
  obtain ⟨w9, w⟩ := w
  rcases Decidable.em (x3 = 2) with e9 | e9_2
  · have w := w9 e9
    refine jr_tabIn (pc := 21) (tgt := 77) (off := 56) F hx9 dX1_word_21 (by rw [e9]; decide) (by rw [e9]; decide) (by rw [e9]; rfl) rfl ?_
    refine jr_aload (pc := 77) F (j := 0) dX1_word_77 rfl ?_
    refine jr_grN (pc := 79) (ci := 3) (f := 5) F rfl in_X5 (Nat.le_of_ble_eq_true rfl) q1876 dX1_word_79 w (fun g16 w => ?_)
    refine jr_iload_n (pc := 82) F (j := 3) dX1_word_82 rfl ?_
    refine jr_iald (pc := 83) F dX1_word_83 w (fun g17 w => ?_)
    exact jr_iret (pc := 84) F M dX1_word_84 (hQ _ _ w)
  obtain ⟨w9, w⟩ := w
  rcases Decidable.em (x3 = 3) with e9 | e9_3
  · have w := w9 e9
    refine jr_tabIn (pc := 21) (tgt := 85) (off := 64) F hx9 dX1_word_21 (by rw [e9]; decide) (by rw [e9]; decide) (by rw [e9]; rfl) rfl ?_
    refine jr_aload (pc := 85) F (j := 0) dX1_word_85 rfl ?_
    refine jr_grN (pc := 87) (ci := 3) (f := 6) F rfl in_X5 (Nat.le_of_ble_eq_true rfl) q1878 dX1_word_87 w (fun g18 w => ?_)
    refine jr_iload_n (pc := 90) F (j := 3) dX1_word_90 rfl ?_
    refine jr_iald (pc := 91) F dX1_word_91 w (fun g19 w => ?_)
    exact jr_iret (pc := 92) F M dX1_word_92 (hQ _ _ w)
  obtain ⟨w9, w⟩ := w
  rcases Decidable.em (x3 = 4) with e9 | e9_4
  · have w := w9 e9
    refine jr_tabIn (pc := 21) (tgt := 93) (off := 72) F hx9 dX1_word_21 (by rw [e9]; decide) (by rw [e9]; decide) (by rw [e9]; rfl) rfl ?_
    refine jr_aload (pc := 93) F (j := 0) dX1_word_93 rfl ?_
    refine jr_grN (pc := 95) (ci := 3) (f := 0) F rfl in_X5 (Nat.le_of_ble_eq_true rfl) q1863 dX1_word_95 w (fun g20 w => ?_)
    refine jr_iload_n (pc := 98) F (j := 3) dX1_word_98 rfl ?_
    refine jr_jV (pc := 99) (As := [_]) (ci := 14) F M (lw_V q1613 q681 q682 q124 q683) dX1_word_99 hj_J2_get rfl (Nat.le_of_ble_eq_true rfl) (Nat.le_of_ble_eq_true rfl) (Nat.le_of_ble_eq_true rfl) rfl (jK_J2_get J _ _ _ _ _ w) (fun v9 h21 k22 q9 => ?_)
    obtain ⟨r23, rfl, w⟩ := q9
    obtain ⟨hi9, w⟩ := w
    refine jr_cast (pc := 102) (ci := 25) F rfl q2761 dX1_word_102 hi9 ?_
    refine jr_jV (pc := 105) (As := []) (ci := 25) F M (lw_V q2822 q374 q375 q131 q376) dX1_word_105 hj_J9_length rfl (Nat.le_of_ble_eq_true rfl) (Nat.le_of_ble_eq_true rfl) (Nat.le_of_ble_eq_true rfl) rfl (jK_J9_length J _ _ _ _ w) (fun v9 h24 k25 q9 => ?_)
    obtain ⟨r26, rfl, w⟩ := q9
    exact jr_iret (pc := 108) F M dX1_word_108 (hQ _ _ w)
  have c9 := jj_to4 e9_0 e9_1 e9_2 e9_3 e9_4
  have w := w c9
  refine jr_tabOut (pc := 21) (tgt := 109) F hx9 dX1_word_21 c9 rfl ?_
  refine jr_aload (pc := 109) F (j := 0) dX1_word_109 rfl ?_
  refine jr_grN (pc := 111) (ci := 3) (f := 1) F rfl in_X5 (Nat.le_of_ble_eq_true rfl) q1865 dX1_word_111 w (fun g27 w => ?_)
  refine jr_iload_n (pc := 114) F (j := 3) dX1_word_114 rfl ?_
  refine jr_jV (pc := 115) (As := [_]) (ci := 14) F M (lw_V q1613 q681 q682 q124 q683) dX1_word_115 hj_J2_get rfl (Nat.le_of_ble_eq_true rfl) (Nat.le_of_ble_eq_true rfl) (Nat.le_of_ble_eq_true rfl) rfl (jK_J2_get J _ _ _ _ _ w) (fun v9 h28 k29 q9 => ?_)
  obtain ⟨r30, rfl, w⟩ := q9
  obtain ⟨hi9, w⟩ := w
  refine jr_cast (pc := 118) (ci := 31) F rfl q2823 dX1_word_118 hi9 ?_
  refine jr_jV (pc := 121) (As := []) (ci := 31) F M (lw_V q2824 q1307 q1308 q161 q1309) dX1_word_121 hj_J34_booleanValue rfl (Nat.le_of_ble_eq_true rfl) (Nat.le_of_ble_eq_true rfl) (Nat.le_of_ble_eq_true rfl) rfl (jK_J34_booleanValue J _ _ _ _ w) (fun v9 h31 k32 q9 => ?_)
  obtain ⟨r33, rfl, w⟩ := q9
  obtain ⟨hx9, w1, w2⟩ := w
  refine jr_if_eq (pc := 124) (tgt := 131) F hx9 dX1_word_124 rfl (fun c9 => ?_) (fun c9 => ?_)
  · have w := w1 c9
    refine jr_iconst (pc := 131) F dX1_word_131 ?_
    exact jr_iret (pc := 132) F M dX1_word_132 (hQ _ _ w)
  · have w := w2 c9
    refine jr_iconst (pc := 127) F dX1_word_127 ?_
    refine jr_goto (pc := 128) (tgt := 132) F dX1_word_128 rfl ?_
    exact jr_iret (pc := 132) F M dX1_word_132 (hQ _ _ w)

theorem cC_X1_word {G : jj_G} {l : Launch} (J : jj_GJ G l) {x0 : Option Nat} {x1 : Int} {x2 : Int} {x3 : Int} {Q : Int → jj_H → Prop} {E : String → Nat → jj_H → Prop} {h : jj_H} {k : Nat} (w : fC_X1_word (jj_gk G) x0 x1 x2 x3 Q E h k) : jj_Ct G l yX1_word (ws_ yX1_word cX1_word 5 (some (.int))) 15 665 [.inr (.inr (.inl x0)), .inl x1, .inl x2, .inl x3] h k (jc_i Q) E := by
  refine jj_Ct.of (jK_gs J).1 (by decide +kernel) (Nat.le_of_ble_eq_true rfl) rfl (fun X hG hl F M O hnm => ?_)
  subst hG; subst hl
  exact sC_X1_word F M O J hnm (fun r h q => ⟨r, rfl, q⟩) (fun _ _ _ q => q) _ _ _ _ _ _ w
theorem hC_X1_word : yX1_word.cls = RX1 ∧ yX1_word.cls ≠ "java/lang/invoke/MethodHandle" ∧ yX1_word.cls ≠ "java/lang/invoke/VarHandle" ∧ (parseMethodDescriptor yX1_word.desc).map (fun d => d.parameters.length) = some 3 := by decide +kernel
/-! X1_letter(III)I -/
def fC_X1_letter (gk : Nat → Nat) (x0 : Option Nat) (x1 : Int) (x2 : Int) (x3 : Int) (Q : Int → jj_H → Prop) (E : String → Nat → jj_H → Prop) (h : jj_H) (k : Nat) : Prop :=
  jp_is h x0 1 ∧ ∃ c1, c1 ≤ k ∧ fC_X1_editionWith gk x0 x1 x2 (fun r2 h3 =>
  jp_gr h3 r2 3 0 (fun g4 =>
  jq_J2_get g4 x2 (fun r7 h5 k6 =>
  jp_is h5 r7 25 ∧
  jq_J9_length r7 (fun r10 h8 k9 =>
  fC_X1_isBetween gk (jj_i2l x3) 0 (jj_i2l (r10 - 1)) (fun r12 h13 =>
  ∃ c14, c14 ≤ k9 ∧ fC_X1_checkIndex gk r12 (fun h16 =>
  jq_J9_charAt r7 x3 (fun r19 h17 k18 =>
  Q r19 h17) h16 (k9 - c14)) E h13 c14) E h8 0) h5 k6) h3 (k - c1))) E h c1
theorem sC_X1_letter {X : jj_X} {N : Option jj_AV → jj_H → Prop} {XN : String → Nat → jj_H → Prop} (F : jj_F X RX1 cX1_letter 5) (M : jj_M X (some (.int)) 15 665 N XN) (O : jj_no X) (J : jj_GJ X.1 X.2.2.1) (hi : X.2.2.2.2.2.2.2.2.2.1.name = yX1_letter.name) {Q : Int → jj_H → Prop} {E : String → Nat → jj_H → Prop} (hQ : ∀ r h, Q r h → N (some (.inl r)) h) (hE : ∀ e q h, E e q h → XN e q h) (x0 : Option Nat) (x1 : Int) (x2 : Int) (x3 : Int) : ∀ (h : jj_H) (k : Nat), fC_X1_letter (jj_gk X.1) x0 x1 x2 x3 Q E h k → jj_J X 5 0 [(0, .inr (.inr (.inl x0))), (1, .inl x1), (2, .inl x2), (3, .inl x3)] [] h k := by
  intro h k w
  unfold fC_X1_letter at w
  refine jr_aload_n (pc := 0) F (j := 0) dX1_letter_0 rfl ?_
  refine jr_iload_n (pc := 1) F (j := 1) dX1_letter_1 rfl ?_
  refine jr_iload_n (pc := 2) F (j := 2) dX1_letter_2 rfl ?_
  obtain ⟨hi9, c1, hk9, w⟩ := w
  refine jr_cV (pc := 3) (As := [_, _]) (ci := 1) F M (lw_V q2817 q2819 qs38 q120 q2820) dX1_letter_3 hC_X1_editionWith rfl (Nat.le_of_ble_eq_true rfl) (Nat.le_of_ble_eq_true rfl) (Nat.le_of_ble_eq_true rfl) rfl hi9 hk9 (cC_X1_editionWith J w) (fun v9 h3 q9 => ?_) (fun E9 q9 h9 w9 => jr_out F M O (hE _ _ _ w9))
  obtain ⟨r2, rfl, w⟩ := q9
  refine jr_grN (pc := 6) (ci := 3) (f := 0) F rfl in_X5 (Nat.le_of_ble_eq_true rfl) q1863 dX1_letter_6 w (fun g4 w => ?_)
  refine jr_iload_n (pc := 9) F (j := 2) dX1_letter_9 rfl ?_
  refine jr_jV (pc := 10) (As := [_]) (ci := 14) F M (lw_V q1613 q681 q682 q124 q683) dX1_letter_10 hj_J2_get rfl (Nat.le_of_ble_eq_true rfl) (Nat.le_of_ble_eq_true rfl) (Nat.le_of_ble_eq_true rfl) rfl (jK_J2_get J _ _ _ _ _ w) (fun v9 h5 k6 q9 => ?_)
  obtain ⟨r7, rfl, w⟩ := q9
  obtain ⟨hi9, w⟩ := w
  refine jr_cast (pc := 13) (ci := 25) F rfl q2761 dX1_letter_13 hi9 ?_
  refine jr_astore (pc := 16) F (vs' := [(4, .inr (.inr (.inl _))), (0, .inr (.inr (.inl _))), (1, .inl _), (2, .inl _), (3, .inl _)]) dX1_letter_16 (Nat.le_of_ble_eq_true rfl) rfl ?_
  refine jr_iload_n (pc := 18) F (j := 4) dX1_letter_18 rfl ?_
  refine jr_i2l (pc := 19) F dX1_letter_19 ?_
  refine jr_lconst (pc := 20) F (x := 0) dX1_letter_20 (by decide +kernel) ?_
  refine jr_aload (pc := 21) F (j := 0) dX1_letter_21 rfl ?_
  refine jr_jV (pc := 23) (As := []) (ci := 25) F M (lw_V q2822 q374 q375 q131 q376) dX1_letter_23 hj_J9_length rfl (Nat.le_of_ble_eq_true rfl) (Nat.le_of_ble_eq_true rfl) (Nat.le_of_ble_eq_true rfl) rfl (jK_J9_length J _ _ _ _ w) (fun v9 h8 k9 q9 => ?_)
  obtain ⟨r10, rfl, w⟩ := q9
  refine jr_iconst (pc := 26) F dX1_letter_26 ?_
  refine jr_isub (pc := 27) F dX1_letter_27 ?_
  refine jr_i2l (pc := 28) F dX1_letter_28 ?_
  refine jr_callS (pc := 29) (As := [_, _, _]) F M (lw_S q2630 q1678 q120 q1679) dX1_letter_29 hC_X1_isBetween.2 rfl (Nat.le_of_ble_eq_true rfl) (Nat.le_of_ble_eq_true rfl) (Nat.le_of_ble_eq_true rfl) (Nat.zero_le _) (cC_X1_isBetween J w) (fun v9 h13 q9 => ?_) (fun E9 q9 h9 w9 => jr_out F M O (hE _ _ _ w9))
  obtain ⟨r12, rfl, w⟩ := q9
  obtain ⟨c14, hk9, w⟩ := w
  refine jr_callS (pc := 32) (As := [_]) F M (lw_S q2782 q2783 q120 q2784) dX1_letter_32 hC_X1_checkIndex.2 rfl (Nat.le_of_ble_eq_true rfl) (Nat.le_of_ble_eq_true rfl) (Nat.le_of_ble_eq_true rfl) hk9 (cC_X1_checkIndex J w) (fun v9 h16 q9 => ?_) (fun E9 q9 h9 w9 => jr_out F M O (hE _ _ _ w9))
  obtain ⟨rfl, w⟩ := q9
  refine jr_aload (pc := 35) F (j := 0) dX1_letter_35 rfl ?_
  refine jr_iload_n (pc := 37) F (j := 4) dX1_letter_37 rfl ?_
  refine jr_jV (pc := 38) (As := [_]) (ci := 25) F M (lw_V q2832 q2833 q2834 q131 q2835) dX1_letter_38 hj_J9_charAt rfl (Nat.le_of_ble_eq_true rfl) (Nat.le_of_ble_eq_true rfl) (Nat.le_of_ble_eq_true rfl) rfl (jK_J9_charAt J _ _ _ _ _ w) (fun v9 h17 k18 q9 => ?_)
  obtain ⟨r19, rfl, w⟩ := q9
  exact jr_iret (pc := 41) F M dX1_letter_41 (hQ _ _ w)

theorem cC_X1_letter {G : jj_G} {l : Launch} (J : jj_GJ G l) {x0 : Option Nat} {x1 : Int} {x2 : Int} {x3 : Int} {Q : Int → jj_H → Prop} {E : String → Nat → jj_H → Prop} {h : jj_H} {k : Nat} (w : fC_X1_letter (jj_gk G) x0 x1 x2 x3 Q E h k) : jj_Ct G l yX1_letter (ws_ yX1_letter cX1_letter 5 (some (.int))) 15 665 [.inr (.inr (.inl x0)), .inl x1, .inl x2, .inl x3] h k (jc_i Q) E := by
  refine jj_Ct.of (jK_gs J).1 (by decide +kernel) (Nat.le_of_ble_eq_true rfl) rfl (fun X hG hl F M O hnm => ?_)
  subst hG; subst hl
  exact sC_X1_letter F M O J hnm (fun r h q => ⟨r, rfl, q⟩) (fun _ _ _ q => q) _ _ _ _ _ _ w
theorem hC_X1_letter : yX1_letter.cls = RX1 ∧ yX1_letter.cls ≠ "java/lang/invoke/MethodHandle" ∧ yX1_letter.cls ≠ "java/lang/invoke/VarHandle" ∧ (parseMethodDescriptor yX1_letter.desc).map (fun d => d.parameters.length) = some 3 := by decide +kernel
/-! X1_oneWord()Ljava/lang/String; -/
def fC_X1_oneWord (gk : Nat → Nat) (x0 : Option Nat) (Q : Option Nat → jj_H → Prop) (E : String → Nat → jj_H → Prop) (h : jj_H) (k : Nat) : Prop :=
  jp_is h x0 1 ∧ ∃ c1, c1 ≤ k ∧ fC_X1_words gk x0 1 1 (fun r2 h3 =>
  jq_J2_get r2 0 (fun r6 h4 k5 =>
  jp_is h4 r6 25 ∧
  Q r6 h4) h3 (k - c1)) E h c1
theorem sC_X1_oneWord {X : jj_X} {N : Option jj_AV → jj_H → Prop} {XN : String → Nat → jj_H → Prop} (F : jj_F X RX1 cX1_oneWord 1) (M : jj_M X (some ((.object "java/lang/String"))) 16 693 N XN) (O : jj_no X) (J : jj_GJ X.1 X.2.2.1) (hi : X.2.2.2.2.2.2.2.2.2.1.name = yX1_oneWord.name) {Q : Option Nat → jj_H → Prop} {E : String → Nat → jj_H → Prop} (hQ : ∀ r h, Q r h → N (some (.inr (.inr (.inl r)))) h) (hE : ∀ e q h, E e q h → XN e q h) (x0 : Option Nat) : ∀ (h : jj_H) (k : Nat), fC_X1_oneWord (jj_gk X.1) x0 Q E h k → jj_J X 1 0 [(0, .inr (.inr (.inl x0)))] [] h k := by
  intro h k w
  unfold fC_X1_oneWord at w
  refine jr_aload_n (pc := 0) F (j := 0) dX1_oneWord_0 rfl ?_
  refine jr_iconst (pc := 1) F dX1_oneWord_1 ?_
  refine jr_iconst (pc := 2) F dX1_oneWord_2 ?_
  obtain ⟨hi9, c1, hk9, w⟩ := w
  refine jr_cVX (pc := 3) (As := [_, _]) (ci := 1) F M (lw_VW q2657 q2659 qs34 q120 q2660) dX1_oneWord_3 hC_X1_words rfl (Nat.le_of_ble_eq_true rfl) (Nat.le_of_ble_eq_true rfl) (Nat.le_of_ble_eq_true rfl) rfl hi9 hk9 (cC_X1_words J w) (fun v9 h3 q9 => ?_) (fun E9 q9 h9 w9 => jr_out F M O (hE _ _ _ w9))
  obtain ⟨r2, rfl, w⟩ := q9
  refine jr_iconst (pc := 6) F dX1_oneWord_6 ?_
  refine jr_jV (pc := 7) (As := [_]) (ci := 14) F M (lw_V q1613 q681 q682 q124 q683) dX1_oneWord_7 hj_J2_get rfl (Nat.le_of_ble_eq_true rfl) (Nat.le_of_ble_eq_true rfl) (Nat.le_of_ble_eq_true rfl) rfl (jK_J2_get J _ _ _ _ _ w) (fun v9 h4 k5 q9 => ?_)
  obtain ⟨r6, rfl, w⟩ := q9
  obtain ⟨hi9, w⟩ := w
  refine jr_cast (pc := 10) (ci := 25) F rfl q2761 dX1_oneWord_10 hi9 ?_
  exact jr_aret (pc := 13) F M (Or.inl ⟨_, rfl⟩) dX1_oneWord_13 (hQ _ _ w)

theorem cC_X1_oneWord {G : jj_G} {l : Launch} (J : jj_GJ G l) {x0 : Option Nat} {Q : Option Nat → jj_H → Prop} {E : String → Nat → jj_H → Prop} {h : jj_H} {k : Nat} (w : fC_X1_oneWord (jj_gk G) x0 Q E h k) : jj_Ct G l yX1_oneWord (ws_ yX1_oneWord cX1_oneWord 1 (some ((.object "java/lang/String")))) 16 693 [.inr (.inr (.inl x0))] h k (jc_r Q) E := by
  refine jj_Ct.of (jK_gs J).1 (by decide +kernel) (Nat.le_of_ble_eq_true rfl) rfl (fun X hG hl F M O hnm => ?_)
  subst hG; subst hl
  exact sC_X1_oneWord F M O J hnm (fun r h q => ⟨r, rfl, q⟩) (fun _ _ _ q => q) _ _ _ w
theorem hC_X1_oneWord : yX1_oneWord.cls = RX1 ∧ yX1_oneWord.cls ≠ "java/lang/invoke/MethodHandle" ∧ yX1_oneWord.cls ≠ "java/lang/invoke/VarHandle" ∧ (parseMethodDescriptor yX1_oneWord.desc).map (fun d => d.parameters.length) = some 0 := by decide +kernel
/-! X6_inserted(I)V -/
def fC_X6_inserted_j40 (gk : Nat → Nat) (y0 : Option Nat) (y1 : Int) (y2 : Int) (Q : jj_H → Prop) (E : String → Nat → jj_H → Prop) (h : jj_H) (k : Nat) : Prop :=
  jp_pi h y0 4 5 (y1 + y2) (fun h1 =>
  Q h1)
def fC_X6_inserted_j18 (gk : Nat → Nat) (x0 : Option Nat) (x1 : Int) (y0 : Option Nat) (y1 : Int) (y2 : Int) (Q : jj_H → Prop) (E : String → Nat → jj_H → Prop) (h : jj_H) (k : Nat) : Prop :=
  jp_pi h y0 4 6 (y1 + y2) (fun h2 =>
  jp_gi h2 x0 4 5 (fun g3 =>
  jp_gi h2 x0 4 5 (fun g4 =>
  jj_r x1 ∧ jj_r g4 ∧ (g4 < x1 → (
    fC_X6_inserted_j40 gk x0 g3 0 Q E h2 k)) ∧
  (¬ g4 < x1 → (
    fC_X6_inserted_j40 gk x0 g3 1 Q E h2 k)))))
def fC_X6_inserted (gk : Nat → Nat) (x0 : Option Nat) (x1 : Int) (Q : jj_H → Prop) (E : String → Nat → jj_H → Prop) (h : jj_H) (k : Nat) : Prop :=
  jp_gi h x0 4 6 (fun g5 =>
  jp_gi h x0 4 6 (fun g6 =>
  jj_r x1 ∧ jj_r g6 ∧ (g6 < x1 → (
    fC_X6_inserted_j18 gk x0 x1 x0 g5 0 Q E h k)) ∧
  (¬ g6 < x1 → (
    fC_X6_inserted_j18 gk x0 x1 x0 g5 1 Q E h k))))
theorem sC_X6_inserted_j40 {X : jj_X} {N : Option jj_AV → jj_H → Prop} {XN : String → Nat → jj_H → Prop} (F : jj_F X RX6 cX6_inserted 2) (M : jj_M X (none) 0 0 N XN) (O : jj_no X) (J : jj_GJ X.1 X.2.2.1) (hi : X.2.2.2.2.2.2.2.2.2.1.name = yX6_inserted.name) {Q : jj_H → Prop} {E : String → Nat → jj_H → Prop} (hQ : ∀ h, Q h → N none h) (hE : ∀ e q h, E e q h → XN e q h) (y0 : Option Nat) (y1 : Int) (y2 : Int) : ∀ (h : jj_H) (k : Nat), fC_X6_inserted_j40 (jj_gk X.1) y0 y1 y2 Q E h k → jj_J X 2 40 [] [.inl y2, .inl y1, .inr (.inr (.inl y0))] h k := by
  intro h k w
  unfold fC_X6_inserted_j40 at w
  refine jr_iadd (pc := 40) F dX6_inserted_40 ?_
  refine jr_pi (pc := 41) (ci := 4) (f := 5) F rfl in_X6 tyX6_ok nmX6 (Nat.le_of_ble_eq_true rfl) rfl rfl q2310 dX6_inserted_41 w (fun h1 w => ?_)
  exact jr_vret (pc := 44) F M dX6_inserted_44 (hQ _ w)

theorem sC_X6_inserted_j18 {X : jj_X} {N : Option jj_AV → jj_H → Prop} {XN : String → Nat → jj_H → Prop} (F : jj_F X RX6 cX6_inserted 2) (M : jj_M X (none) 0 0 N XN) (O : jj_no X) (J : jj_GJ X.1 X.2.2.1) (hi : X.2.2.2.2.2.2.2.2.2.1.name = yX6_inserted.name) {Q : jj_H → Prop} {E : String → Nat → jj_H → Prop} (hQ : ∀ h, Q h → N none h) (hE : ∀ e q h, E e q h → XN e q h) (x0 : Option Nat) (x1 : Int) (y0 : Option Nat) (y1 : Int) (y2 : Int) : ∀ (h : jj_H) (k : Nat), fC_X6_inserted_j18 (jj_gk X.1) x0 x1 y0 y1 y2 Q E h k → jj_J X 2 18 [(0, .inr (.inr (.inl x0))), (1, .inl x1)] [.inl y2, .inl y1, .inr (.inr (.inl y0))] h k := by
  intro h k w
  unfold fC_X6_inserted_j18 at w
  refine jr_iadd (pc := 18) F dX6_inserted_18 ?_
  refine jr_pi (pc := 19) (ci := 4) (f := 6) F rfl in_X6 tyX6_ok nmX6 (Nat.le_of_ble_eq_true rfl) rfl rfl q2313 dX6_inserted_19 w (fun h2 w => ?_)
  refine jr_aload_n (pc := 22) F (j := 0) dX6_inserted_22 rfl ?_
  refine jr_dup (pc := 23) F dX6_inserted_23 rfl ?_
  refine jr_gi (pc := 24) (ci := 4) (f := 5) F rfl in_X6 (Nat.le_of_ble_eq_true rfl) q2310 dX6_inserted_24 w (fun g3 w => ?_)
  refine jr_iload_n (pc := 27) F (j := 1) dX6_inserted_27 rfl ?_
  refine jr_aload_n (pc := 28) F (j := 0) dX6_inserted_28 rfl ?_
  refine jr_gi (pc := 29) (ci := 4) (f := 5) F rfl in_X6 (Nat.le_of_ble_eq_true rfl) q2310 dX6_inserted_29 w (fun g4 w => ?_)
  obtain ⟨hx9, hy9, w1, w2⟩ := w
  refine jr_icmp_gt (pc := 32) (tgt := 39) F hx9 hy9 dX6_inserted_32 rfl (fun c9 => ?_) (fun c9 => ?_)
  · have w := w1 c9
    refine jr_iconst (pc := 39) F dX6_inserted_39 ?_
    refine jj_J.sub [] rfl ?_
    exact sC_X6_inserted_j40 F M O J hi hQ hE _ _ _ _ _ w
  · have w := w2 c9
    refine jr_iconst (pc := 35) F dX6_inserted_35 ?_
    refine jr_goto (pc := 36) (tgt := 40) F dX6_inserted_36 rfl ?_
    refine jj_J.sub [] rfl ?_
    exact sC_X6_inserted_j40 F M O J hi hQ hE _ _ _ _ _ w

theorem sC_X6_inserted {X : jj_X} {N : Option jj_AV → jj_H → Prop} {XN : String → Nat → jj_H → Prop} (F : jj_F X RX6 cX6_inserted 2) (M : jj_M X (none) 0 0 N XN) (O : jj_no X) (J : jj_GJ X.1 X.2.2.1) (hi : X.2.2.2.2.2.2.2.2.2.1.name = yX6_inserted.name) {Q : jj_H → Prop} {E : String → Nat → jj_H → Prop} (hQ : ∀ h, Q h → N none h) (hE : ∀ e q h, E e q h → XN e q h) (x0 : Option Nat) (x1 : Int) : ∀ (h : jj_H) (k : Nat), fC_X6_inserted (jj_gk X.1) x0 x1 Q E h k → jj_J X 2 0 [(0, .inr (.inr (.inl x0))), (1, .inl x1)] [] h k := by
  intro h k w
  unfold fC_X6_inserted at w
  refine jr_aload_n (pc := 0) F (j := 0) dX6_inserted_0 rfl ?_
  refine jr_dup (pc := 1) F dX6_inserted_1 rfl ?_
  refine jr_gi (pc := 2) (ci := 4) (f := 6) F rfl in_X6 (Nat.le_of_ble_eq_true rfl) q2313 dX6_inserted_2 w (fun g5 w => ?_)
  refine jr_iload_n (pc := 5) F (j := 1) dX6_inserted_5 rfl ?_
  refine jr_aload_n (pc := 6) F (j := 0) dX6_inserted_6 rfl ?_
  refine jr_gi (pc := 7) (ci := 4) (f := 6) F rfl in_X6 (Nat.le_of_ble_eq_true rfl) q2313 dX6_inserted_7 w (fun g6 w => ?_)
  obtain ⟨hx9, hy9, w1, w2⟩ := w
  refine jr_icmp_gt (pc := 10) (tgt := 17) F hx9 hy9 dX6_inserted_10 rfl (fun c9 => ?_) (fun c9 => ?_)
  · have w := w1 c9
    refine jr_iconst (pc := 17) F dX6_inserted_17 ?_
    exact sC_X6_inserted_j18 F M O J hi hQ hE _ _ _ _ _ _ _ w
  · have w := w2 c9
    refine jr_iconst (pc := 13) F dX6_inserted_13 ?_
    refine jr_goto (pc := 14) (tgt := 18) F dX6_inserted_14 rfl ?_
    exact sC_X6_inserted_j18 F M O J hi hQ hE _ _ _ _ _ _ _ w

theorem cC_X6_inserted {G : jj_G} {l : Launch} (J : jj_GJ G l) {x0 : Option Nat} {x1 : Int} {Q : jj_H → Prop} {E : String → Nat → jj_H → Prop} {h : jj_H} {k : Nat} (w : fC_X6_inserted (jj_gk G) x0 x1 Q E h k) : jj_Ct G l yX6_inserted (ws_ yX6_inserted cX6_inserted 2 (none)) 0 0 [.inr (.inr (.inl x0)), .inl x1] h k (jc_v Q) E := by
  refine jj_Ct.of (jK_gs J).1 (by decide +kernel) (Nat.le_of_ble_eq_true rfl) rfl (fun X hG hl F M O hnm => ?_)
  subst hG; subst hl
  exact sC_X6_inserted F M O J hnm (fun h q => ⟨rfl, q⟩) (fun _ _ _ q => q) _ _ _ _ w
theorem hC_X6_inserted : yX6_inserted.cls = RX6 ∧ yX6_inserted.cls ≠ "java/lang/invoke/MethodHandle" ∧ yX6_inserted.cls ≠ "java/lang/invoke/VarHandle" ∧ (parseMethodDescriptor yX6_inserted.desc).map (fun d => d.parameters.length) = some 1 := by decide +kernel
/-! X1_insertWord(II)I -/
def fC_X1_insertWord_l106 (gk : Nat → Nat) (x0 : Option Nat) (x1 : Int) (x2 : Int) (x3 : Option Nat) (x5 : Option Nat) (Q : Int → jj_H → Prop) (E : String → Nat → jj_H → Prop) : Nat → jj_H → Nat → Prop
  | 0, _, _ => False
  | n + 1, h, k =>
  jq_J21_hasNext x5 (fun r3 h1 k2 =>
  jj_r r3 ∧ (r3 = 0 → (
    jp_is h1 x0 1 ∧ fC_X1_change gk x0 (fun h6 =>
    jp_is h6 x3 3 ∧ fC_X5_size gk x3 (fun r8 h9 =>
    Q r8 h9) E h6 0) E h1 0)) ∧
  (¬ r3 = 0 → (
    jq_J21_next x5 (fun r12 h10 k11 =>
    jp_is h10 r12 4 ∧
    jp_gi h10 r12 4 2 (fun g13 =>
    jj_r g13 ∧ jj_r x1 ∧ (¬ g13 = x1 → (
      fC_X1_insertWord_l106 gk x0 x1 x2 x3 x5 Q E n h10 k11)) ∧
    (g13 = x1 → (
      jp_is h10 r12 4 ∧ fC_X6_inserted gk r12 x2 (fun h16 =>
      fC_X1_insertWord_l106 gk x0 x1 x2 x3 x5 Q E n h16 k11) E h10 0)))) h1 k2))) h k
def fC_X1_insertWord_j90 (gk : Nat → Nat) (x0 : Option Nat) (x1 : Int) (x2 : Int) (x3 : Option Nat) (Q : Int → jj_H → Prop) (E : String → Nat → jj_H → Prop) (h : jj_H) (k : Nat) : Prop :=
  jp_is h x3 3 ∧ fC_X5_lay gk x3 (fun h19 =>
  jp_gr h19 x0 1 0 (fun g20 =>
  jp_gr h19 g20 2 1 (fun g21 =>
  jq_J2_iterator g21 (fun r24 h22 k23 =>
  ∃ n9, fC_X1_insertWord_l106 gk x0 x1 x2 x3 r24 Q E n9 h22 k23) h19 k))) E h 0
def fC_X1_insertWord_j67 (gk : Nat → Nat) (x0 : Option Nat) (x1 : Int) (x2 : Int) (x3 : Option Nat) (y0 : Option Nat) (y1 : Int) (y2 : Int) (Q : Int → jj_H → Prop) (E : String → Nat → jj_H → Prop) (h : jj_H) (k : Nat) : Prop :=
  jq_J34_valueOf gk y2 (fun r27 h25 k26 =>
  jq_J2_add_3 y0 y1 r27 (fun h28 k29 =>
  jj_r x2 ∧ (¬ x2 = 0 → (
    fC_X1_insertWord_j90 gk x0 x1 x2 x3 Q E h28 k29)) ∧
  (x2 = 0 → (
    jp_gr h28 x3 3 1 (fun g30 =>
    jq_J34_valueOf gk 0 (fun r33 h31 k32 =>
    jq_J2_set g30 1 r33 (fun r36 h34 k35 =>
    fC_X1_insertWord_j90 gk x0 x1 x2 x3 Q E h34 k35) h31 k32) h28 k29)))) h25 k26) h k
def fC_X1_insertWord_j40 (gk : Nat → Nat) (x0 : Option Nat) (x1 : Int) (x2 : Int) (x3 : Option Nat) (x4 : Option Nat) (y0 : Int) (Q : Int → jj_H → Prop) (E : String → Nat → jj_H → Prop) (h : jj_H) (k : Nat) : Prop :=
  ∃ c37, c37 ≤ k ∧ fC_X1_checkState gk y0 (fun h39 =>
  jp_gr h39 x3 3 0 (fun g40 =>
  jq_J2_add_3 g40 x2 x4 (fun h41 k42 =>
  jp_gr h41 x3 3 1 (fun g43 =>
  jj_r x2 ∧ (¬ x2 = 0 → (
    fC_X1_insertWord_j67 gk x0 x1 x2 x3 g43 x2 0 Q E h41 k42)) ∧
  (x2 = 0 → (
    fC_X1_insertWord_j67 gk x0 x1 x2 x3 g43 x2 1 Q E h41 k42)))) h39 (k - c37))) E h c37
def fC_X1_insertWord (gk : Nat → Nat) (x0 : Option Nat) (x1 : Int) (x2 : Int) (Q : Int → jj_H → Prop) (E : String → Nat → jj_H → Prop) (h : jj_H) (k : Nat) : Prop :=
  jp_is h x0 1 ∧ ∃ c44, c44 ≤ k ∧ fC_X1_edition gk x0 x1 (fun r45 h46 =>
  jp_is h46 r45 3 ∧ fC_X5_size gk r45 (fun r48 h49 =>
  fC_X1_isBetween gk (jj_i2l x2) 0 (jj_i2l r48) (fun r51 h52 =>
  ∃ c53, c53 ≤ (k - c44) ∧ fC_X1_checkIndex gk r51 (fun h55 =>
  jp_is h55 x0 1 ∧ ∃ c56, c56 ≤ ((k - c44) - c53) ∧ fC_X1_oneWord gk x0 (fun r57 h58 =>
  jp_is h58 r45 3 ∧ fC_X5_size gk r45 (fun r60 h61 =>
  jj_r r60 ∧ (120 ≤ r60 → (
    fC_X1_insertWord_j40 gk x0 x1 x2 r45 r57 0 Q E h61 (((k - c44) - c53) - c56))) ∧
  (¬ 120 ≤ r60 → (
    fC_X1_insertWord_j40 gk x0 x1 x2 r45 r57 1 Q E h61 (((k - c44) - c53) - c56)))) E h58 0) E h55 c56) E h52 c53) E h49 0) E h46 0) E h c44
theorem sC_X1_insertWord_l106 {X : jj_X} {N : Option jj_AV → jj_H → Prop} {XN : String → Nat → jj_H → Prop} (F : jj_F X RX1 cX1_insertWord 7) (M : jj_M X (some (.int)) 17 713 N XN) (O : jj_no X) (J : jj_GJ X.1 X.2.2.1) (hi : X.2.2.2.2.2.2.2.2.2.1.name = yX1_insertWord.name) {Q : Int → jj_H → Prop} {E : String → Nat → jj_H → Prop} (hQ : ∀ r h, Q r h → N (some (.inl r)) h) (hE : ∀ e q h, E e q h → XN e q h) (x0 : Option Nat) (x1 : Int) (x2 : Int) (x3 : Option Nat) (x5 : Option Nat) : ∀ (n : Nat) (h : jj_H) (k : Nat), fC_X1_insertWord_l106 (jj_gk X.1) x0 x1 x2 x3 x5 Q E n h k → jj_J X 7 106 [(0, .inr (.inr (.inl x0))), (1, .inl x1), (2, .inl x2), (3, .inr (.inr (.inl x3))), (5, .inr (.inr (.inl x5)))] [] h k := by
  intro n
  induction n with
  | zero =>
    intro  h k w
    exact (show False from w).elim
  | succ n ih =>
    intro  h k w
    rw [fC_X1_insertWord_l106] at w
    refine jr_aload (pc := 106) F (j := 4) dX1_insertWord_106 rfl ?_
    refine jr_jF (pc := 108) (As := []) (ci := 15) F M (fw_J21_hasNext q1639) (jK_f_J21_hasNext J) dX1_insertWord_108 (by decide +kernel) rfl (Nat.le_of_ble_eq_true rfl) (Nat.le_of_ble_eq_true rfl) (Nat.le_of_ble_eq_true rfl) rfl (jK_J21_hasNext J _ _ _ _ w) (fun v9 h1 k2 q9 => ?_)
    obtain ⟨r3, rfl, w⟩ := q9
    obtain ⟨hx9, w1, w2⟩ := w
    refine jr_if_eq (pc := 113) (tgt := 146) F hx9 dX1_insertWord_113 rfl (fun c9 => ?_) (fun c9 => ?_)
    · have w := w1 c9
      refine jr_aload_n (pc := 146) F (j := 0) dX1_insertWord_146 rfl ?_
      obtain ⟨hi9, w⟩ := w
      refine jr_cV (pc := 147) (As := []) (ci := 1) F M (lw_V q2763 q2765 qs36 q120 q2766) dX1_insertWord_147 hC_X1_change rfl (Nat.le_of_ble_eq_true rfl) (Nat.le_of_ble_eq_true rfl) (Nat.le_of_ble_eq_true rfl) rfl hi9 (Nat.zero_le _) (cC_X1_change J w) (fun v9 h6 q9 => ?_) (fun E9 q9 h9 w9 => jr_out F M O (hE _ _ _ w9))
      obtain ⟨rfl, w⟩ := q9
      refine jr_aload_n (pc := 150) F (j := 3) dX1_insertWord_150 rfl ?_
      obtain ⟨hi9, w⟩ := w
      refine jr_cV (pc := 151) (As := []) (ci := 3) F M (lw_V q1664 q706 q707 q149 q708) dX1_insertWord_151 hC_X5_size rfl (Nat.le_of_ble_eq_true rfl) (Nat.le_of_ble_eq_true rfl) (Nat.le_of_ble_eq_true rfl) rfl hi9 (Nat.zero_le _) (cC_X5_size J w) (fun v9 h9 q9 => ?_) (fun E9 q9 h9 w9 => jr_out F M O (hE _ _ _ w9))
      obtain ⟨r8, rfl, w⟩ := q9
      exact jr_iret (pc := 154) F M dX1_insertWord_154 (hQ _ _ w)
    · have w := w2 c9
      refine jr_aload (pc := 116) F (j := 4) dX1_insertWord_116 rfl ?_
      refine jr_jF (pc := 118) (As := []) (ci := 15) F M (fw_J21_next q1641) (jK_f_J21_next J) dX1_insertWord_118 (by decide +kernel) rfl (Nat.le_of_ble_eq_true rfl) (Nat.le_of_ble_eq_true rfl) (Nat.le_of_ble_eq_true rfl) rfl (jK_J21_next J _ _ _ _ w) (fun v9 h10 k11 q9 => ?_)
      obtain ⟨r12, rfl, w⟩ := q9
      obtain ⟨hi9, w⟩ := w
      refine jr_cast (pc := 123) (ci := 4) F rfl q2875 dX1_insertWord_123 hi9 ?_
      refine jr_astore (pc := 126) F (vs' := [(6, .inr (.inr (.inl _))), (0, .inr (.inr (.inl _))), (1, .inl _), (2, .inl _), (3, .inr (.inr (.inl _))), (5, .inr (.inr (.inl _)))]) dX1_insertWord_126 (Nat.le_of_ble_eq_true rfl) rfl ?_
      refine jr_aload (pc := 128) F (j := 0) dX1_insertWord_128 rfl ?_
      refine jr_giN (pc := 130) (ci := 4) (f := 2) F rfl in_X6 (Nat.le_of_ble_eq_true rfl) q2302 dX1_insertWord_130 w (fun g13 w => ?_)
      refine jr_iload_n (pc := 133) F (j := 2) dX1_insertWord_133 rfl ?_
      obtain ⟨hx9, hy9, w1, w2⟩ := w
      refine jr_icmp_ne (pc := 134) (tgt := 143) F hx9 hy9 dX1_insertWord_134 rfl (fun c9 => ?_) (fun c9 => ?_)
      · have w := w1 c9
        refine jr_goto (pc := 143) (tgt := 106) F dX1_insertWord_143 rfl ?_
        refine jj_J.sub [1, 2, 3, 4, 5] rfl ?_
        exact ih _ _ w
      · have w := w2 c9
        refine jr_aload (pc := 137) F (j := 0) dX1_insertWord_137 rfl ?_
        refine jr_iload_n (pc := 139) F (j := 3) dX1_insertWord_139 rfl ?_
        obtain ⟨hi9, w⟩ := w
        refine jr_cV (pc := 140) (As := [_]) (ci := 4) F M (lw_V q2876 q2877 q2878 q159 q2879) dX1_insertWord_140 hC_X6_inserted rfl (Nat.le_of_ble_eq_true rfl) (Nat.le_of_ble_eq_true rfl) (Nat.le_of_ble_eq_true rfl) rfl hi9 (Nat.zero_le _) (cC_X6_inserted J w) (fun v9 h16 q9 => ?_) (fun E9 q9 h9 w9 => jr_out F M O (hE _ _ _ w9))
        obtain ⟨rfl, w⟩ := q9
        refine jr_goto (pc := 143) (tgt := 106) F dX1_insertWord_143 rfl ?_
        refine jj_J.sub [1, 2, 3, 4, 5] rfl ?_
        exact ih _ _ w

theorem sC_X1_insertWord_j90 {X : jj_X} {N : Option jj_AV → jj_H → Prop} {XN : String → Nat → jj_H → Prop} (F : jj_F X RX1 cX1_insertWord 7) (M : jj_M X (some (.int)) 17 713 N XN) (O : jj_no X) (J : jj_GJ X.1 X.2.2.1) (hi : X.2.2.2.2.2.2.2.2.2.1.name = yX1_insertWord.name) {Q : Int → jj_H → Prop} {E : String → Nat → jj_H → Prop} (hQ : ∀ r h, Q r h → N (some (.inl r)) h) (hE : ∀ e q h, E e q h → XN e q h) (x0 : Option Nat) (x1 : Int) (x2 : Int) (x3 : Option Nat) : ∀ (h : jj_H) (k : Nat), fC_X1_insertWord_j90 (jj_gk X.1) x0 x1 x2 x3 Q E h k → jj_J X 7 90 [(0, .inr (.inr (.inl x0))), (1, .inl x1), (2, .inl x2), (3, .inr (.inr (.inl x3)))] [] h k := by
  intro h k w
  unfold fC_X1_insertWord_j90 at w
  refine jr_aload_n (pc := 90) F (j := 3) dX1_insertWord_90 rfl ?_
  obtain ⟨hi9, w⟩ := w
  refine jr_cV (pc := 91) (As := []) (ci := 3) F M (lw_V q2800 q1990 q1991 q149 q1992) dX1_insertWord_91 hC_X5_lay rfl (Nat.le_of_ble_eq_true rfl) (Nat.le_of_ble_eq_true rfl) (Nat.le_of_ble_eq_true rfl) rfl hi9 (Nat.zero_le _) (cC_X5_lay J w) (fun v9 h19 q9 => ?_) (fun E9 q9 h9 w9 => jr_out F M O (hE _ _ _ w9))
  obtain ⟨rfl, w⟩ := q9
  refine jr_aload_n (pc := 94) F (j := 0) dX1_insertWord_94 rfl ?_
  refine jr_gr (pc := 95) (ci := 1) (f := 0) F rfl in_X1 (Nat.le_of_ble_eq_true rfl) q625 dX1_insertWord_95 w (fun g20 w => ?_)
  refine jr_grN (pc := 98) (ci := 2) (f := 1) F rfl in_X2 (Nat.le_of_ble_eq_true rfl) q596 dX1_insertWord_98 w (fun g21 w => ?_)
  refine jr_jV (pc := 101) (As := []) (ci := 14) F M (lw_V q1615 q1616 q1617 q124 q1618) dX1_insertWord_101 hj_J2_iterator rfl (Nat.le_of_ble_eq_true rfl) (Nat.le_of_ble_eq_true rfl) (Nat.le_of_ble_eq_true rfl) rfl (jK_J2_iterator J _ _ _ _ w) (fun v9 h22 k23 q9 => ?_)
  obtain ⟨r24, rfl, w⟩ := q9
  refine jr_astore (pc := 104) F (vs' := [(5, .inr (.inr (.inl _))), (0, .inr (.inr (.inl _))), (1, .inl _), (2, .inl _), (3, .inr (.inr (.inl _)))]) dX1_insertWord_104 (Nat.le_of_ble_eq_true rfl) rfl ?_
  refine jj_J.sub [1, 2, 3, 4, 0] rfl ?_
  obtain ⟨n9, w⟩ := w
  exact sC_X1_insertWord_l106 F M O J hi hQ hE _ _ _ _ _ n9 _ _ w

theorem sC_X1_insertWord_j67 {X : jj_X} {N : Option jj_AV → jj_H → Prop} {XN : String → Nat → jj_H → Prop} (F : jj_F X RX1 cX1_insertWord 7) (M : jj_M X (some (.int)) 17 713 N XN) (O : jj_no X) (J : jj_GJ X.1 X.2.2.1) (hi : X.2.2.2.2.2.2.2.2.2.1.name = yX1_insertWord.name) {Q : Int → jj_H → Prop} {E : String → Nat → jj_H → Prop} (hQ : ∀ r h, Q r h → N (some (.inl r)) h) (hE : ∀ e q h, E e q h → XN e q h) (x0 : Option Nat) (x1 : Int) (x2 : Int) (x3 : Option Nat) (y0 : Option Nat) (y1 : Int) (y2 : Int) : ∀ (h : jj_H) (k : Nat), fC_X1_insertWord_j67 (jj_gk X.1) x0 x1 x2 x3 y0 y1 y2 Q E h k → jj_J X 7 67 [(0, .inr (.inr (.inl x0))), (1, .inl x1), (2, .inl x2), (3, .inr (.inr (.inl x3)))] [.inl y2, .inl y1, .inr (.inr (.inl y0))] h k := by
  intro h k w
  unfold fC_X1_insertWord_j67 at w
  refine jr_jS (pc := 67) (As := [_]) F M (lw_S q2870 q2502 q161 q2503) dX1_insertWord_67 hj_J34_valueOf.2 rfl (Nat.le_of_ble_eq_true rfl) (Nat.le_of_ble_eq_true rfl) (Nat.le_of_ble_eq_true rfl) (jK_J34_valueOf J _ _ _ _ w) (fun v9 h25 k26 q9 => ?_)
  obtain ⟨r27, rfl, w⟩ := q9
  refine jr_jV (pc := 70) (As := [_, _]) (ci := 14) F M (lw_V q2854 q2855 q2856 q124 q2857) dX1_insertWord_70 hj_J2_add_3 rfl (Nat.le_of_ble_eq_true rfl) (Nat.le_of_ble_eq_true rfl) (Nat.le_of_ble_eq_true rfl) rfl (jK_J2_add_3 J _ _ _ _ _ _ w) (fun v9 h28 k29 q9 => ?_)
  obtain ⟨rfl, w⟩ := q9
  refine jr_iload_n (pc := 73) F (j := 2) dX1_insertWord_73 rfl ?_
  obtain ⟨hx9, w1, w2⟩ := w
  refine jr_if_ne (pc := 74) (tgt := 90) F hx9 dX1_insertWord_74 rfl (fun c9 => ?_) (fun c9 => ?_)
  · have w := w1 c9
    exact sC_X1_insertWord_j90 F M O J hi hQ hE _ _ _ _ _ _ w
  · have w := w2 c9
    refine jr_aload_n (pc := 77) F (j := 3) dX1_insertWord_77 rfl ?_
    refine jr_grN (pc := 78) (ci := 3) (f := 1) F rfl in_X5 (Nat.le_of_ble_eq_true rfl) q1865 dX1_insertWord_78 w (fun g30 w => ?_)
    refine jr_iconst (pc := 81) F dX1_insertWord_81 ?_
    refine jr_iconst (pc := 82) F dX1_insertWord_82 ?_
    refine jr_jS (pc := 83) (As := [_]) F M (lw_S q2870 q2502 q161 q2503) dX1_insertWord_83 hj_J34_valueOf.2 rfl (Nat.le_of_ble_eq_true rfl) (Nat.le_of_ble_eq_true rfl) (Nat.le_of_ble_eq_true rfl) (jK_J34_valueOf J _ _ _ _ w) (fun v9 h31 k32 q9 => ?_)
    obtain ⟨r33, rfl, w⟩ := q9
    refine jr_jV (pc := 86) (As := [_, _]) (ci := 14) F M (lw_V q2871 q2872 q2873 q124 q2874) dX1_insertWord_86 hj_J2_set rfl (Nat.le_of_ble_eq_true rfl) (Nat.le_of_ble_eq_true rfl) (Nat.le_of_ble_eq_true rfl) rfl (jK_J2_set J _ _ _ _ _ _ w) (fun v9 h34 k35 q9 => ?_)
    obtain ⟨r36, rfl, w⟩ := q9
    refine jr_pop (pc := 89) F dX1_insertWord_89 rfl ?_
    exact sC_X1_insertWord_j90 F M O J hi hQ hE _ _ _ _ _ _ w

theorem sC_X1_insertWord_j40 {X : jj_X} {N : Option jj_AV → jj_H → Prop} {XN : String → Nat → jj_H → Prop} (F : jj_F X RX1 cX1_insertWord 7) (M : jj_M X (some (.int)) 17 713 N XN) (O : jj_no X) (J : jj_GJ X.1 X.2.2.1) (hi : X.2.2.2.2.2.2.2.2.2.1.name = yX1_insertWord.name) {Q : Int → jj_H → Prop} {E : String → Nat → jj_H → Prop} (hQ : ∀ r h, Q r h → N (some (.inl r)) h) (hE : ∀ e q h, E e q h → XN e q h) (x0 : Option Nat) (x1 : Int) (x2 : Int) (x3 : Option Nat) (x4 : Option Nat) (y0 : Int) : ∀ (h : jj_H) (k : Nat), fC_X1_insertWord_j40 (jj_gk X.1) x0 x1 x2 x3 x4 y0 Q E h k → jj_J X 7 40 [(0, .inr (.inr (.inl x0))), (1, .inl x1), (2, .inl x2), (3, .inr (.inr (.inl x3))), (4, .inr (.inr (.inl x4)))] [.inl y0] h k := by
  intro h k w
  unfold fC_X1_insertWord_j40 at w
  obtain ⟨c37, hk9, w⟩ := w
  refine jr_callS (pc := 40) (As := [_]) F M (lw_S q2604 q2605 q120 q2606) dX1_insertWord_40 hC_X1_checkState.2 rfl (Nat.le_of_ble_eq_true rfl) (Nat.le_of_ble_eq_true rfl) (Nat.le_of_ble_eq_true rfl) hk9 (cC_X1_checkState J w) (fun v9 h39 q9 => ?_) (fun E9 q9 h9 w9 => jr_out F M O (hE _ _ _ w9))
  obtain ⟨rfl, w⟩ := q9
  refine jr_aload_n (pc := 43) F (j := 3) dX1_insertWord_43 rfl ?_
  refine jr_grN (pc := 44) (ci := 3) (f := 0) F rfl in_X5 (Nat.le_of_ble_eq_true rfl) q1863 dX1_insertWord_44 w (fun g40 w => ?_)
  refine jr_iload_n (pc := 47) F (j := 2) dX1_insertWord_47 rfl ?_
  refine jr_aload (pc := 48) F (j := 4) dX1_insertWord_48 rfl ?_
  refine jr_jV (pc := 50) (As := [_, _]) (ci := 14) F M (lw_V q2854 q2855 q2856 q124 q2857) dX1_insertWord_50 hj_J2_add_3 rfl (Nat.le_of_ble_eq_true rfl) (Nat.le_of_ble_eq_true rfl) (Nat.le_of_ble_eq_true rfl) rfl (jK_J2_add_3 J _ _ _ _ _ _ w) (fun v9 h41 k42 q9 => ?_)
  obtain ⟨rfl, w⟩ := q9
  refine jr_aload_n (pc := 53) F (j := 3) dX1_insertWord_53 rfl ?_
  refine jr_grN (pc := 54) (ci := 3) (f := 1) F rfl in_X5 (Nat.le_of_ble_eq_true rfl) q1865 dX1_insertWord_54 w (fun g43 w => ?_)
  refine jr_iload_n (pc := 57) F (j := 2) dX1_insertWord_57 rfl ?_
  refine jr_iload_n (pc := 58) F (j := 2) dX1_insertWord_58 rfl ?_
  obtain ⟨hx9, w1, w2⟩ := w
  refine jr_if_ne (pc := 59) (tgt := 66) F hx9 dX1_insertWord_59 rfl (fun c9 => ?_) (fun c9 => ?_)
  · have w := w1 c9
    refine jr_iconst (pc := 66) F dX1_insertWord_66 ?_
    refine jj_J.sub [0, 1, 2, 3] rfl ?_
    exact sC_X1_insertWord_j67 F M O J hi hQ hE _ _ _ _ _ _ _ _ _ w
  · have w := w2 c9
    refine jr_iconst (pc := 62) F dX1_insertWord_62 ?_
    refine jr_goto (pc := 63) (tgt := 67) F dX1_insertWord_63 rfl ?_
    refine jj_J.sub [0, 1, 2, 3] rfl ?_
    exact sC_X1_insertWord_j67 F M O J hi hQ hE _ _ _ _ _ _ _ _ _ w

theorem sC_X1_insertWord {X : jj_X} {N : Option jj_AV → jj_H → Prop} {XN : String → Nat → jj_H → Prop} (F : jj_F X RX1 cX1_insertWord 7) (M : jj_M X (some (.int)) 17 713 N XN) (O : jj_no X) (J : jj_GJ X.1 X.2.2.1) (hi : X.2.2.2.2.2.2.2.2.2.1.name = yX1_insertWord.name) {Q : Int → jj_H → Prop} {E : String → Nat → jj_H → Prop} (hQ : ∀ r h, Q r h → N (some (.inl r)) h) (hE : ∀ e q h, E e q h → XN e q h) (x0 : Option Nat) (x1 : Int) (x2 : Int) : ∀ (h : jj_H) (k : Nat), fC_X1_insertWord (jj_gk X.1) x0 x1 x2 Q E h k → jj_J X 7 0 [(0, .inr (.inr (.inl x0))), (1, .inl x1), (2, .inl x2)] [] h k := by
  intro h k w
  unfold fC_X1_insertWord at w
  refine jr_aload_n (pc := 0) F (j := 0) dX1_insertWord_0 rfl ?_
  refine jr_iload_n (pc := 1) F (j := 1) dX1_insertWord_1 rfl ?_
  obtain ⟨hi9, c44, hk9, w⟩ := w
  refine jr_cV (pc := 2) (As := [_]) (ci := 1) F M (lw_V q2778 q2780 qs37 q120 q2781) dX1_insertWord_2 hC_X1_edition rfl (Nat.le_of_ble_eq_true rfl) (Nat.le_of_ble_eq_true rfl) (Nat.le_of_ble_eq_true rfl) rfl hi9 hk9 (cC_X1_edition J w) (fun v9 h46 q9 => ?_) (fun E9 q9 h9 w9 => jr_out F M O (hE _ _ _ w9))
  obtain ⟨r45, rfl, w⟩ := q9
  refine jr_astore_n (pc := 5) F (vs' := [(3, .inr (.inr (.inl _))), (0, .inr (.inr (.inl _))), (1, .inl _), (2, .inl _)]) dX1_insertWord_5 (Nat.le_of_ble_eq_true rfl) rfl ?_
  refine jr_iload_n (pc := 6) F (j := 3) dX1_insertWord_6 rfl ?_
  refine jr_i2l (pc := 7) F dX1_insertWord_7 ?_
  refine jr_lconst (pc := 8) F (x := 0) dX1_insertWord_8 (by decide +kernel) ?_
  refine jr_aload_n (pc := 9) F (j := 0) dX1_insertWord_9 rfl ?_
  obtain ⟨hi9, w⟩ := w
  refine jr_cV (pc := 10) (As := []) (ci := 3) F M (lw_V q1664 q706 q707 q149 q708) dX1_insertWord_10 hC_X5_size rfl (Nat.le_of_ble_eq_true rfl) (Nat.le_of_ble_eq_true rfl) (Nat.le_of_ble_eq_true rfl) rfl hi9 (Nat.zero_le _) (cC_X5_size J w) (fun v9 h49 q9 => ?_) (fun E9 q9 h9 w9 => jr_out F M O (hE _ _ _ w9))
  obtain ⟨r48, rfl, w⟩ := q9
  refine jr_i2l (pc := 13) F dX1_insertWord_13 ?_
  refine jr_callS (pc := 14) (As := [_, _, _]) F M (lw_S q2630 q1678 q120 q1679) dX1_insertWord_14 hC_X1_isBetween.2 rfl (Nat.le_of_ble_eq_true rfl) (Nat.le_of_ble_eq_true rfl) (Nat.le_of_ble_eq_true rfl) (Nat.zero_le _) (cC_X1_isBetween J w) (fun v9 h52 q9 => ?_) (fun E9 q9 h9 w9 => jr_out F M O (hE _ _ _ w9))
  obtain ⟨r51, rfl, w⟩ := q9
  obtain ⟨c53, hk9, w⟩ := w
  refine jr_callS (pc := 17) (As := [_]) F M (lw_S q2782 q2783 q120 q2784) dX1_insertWord_17 hC_X1_checkIndex.2 rfl (Nat.le_of_ble_eq_true rfl) (Nat.le_of_ble_eq_true rfl) (Nat.le_of_ble_eq_true rfl) hk9 (cC_X1_checkIndex J w) (fun v9 h55 q9 => ?_) (fun E9 q9 h9 w9 => jr_out F M O (hE _ _ _ w9))
  obtain ⟨rfl, w⟩ := q9
  refine jr_aload_n (pc := 20) F (j := 1) dX1_insertWord_20 rfl ?_
  obtain ⟨hi9, c56, hk9, w⟩ := w
  refine jr_cV (pc := 21) (As := []) (ci := 1) F M (lw_V q2850 q2852 qs39 q120 q2853) dX1_insertWord_21 hC_X1_oneWord rfl (Nat.le_of_ble_eq_true rfl) (Nat.le_of_ble_eq_true rfl) (Nat.le_of_ble_eq_true rfl) rfl hi9 hk9 (cC_X1_oneWord J w) (fun v9 h58 q9 => ?_) (fun E9 q9 h9 w9 => jr_out F M O (hE _ _ _ w9))
  obtain ⟨r57, rfl, w⟩ := q9
  refine jr_astore (pc := 24) F (vs' := [(4, .inr (.inr (.inl _))), (3, .inr (.inr (.inl _))), (0, .inr (.inr (.inl _))), (1, .inl _), (2, .inl _)]) dX1_insertWord_24 (Nat.le_of_ble_eq_true rfl) rfl ?_
  refine jr_aload_n (pc := 26) F (j := 1) dX1_insertWord_26 rfl ?_
  obtain ⟨hi9, w⟩ := w
  refine jr_cV (pc := 27) (As := []) (ci := 3) F M (lw_V q1664 q706 q707 q149 q708) dX1_insertWord_27 hC_X5_size rfl (Nat.le_of_ble_eq_true rfl) (Nat.le_of_ble_eq_true rfl) (Nat.le_of_ble_eq_true rfl) rfl hi9 (Nat.zero_le _) (cC_X5_size J w) (fun v9 h61 q9 => ?_) (fun E9 q9 h9 w9 => jr_out F M O (hE _ _ _ w9))
  obtain ⟨r60, rfl, w⟩ := q9
  refine jr_bipush (pc := 30) F dX1_insertWord_30 (by decide +kernel) ?_
  obtain ⟨hx9, w1, w2⟩ := w
  refine jr_icmp_ge (pc := 32) (tgt := 39) F hx9 ⟨by decide, by decide⟩ dX1_insertWord_32 rfl (fun c9 => ?_) (fun c9 => ?_)
  · have w := w1 c9
    refine jr_iconst (pc := 39) F dX1_insertWord_39 ?_
    refine jj_J.sub [2, 3, 4, 1, 0] rfl ?_
    exact sC_X1_insertWord_j40 F M O J hi hQ hE _ _ _ _ _ _ _ _ w
  · have w := w2 c9
    refine jr_iconst (pc := 35) F dX1_insertWord_35 ?_
    refine jr_goto (pc := 36) (tgt := 40) F dX1_insertWord_36 rfl ?_
    refine jj_J.sub [2, 3, 4, 1, 0] rfl ?_
    exact sC_X1_insertWord_j40 F M O J hi hQ hE _ _ _ _ _ _ _ _ w

theorem cC_X1_insertWord {G : jj_G} {l : Launch} (J : jj_GJ G l) {x0 : Option Nat} {x1 : Int} {x2 : Int} {Q : Int → jj_H → Prop} {E : String → Nat → jj_H → Prop} {h : jj_H} {k : Nat} (w : fC_X1_insertWord (jj_gk G) x0 x1 x2 Q E h k) : jj_Ct G l yX1_insertWord (ws_ yX1_insertWord cX1_insertWord 7 (some (.int))) 17 713 [.inr (.inr (.inl x0)), .inl x1, .inl x2] h k (jc_i Q) E := by
  refine jj_Ct.of (jK_gs J).1 (by decide +kernel) (Nat.le_of_ble_eq_true rfl) rfl (fun X hG hl F M O hnm => ?_)
  subst hG; subst hl
  exact sC_X1_insertWord F M O J hnm (fun r h q => ⟨r, rfl, q⟩) (fun _ _ _ q => q) _ _ _ _ _ w
theorem hC_X1_insertWord : yX1_insertWord.cls = RX1 ∧ yX1_insertWord.cls ≠ "java/lang/invoke/MethodHandle" ∧ yX1_insertWord.cls ≠ "java/lang/invoke/VarHandle" ∧ (parseMethodDescriptor yX1_insertWord.desc).map (fun d => d.parameters.length) = some 2 := by decide +kernel
/-! X6_deleted(II)V -/
def fC_X6_deleted_j79 (gk : Nat → Nat) (y0 : Option Nat) (y1 : Int) (y2 : Int) (Q : jj_H → Prop) (E : String → Nat → jj_H → Prop) (h : jj_H) (k : Nat) : Prop :=
  jp_pi h y0 4 5 (y1 - y2) (fun h1 =>
  Q h1)
def fC_X6_deleted_j57 (gk : Nat → Nat) (x0 : Option Nat) (x1 : Int) (y0 : Option Nat) (y1 : Int) (y2 : Int) (Q : jj_H → Prop) (E : String → Nat → jj_H → Prop) (h : jj_H) (k : Nat) : Prop :=
  jp_pi h y0 4 6 (y1 - y2) (fun h2 =>
  jp_gi h2 x0 4 5 (fun g3 =>
  jp_gi h2 x0 4 5 (fun g4 =>
  jj_r x1 ∧ jj_r g4 ∧ (g4 ≤ x1 → (
    fC_X6_deleted_j79 gk x0 g3 0 Q E h2 k)) ∧
  (¬ g4 ≤ x1 → (
    fC_X6_deleted_j79 gk x0 g3 1 Q E h2 k)))))
def fC_X6_deleted_j39 (gk : Nat → Nat) (x0 : Option Nat) (x1 : Int) (Q : jj_H → Prop) (E : String → Nat → jj_H → Prop) (h : jj_H) (k : Nat) : Prop :=
  jp_gi h x0 4 6 (fun g5 =>
  jp_gi h x0 4 6 (fun g6 =>
  jj_r x1 ∧ jj_r g6 ∧ (g6 < x1 → (
    fC_X6_deleted_j57 gk x0 x1 x0 g5 0 Q E h k)) ∧
  (¬ g6 < x1 → (
    fC_X6_deleted_j57 gk x0 x1 x0 g5 1 Q E h k))))
def fC_X6_deleted (gk : Nat → Nat) (x0 : Option Nat) (x1 : Int) (x2 : Int) (Q : jj_H → Prop) (E : String → Nat → jj_H → Prop) (h : jj_H) (k : Nat) : Prop :=
  jp_gi h x0 4 5 (fun g7 =>
  jp_gi h x0 4 6 (fun g8 =>
  jj_r g7 ∧ jj_r g8 ∧ (¬ g7 = g8 → (
    fC_X6_deleted_j39 gk x0 x1 Q E h k)) ∧
  (g7 = g8 → (
    jp_gi h x0 4 5 (fun g9 =>
    jj_r g9 ∧ jj_r x1 ∧ (¬ g9 = x1 → (
      fC_X6_deleted_j39 gk x0 x1 Q E h k)) ∧
    (g9 = x1 → (
      jj_r x1 ∧ jj_r (x2 - 1) ∧
      jp_pi h x0 4 5 (min x1 (x2 - 1)) (fun h10 =>
      jp_gi h10 x0 4 5 (fun g11 =>
      jp_pi h10 x0 4 6 g11 (fun h12 =>
      Q h12))))))))))
theorem sC_X6_deleted_j79 {X : jj_X} {N : Option jj_AV → jj_H → Prop} {XN : String → Nat → jj_H → Prop} (F : jj_F X RX6 cX6_deleted 3) (M : jj_M X (none) 1 21 N XN) (O : jj_no X) (J : jj_GJ X.1 X.2.2.1) (hi : X.2.2.2.2.2.2.2.2.2.1.name = yX6_deleted.name) {Q : jj_H → Prop} {E : String → Nat → jj_H → Prop} (hQ : ∀ h, Q h → N none h) (hE : ∀ e q h, E e q h → XN e q h) (y0 : Option Nat) (y1 : Int) (y2 : Int) : ∀ (h : jj_H) (k : Nat), fC_X6_deleted_j79 (jj_gk X.1) y0 y1 y2 Q E h k → jj_J X 3 79 [] [.inl y2, .inl y1, .inr (.inr (.inl y0))] h k := by
  intro h k w
  unfold fC_X6_deleted_j79 at w
  refine jr_isub (pc := 79) F dX6_deleted_79 ?_
  refine jr_pi (pc := 80) (ci := 4) (f := 5) F rfl in_X6 tyX6_ok nmX6 (Nat.le_of_ble_eq_true rfl) rfl rfl q2310 dX6_deleted_80 w (fun h1 w => ?_)
  exact jr_vret (pc := 83) F M dX6_deleted_83 (hQ _ w)

theorem sC_X6_deleted_j57 {X : jj_X} {N : Option jj_AV → jj_H → Prop} {XN : String → Nat → jj_H → Prop} (F : jj_F X RX6 cX6_deleted 3) (M : jj_M X (none) 1 21 N XN) (O : jj_no X) (J : jj_GJ X.1 X.2.2.1) (hi : X.2.2.2.2.2.2.2.2.2.1.name = yX6_deleted.name) {Q : jj_H → Prop} {E : String → Nat → jj_H → Prop} (hQ : ∀ h, Q h → N none h) (hE : ∀ e q h, E e q h → XN e q h) (x0 : Option Nat) (x1 : Int) (y0 : Option Nat) (y1 : Int) (y2 : Int) : ∀ (h : jj_H) (k : Nat), fC_X6_deleted_j57 (jj_gk X.1) x0 x1 y0 y1 y2 Q E h k → jj_J X 3 57 [(0, .inr (.inr (.inl x0))), (1, .inl x1)] [.inl y2, .inl y1, .inr (.inr (.inl y0))] h k := by
  intro h k w
  unfold fC_X6_deleted_j57 at w
  refine jr_isub (pc := 57) F dX6_deleted_57 ?_
  refine jr_pi (pc := 58) (ci := 4) (f := 6) F rfl in_X6 tyX6_ok nmX6 (Nat.le_of_ble_eq_true rfl) rfl rfl q2313 dX6_deleted_58 w (fun h2 w => ?_)
  refine jr_aload_n (pc := 61) F (j := 0) dX6_deleted_61 rfl ?_
  refine jr_dup (pc := 62) F dX6_deleted_62 rfl ?_
  refine jr_gi (pc := 63) (ci := 4) (f := 5) F rfl in_X6 (Nat.le_of_ble_eq_true rfl) q2310 dX6_deleted_63 w (fun g3 w => ?_)
  refine jr_iload_n (pc := 66) F (j := 1) dX6_deleted_66 rfl ?_
  refine jr_aload_n (pc := 67) F (j := 0) dX6_deleted_67 rfl ?_
  refine jr_gi (pc := 68) (ci := 4) (f := 5) F rfl in_X6 (Nat.le_of_ble_eq_true rfl) q2310 dX6_deleted_68 w (fun g4 w => ?_)
  obtain ⟨hx9, hy9, w1, w2⟩ := w
  refine jr_icmp_ge (pc := 71) (tgt := 78) F hx9 hy9 dX6_deleted_71 rfl (fun c9 => ?_) (fun c9 => ?_)
  · have w := w1 c9
    refine jr_iconst (pc := 78) F dX6_deleted_78 ?_
    refine jj_J.sub [] rfl ?_
    exact sC_X6_deleted_j79 F M O J hi hQ hE _ _ _ _ _ w
  · have w := w2 c9
    refine jr_iconst (pc := 74) F dX6_deleted_74 ?_
    refine jr_goto (pc := 75) (tgt := 79) F dX6_deleted_75 rfl ?_
    refine jj_J.sub [] rfl ?_
    exact sC_X6_deleted_j79 F M O J hi hQ hE _ _ _ _ _ w

theorem sC_X6_deleted_j39 {X : jj_X} {N : Option jj_AV → jj_H → Prop} {XN : String → Nat → jj_H → Prop} (F : jj_F X RX6 cX6_deleted 3) (M : jj_M X (none) 1 21 N XN) (O : jj_no X) (J : jj_GJ X.1 X.2.2.1) (hi : X.2.2.2.2.2.2.2.2.2.1.name = yX6_deleted.name) {Q : jj_H → Prop} {E : String → Nat → jj_H → Prop} (hQ : ∀ h, Q h → N none h) (hE : ∀ e q h, E e q h → XN e q h) (x0 : Option Nat) (x1 : Int) : ∀ (h : jj_H) (k : Nat), fC_X6_deleted_j39 (jj_gk X.1) x0 x1 Q E h k → jj_J X 3 39 [(0, .inr (.inr (.inl x0))), (1, .inl x1)] [] h k := by
  intro h k w
  unfold fC_X6_deleted_j39 at w
  refine jr_aload_n (pc := 39) F (j := 0) dX6_deleted_39 rfl ?_
  refine jr_dup (pc := 40) F dX6_deleted_40 rfl ?_
  refine jr_gi (pc := 41) (ci := 4) (f := 6) F rfl in_X6 (Nat.le_of_ble_eq_true rfl) q2313 dX6_deleted_41 w (fun g5 w => ?_)
  refine jr_iload_n (pc := 44) F (j := 1) dX6_deleted_44 rfl ?_
  refine jr_aload_n (pc := 45) F (j := 0) dX6_deleted_45 rfl ?_
  refine jr_gi (pc := 46) (ci := 4) (f := 6) F rfl in_X6 (Nat.le_of_ble_eq_true rfl) q2313 dX6_deleted_46 w (fun g6 w => ?_)
  obtain ⟨hx9, hy9, w1, w2⟩ := w
  refine jr_icmp_gt (pc := 49) (tgt := 56) F hx9 hy9 dX6_deleted_49 rfl (fun c9 => ?_) (fun c9 => ?_)
  · have w := w1 c9
    refine jr_iconst (pc := 56) F dX6_deleted_56 ?_
    exact sC_X6_deleted_j57 F M O J hi hQ hE _ _ _ _ _ _ _ w
  · have w := w2 c9
    refine jr_iconst (pc := 52) F dX6_deleted_52 ?_
    refine jr_goto (pc := 53) (tgt := 57) F dX6_deleted_53 rfl ?_
    exact sC_X6_deleted_j57 F M O J hi hQ hE _ _ _ _ _ _ _ w

theorem sC_X6_deleted {X : jj_X} {N : Option jj_AV → jj_H → Prop} {XN : String → Nat → jj_H → Prop} (F : jj_F X RX6 cX6_deleted 3) (M : jj_M X (none) 1 21 N XN) (O : jj_no X) (J : jj_GJ X.1 X.2.2.1) (hi : X.2.2.2.2.2.2.2.2.2.1.name = yX6_deleted.name) {Q : jj_H → Prop} {E : String → Nat → jj_H → Prop} (hQ : ∀ h, Q h → N none h) (hE : ∀ e q h, E e q h → XN e q h) (x0 : Option Nat) (x1 : Int) (x2 : Int) : ∀ (h : jj_H) (k : Nat), fC_X6_deleted (jj_gk X.1) x0 x1 x2 Q E h k → jj_J X 3 0 [(0, .inr (.inr (.inl x0))), (1, .inl x1), (2, .inl x2)] [] h k := by
  intro h k w
  unfold fC_X6_deleted at w
  refine jr_aload_n (pc := 0) F (j := 0) dX6_deleted_0 rfl ?_
  refine jr_gi (pc := 1) (ci := 4) (f := 5) F rfl in_X6 (Nat.le_of_ble_eq_true rfl) q2310 dX6_deleted_1 w (fun g7 w => ?_)
  refine jr_aload_n (pc := 4) F (j := 0) dX6_deleted_4 rfl ?_
  refine jr_gi (pc := 5) (ci := 4) (f := 6) F rfl in_X6 (Nat.le_of_ble_eq_true rfl) q2313 dX6_deleted_5 w (fun g8 w => ?_)
  obtain ⟨hx9, hy9, w1, w2⟩ := w
  refine jr_icmp_ne (pc := 8) (tgt := 39) F hx9 hy9 dX6_deleted_8 rfl (fun c9 => ?_) (fun c9 => ?_)
  · have w := w1 c9
    refine jj_J.sub [0, 1] rfl ?_
    exact sC_X6_deleted_j39 F M O J hi hQ hE _ _ _ _ w
  · have w := w2 c9
    refine jr_aload_n (pc := 11) F (j := 0) dX6_deleted_11 rfl ?_
    refine jr_gi (pc := 12) (ci := 4) (f := 5) F rfl in_X6 (Nat.le_of_ble_eq_true rfl) q2310 dX6_deleted_12 w (fun g9 w => ?_)
    refine jr_iload_n (pc := 15) F (j := 1) dX6_deleted_15 rfl ?_
    obtain ⟨hx9, hy9, w1, w2⟩ := w
    refine jr_icmp_ne (pc := 16) (tgt := 39) F hx9 hy9 dX6_deleted_16 rfl (fun c9 => ?_) (fun c9 => ?_)
    · have w := w1 c9
      refine jj_J.sub [0, 1] rfl ?_
      exact sC_X6_deleted_j39 F M O J hi hQ hE _ _ _ _ w
    · have w := w2 c9
      refine jr_aload_n (pc := 19) F (j := 0) dX6_deleted_19 rfl ?_
      refine jr_iload_n (pc := 20) F (j := 1) dX6_deleted_20 rfl ?_
      refine jr_iload_n (pc := 21) F (j := 2) dX6_deleted_21 rfl ?_
      refine jr_iconst (pc := 22) F dX6_deleted_22 ?_
      refine jr_isub (pc := 23) F dX6_deleted_23 ?_
      obtain ⟨hx9, hy9, w⟩ := w
      refine jr_mmin (pc := 24) F M hx9 hy9 q2899 (Nat.le_of_ble_eq_true rfl) (Nat.le_of_ble_eq_true rfl) (Nat.le_of_ble_eq_true rfl) dX6_deleted_24 ?_
      refine jr_pi (pc := 27) (ci := 4) (f := 5) F rfl in_X6 tyX6_ok nmX6 (Nat.le_of_ble_eq_true rfl) rfl rfl q2310 dX6_deleted_27 w (fun h10 w => ?_)
      refine jr_aload_n (pc := 30) F (j := 0) dX6_deleted_30 rfl ?_
      refine jr_aload_n (pc := 31) F (j := 0) dX6_deleted_31 rfl ?_
      refine jr_gi (pc := 32) (ci := 4) (f := 5) F rfl in_X6 (Nat.le_of_ble_eq_true rfl) q2310 dX6_deleted_32 w (fun g11 w => ?_)
      refine jr_pi (pc := 35) (ci := 4) (f := 6) F rfl in_X6 tyX6_ok nmX6 (Nat.le_of_ble_eq_true rfl) rfl rfl q2313 dX6_deleted_35 w (fun h12 w => ?_)
      exact jr_vret (pc := 38) F M dX6_deleted_38 (hQ _ w)

theorem cC_X6_deleted {G : jj_G} {l : Launch} (J : jj_GJ G l) {x0 : Option Nat} {x1 : Int} {x2 : Int} {Q : jj_H → Prop} {E : String → Nat → jj_H → Prop} {h : jj_H} {k : Nat} (w : fC_X6_deleted (jj_gk G) x0 x1 x2 Q E h k) : jj_Ct G l yX6_deleted (ws_ yX6_deleted cX6_deleted 3 (none)) 1 21 [.inr (.inr (.inl x0)), .inl x1, .inl x2] h k (jc_v Q) E := by
  refine jj_Ct.of (jK_gs J).1 (by decide +kernel) (Nat.le_of_ble_eq_true rfl) rfl (fun X hG hl F M O hnm => ?_)
  subst hG; subst hl
  exact sC_X6_deleted F M O J hnm (fun h q => ⟨rfl, q⟩) (fun _ _ _ q => q) _ _ _ _ _ w
theorem hC_X6_deleted : yX6_deleted.cls = RX6 ∧ yX6_deleted.cls ≠ "java/lang/invoke/MethodHandle" ∧ yX6_deleted.cls ≠ "java/lang/invoke/VarHandle" ∧ (parseMethodDescriptor yX6_deleted.desc).map (fun d => d.parameters.length) = some 2 := by decide +kernel
/-! X1_deleteWord(II)I -/
def fC_X1_deleteWord_l81 (gk : Nat → Nat) (x0 : Option Nat) (x1 : Int) (x2 : Int) (x3 : Option Nat) (x6 : Option Nat) (Q : Int → jj_H → Prop) (E : String → Nat → jj_H → Prop) : Nat → jj_H → Nat → Prop
  | 0, _, _ => False
  | n + 1, h, k =>
  jq_J21_hasNext x6 (fun r3 h1 k2 =>
  jj_r r3 ∧ (r3 = 0 → (
    jp_pr h1 x0 1 1 none (fun h4 =>
    jp_is h4 x3 3 ∧ fC_X5_size gk x3 (fun r6 h7 =>
    Q r6 h7) E h4 0))) ∧
  (¬ r3 = 0 → (
    jq_J21_next x6 (fun r10 h8 k9 =>
    jp_is h8 r10 4 ∧
    jp_gi h8 r10 4 2 (fun g11 =>
    jj_r g11 ∧ jj_r x1 ∧ (¬ g11 = x1 → (
      fC_X1_deleteWord_l81 gk x0 x1 x2 x3 x6 Q E n h8 k9)) ∧
    (g11 = x1 → (
      jp_is h8 x3 3 ∧ fC_X5_size gk x3 (fun r13 h14 =>
      jp_is h14 r10 4 ∧ fC_X6_deleted gk r10 x2 r13 (fun h17 =>
      fC_X1_deleteWord_l81 gk x0 x1 x2 x3 x6 Q E n h17 k9) E h14 0) E h8 0)))) h1 k2))) h k
def fC_X1_deleteWord_j20 (gk : Nat → Nat) (x0 : Option Nat) (x1 : Int) (x2 : Int) (x3 : Option Nat) (y0 : Int) (Q : Int → jj_H → Prop) (E : String → Nat → jj_H → Prop) (h : jj_H) (k : Nat) : Prop :=
  ∃ c18, c18 ≤ k ∧ fC_X1_checkState gk y0 (fun h20 =>
  jp_gr h20 x3 3 0 (fun g21 =>
  jq_J2_remove g21 x2 (fun r24 h22 k23 =>
  jp_is h22 r24 25 ∧
  jp_gr h22 x3 3 1 (fun g25 =>
  jq_J2_remove g25 x2 (fun r28 h26 k27 =>
  jp_is h26 r28 31 ∧
  jq_J34_booleanValue r28 (fun r31 h29 k30 =>
  jp_gr h29 x3 3 1 (fun g32 =>
  jq_J34_valueOf gk 1 (fun r35 h33 k34 =>
  jq_J2_set g32 0 r35 (fun r38 h36 k37 =>
  jp_is h36 x3 3 ∧ fC_X5_lay gk x3 (fun h41 =>
  jp_gr h41 x0 1 0 (fun g42 =>
  jp_gr h41 g42 2 1 (fun g43 =>
  jq_J2_iterator g43 (fun r46 h44 k45 =>
  ∃ n9, fC_X1_deleteWord_l81 gk x0 x1 x2 x3 r46 Q E n9 h44 k45) h41 k37))) E h36 0) h33 k34) h29 k30)) h26 k27) h22 k23)) h20 (k - c18))) E h c18
def fC_X1_deleteWord (gk : Nat → Nat) (x0 : Option Nat) (x1 : Int) (x2 : Int) (Q : Int → jj_H → Prop) (E : String → Nat → jj_H → Prop) (h : jj_H) (k : Nat) : Prop :=
  jp_is h x0 1 ∧ ∃ c47, c47 ≤ k ∧ fC_X1_editionWith gk x0 x1 x2 (fun r48 h49 =>
  jp_is h49 r48 3 ∧ fC_X5_size gk r48 (fun r51 h52 =>
  jj_r r51 ∧ (r51 ≤ 1 → (
    fC_X1_deleteWord_j20 gk x0 x1 x2 r48 0 Q E h52 (k - c47))) ∧
  (¬ r51 ≤ 1 → (
    fC_X1_deleteWord_j20 gk x0 x1 x2 r48 1 Q E h52 (k - c47)))) E h49 0) E h c47
theorem sC_X1_deleteWord_l81 {X : jj_X} {N : Option jj_AV → jj_H → Prop} {XN : String → Nat → jj_H → Prop} (F : jj_F X RX1 cX1_deleteWord 8) (M : jj_M X (some (.int)) 15 665 N XN) (O : jj_no X) (J : jj_GJ X.1 X.2.2.1) (hi : X.2.2.2.2.2.2.2.2.2.1.name = yX1_deleteWord.name) {Q : Int → jj_H → Prop} {E : String → Nat → jj_H → Prop} (hQ : ∀ r h, Q r h → N (some (.inl r)) h) (hE : ∀ e q h, E e q h → XN e q h) (x0 : Option Nat) (x1 : Int) (x2 : Int) (x3 : Option Nat) (x6 : Option Nat) : ∀ (n : Nat) (h : jj_H) (k : Nat), fC_X1_deleteWord_l81 (jj_gk X.1) x0 x1 x2 x3 x6 Q E n h k → jj_J X 8 81 [(0, .inr (.inr (.inl x0))), (1, .inl x1), (2, .inl x2), (3, .inr (.inr (.inl x3))), (6, .inr (.inr (.inl x6)))] [] h k := by
  intro n
  induction n with
  | zero =>
    intro  h k w
    exact (show False from w).elim
  | succ n ih =>
    intro  h k w
    rw [fC_X1_deleteWord_l81] at w
    refine jr_aload (pc := 81) F (j := 4) dX1_deleteWord_81 rfl ?_
    refine jr_jF (pc := 83) (As := []) (ci := 15) F M (fw_J21_hasNext q1639) (jK_f_J21_hasNext J) dX1_deleteWord_83 (by decide +kernel) rfl (Nat.le_of_ble_eq_true rfl) (Nat.le_of_ble_eq_true rfl) (Nat.le_of_ble_eq_true rfl) rfl (jK_J21_hasNext J _ _ _ _ w) (fun v9 h1 k2 q9 => ?_)
    obtain ⟨r3, rfl, w⟩ := q9
    obtain ⟨hx9, w1, w2⟩ := w
    refine jr_if_eq (pc := 88) (tgt := 125) F hx9 dX1_deleteWord_88 rfl (fun c9 => ?_) (fun c9 => ?_)
    · have w := w1 c9
      refine jr_aload_n (pc := 125) F (j := 0) dX1_deleteWord_125 rfl ?_
      refine jr_null (pc := 126) F dX1_deleteWord_126 ?_
      refine jr_pr (pc := 127) (ci := 1) (f := 1) F rfl in_X1 tyX1_ok nmX1 (Nat.le_of_ble_eq_true rfl) rfl rfl q626 dX1_deleteWord_127 w (fun h4 w => ?_)
      refine jr_aload_n (pc := 130) F (j := 3) dX1_deleteWord_130 rfl ?_
      obtain ⟨hi9, w⟩ := w
      refine jr_cV (pc := 131) (As := []) (ci := 3) F M (lw_V q1664 q706 q707 q149 q708) dX1_deleteWord_131 hC_X5_size rfl (Nat.le_of_ble_eq_true rfl) (Nat.le_of_ble_eq_true rfl) (Nat.le_of_ble_eq_true rfl) rfl hi9 (Nat.zero_le _) (cC_X5_size J w) (fun v9 h7 q9 => ?_) (fun E9 q9 h9 w9 => jr_out F M O (hE _ _ _ w9))
      obtain ⟨r6, rfl, w⟩ := q9
      exact jr_iret (pc := 134) F M dX1_deleteWord_134 (hQ _ _ w)
    · have w := w2 c9
      refine jr_aload (pc := 91) F (j := 4) dX1_deleteWord_91 rfl ?_
      refine jr_jF (pc := 93) (As := []) (ci := 15) F M (fw_J21_next q1641) (jK_f_J21_next J) dX1_deleteWord_93 (by decide +kernel) rfl (Nat.le_of_ble_eq_true rfl) (Nat.le_of_ble_eq_true rfl) (Nat.le_of_ble_eq_true rfl) rfl (jK_J21_next J _ _ _ _ w) (fun v9 h8 k9 q9 => ?_)
      obtain ⟨r10, rfl, w⟩ := q9
      obtain ⟨hi9, w⟩ := w
      refine jr_cast (pc := 98) (ci := 4) F rfl q2875 dX1_deleteWord_98 hi9 ?_
      refine jr_astore (pc := 101) F (vs' := [(7, .inr (.inr (.inl _))), (0, .inr (.inr (.inl _))), (1, .inl _), (2, .inl _), (3, .inr (.inr (.inl _))), (6, .inr (.inr (.inl _)))]) dX1_deleteWord_101 (Nat.le_of_ble_eq_true rfl) rfl ?_
      refine jr_aload (pc := 103) F (j := 0) dX1_deleteWord_103 rfl ?_
      refine jr_giN (pc := 105) (ci := 4) (f := 2) F rfl in_X6 (Nat.le_of_ble_eq_true rfl) q2302 dX1_deleteWord_105 w (fun g11 w => ?_)
      refine jr_iload_n (pc := 108) F (j := 2) dX1_deleteWord_108 rfl ?_
      obtain ⟨hx9, hy9, w1, w2⟩ := w
      refine jr_icmp_ne (pc := 109) (tgt := 122) F hx9 hy9 dX1_deleteWord_109 rfl (fun c9 => ?_) (fun c9 => ?_)
      · have w := w1 c9
        refine jr_goto (pc := 122) (tgt := 81) F dX1_deleteWord_122 rfl ?_
        refine jj_J.sub [1, 2, 3, 4, 5] rfl ?_
        exact ih _ _ w
      · have w := w2 c9
        refine jr_aload (pc := 112) F (j := 0) dX1_deleteWord_112 rfl ?_
        refine jr_iload_n (pc := 114) F (j := 3) dX1_deleteWord_114 rfl ?_
        refine jr_aload_n (pc := 115) F (j := 4) dX1_deleteWord_115 rfl ?_
        obtain ⟨hi9, w⟩ := w
        refine jr_cV (pc := 116) (As := []) (ci := 3) F M (lw_V q1664 q706 q707 q149 q708) dX1_deleteWord_116 hC_X5_size rfl (Nat.le_of_ble_eq_true rfl) (Nat.le_of_ble_eq_true rfl) (Nat.le_of_ble_eq_true rfl) rfl hi9 (Nat.zero_le _) (cC_X5_size J w) (fun v9 h14 q9 => ?_) (fun E9 q9 h9 w9 => jr_out F M O (hE _ _ _ w9))
        obtain ⟨r13, rfl, w⟩ := q9
        obtain ⟨hi9, w⟩ := w
        refine jr_cV (pc := 119) (As := [_, _]) (ci := 4) F M (lw_V q2895 q2896 q2897 q159 q2898) dX1_deleteWord_119 hC_X6_deleted rfl (Nat.le_of_ble_eq_true rfl) (Nat.le_of_ble_eq_true rfl) (Nat.le_of_ble_eq_true rfl) rfl hi9 (Nat.zero_le _) (cC_X6_deleted J w) (fun v9 h17 q9 => ?_) (fun E9 q9 h9 w9 => jr_out F M O (hE _ _ _ w9))
        obtain ⟨rfl, w⟩ := q9
        refine jr_goto (pc := 122) (tgt := 81) F dX1_deleteWord_122 rfl ?_
        refine jj_J.sub [1, 2, 3, 4, 5] rfl ?_
        exact ih _ _ w

theorem sC_X1_deleteWord_j20 {X : jj_X} {N : Option jj_AV → jj_H → Prop} {XN : String → Nat → jj_H → Prop} (F : jj_F X RX1 cX1_deleteWord 8) (M : jj_M X (some (.int)) 15 665 N XN) (O : jj_no X) (J : jj_GJ X.1 X.2.2.1) (hi : X.2.2.2.2.2.2.2.2.2.1.name = yX1_deleteWord.name) {Q : Int → jj_H → Prop} {E : String → Nat → jj_H → Prop} (hQ : ∀ r h, Q r h → N (some (.inl r)) h) (hE : ∀ e q h, E e q h → XN e q h) (x0 : Option Nat) (x1 : Int) (x2 : Int) (x3 : Option Nat) (y0 : Int) : ∀ (h : jj_H) (k : Nat), fC_X1_deleteWord_j20 (jj_gk X.1) x0 x1 x2 x3 y0 Q E h k → jj_J X 8 20 [(0, .inr (.inr (.inl x0))), (1, .inl x1), (2, .inl x2), (3, .inr (.inr (.inl x3)))] [.inl y0] h k := by
  intro h k w
  unfold fC_X1_deleteWord_j20 at w
  obtain ⟨c18, hk9, w⟩ := w
  refine jr_callS (pc := 20) (As := [_]) F M (lw_S q2604 q2605 q120 q2606) dX1_deleteWord_20 hC_X1_checkState.2 rfl (Nat.le_of_ble_eq_true rfl) (Nat.le_of_ble_eq_true rfl) (Nat.le_of_ble_eq_true rfl) hk9 (cC_X1_checkState J w) (fun v9 h20 q9 => ?_) (fun E9 q9 h9 w9 => jr_out F M O (hE _ _ _ w9))
  obtain ⟨rfl, w⟩ := q9
  refine jr_aload_n (pc := 23) F (j := 3) dX1_deleteWord_23 rfl ?_
  refine jr_grN (pc := 24) (ci := 3) (f := 0) F rfl in_X5 (Nat.le_of_ble_eq_true rfl) q1863 dX1_deleteWord_24 w (fun g21 w => ?_)
  refine jr_iload_n (pc := 27) F (j := 2) dX1_deleteWord_27 rfl ?_
  refine jr_jV (pc := 28) (As := [_]) (ci := 14) F M (lw_V q2887 q2888 q2889 q124 q2890) dX1_deleteWord_28 hj_J2_remove rfl (Nat.le_of_ble_eq_true rfl) (Nat.le_of_ble_eq_true rfl) (Nat.le_of_ble_eq_true rfl) rfl (jK_J2_remove J _ _ _ _ _ w) (fun v9 h22 k23 q9 => ?_)
  obtain ⟨r24, rfl, w⟩ := q9
  obtain ⟨hi9, w⟩ := w
  refine jr_cast (pc := 31) (ci := 25) F rfl q2761 dX1_deleteWord_31 hi9 ?_
  refine jr_astore (pc := 34) F (vs' := [(4, .inr (.inr (.inl _))), (0, .inr (.inr (.inl _))), (1, .inl _), (2, .inl _), (3, .inr (.inr (.inl _)))]) dX1_deleteWord_34 (Nat.le_of_ble_eq_true rfl) rfl ?_
  refine jr_aload_n (pc := 36) F (j := 4) dX1_deleteWord_36 rfl ?_
  refine jr_grN (pc := 37) (ci := 3) (f := 1) F rfl in_X5 (Nat.le_of_ble_eq_true rfl) q1865 dX1_deleteWord_37 w (fun g25 w => ?_)
  refine jr_iload_n (pc := 40) F (j := 3) dX1_deleteWord_40 rfl ?_
  refine jr_jV (pc := 41) (As := [_]) (ci := 14) F M (lw_V q2887 q2888 q2889 q124 q2890) dX1_deleteWord_41 hj_J2_remove rfl (Nat.le_of_ble_eq_true rfl) (Nat.le_of_ble_eq_true rfl) (Nat.le_of_ble_eq_true rfl) rfl (jK_J2_remove J _ _ _ _ _ w) (fun v9 h26 k27 q9 => ?_)
  obtain ⟨r28, rfl, w⟩ := q9
  obtain ⟨hi9, w⟩ := w
  refine jr_cast (pc := 44) (ci := 31) F rfl q2823 dX1_deleteWord_44 hi9 ?_
  refine jr_jV (pc := 47) (As := []) (ci := 31) F M (lw_V q2824 q1307 q1308 q161 q1309) dX1_deleteWord_47 hj_J34_booleanValue rfl (Nat.le_of_ble_eq_true rfl) (Nat.le_of_ble_eq_true rfl) (Nat.le_of_ble_eq_true rfl) rfl (jK_J34_booleanValue J _ _ _ _ w) (fun v9 h29 k30 q9 => ?_)
  obtain ⟨r31, rfl, w⟩ := q9
  refine jr_istore (pc := 50) F (vs' := [(5, .inl _), (4, .inr (.inr (.inl _))), (0, .inr (.inr (.inl _))), (1, .inl _), (2, .inl _), (3, .inr (.inr (.inl _)))]) dX1_deleteWord_50 (Nat.le_of_ble_eq_true rfl) rfl ?_
  refine jr_aload_n (pc := 52) F (j := 5) dX1_deleteWord_52 rfl ?_
  refine jr_grN (pc := 53) (ci := 3) (f := 1) F rfl in_X5 (Nat.le_of_ble_eq_true rfl) q1865 dX1_deleteWord_53 w (fun g32 w => ?_)
  refine jr_iconst (pc := 56) F dX1_deleteWord_56 ?_
  refine jr_iconst (pc := 57) F dX1_deleteWord_57 ?_
  refine jr_jS (pc := 58) (As := [_]) F M (lw_S q2870 q2502 q161 q2503) dX1_deleteWord_58 hj_J34_valueOf.2 rfl (Nat.le_of_ble_eq_true rfl) (Nat.le_of_ble_eq_true rfl) (Nat.le_of_ble_eq_true rfl) (jK_J34_valueOf J _ _ _ _ w) (fun v9 h33 k34 q9 => ?_)
  obtain ⟨r35, rfl, w⟩ := q9
  refine jr_jV (pc := 61) (As := [_, _]) (ci := 14) F M (lw_V q2871 q2872 q2873 q124 q2874) dX1_deleteWord_61 hj_J2_set rfl (Nat.le_of_ble_eq_true rfl) (Nat.le_of_ble_eq_true rfl) (Nat.le_of_ble_eq_true rfl) rfl (jK_J2_set J _ _ _ _ _ _ w) (fun v9 h36 k37 q9 => ?_)
  obtain ⟨r38, rfl, w⟩ := q9
  refine jr_pop (pc := 64) F dX1_deleteWord_64 rfl ?_
  refine jr_aload_n (pc := 65) F (j := 5) dX1_deleteWord_65 rfl ?_
  obtain ⟨hi9, w⟩ := w
  refine jr_cV (pc := 66) (As := []) (ci := 3) F M (lw_V q2800 q1990 q1991 q149 q1992) dX1_deleteWord_66 hC_X5_lay rfl (Nat.le_of_ble_eq_true rfl) (Nat.le_of_ble_eq_true rfl) (Nat.le_of_ble_eq_true rfl) rfl hi9 (Nat.zero_le _) (cC_X5_lay J w) (fun v9 h41 q9 => ?_) (fun E9 q9 h9 w9 => jr_out F M O (hE _ _ _ w9))
  obtain ⟨rfl, w⟩ := q9
  refine jr_aload_n (pc := 69) F (j := 2) dX1_deleteWord_69 rfl ?_
  refine jr_gr (pc := 70) (ci := 1) (f := 0) F rfl in_X1 (Nat.le_of_ble_eq_true rfl) q625 dX1_deleteWord_70 w (fun g42 w => ?_)
  refine jr_grN (pc := 73) (ci := 2) (f := 1) F rfl in_X2 (Nat.le_of_ble_eq_true rfl) q596 dX1_deleteWord_73 w (fun g43 w => ?_)
  refine jr_jV (pc := 76) (As := []) (ci := 14) F M (lw_V q1615 q1616 q1617 q124 q1618) dX1_deleteWord_76 hj_J2_iterator rfl (Nat.le_of_ble_eq_true rfl) (Nat.le_of_ble_eq_true rfl) (Nat.le_of_ble_eq_true rfl) rfl (jK_J2_iterator J _ _ _ _ w) (fun v9 h44 k45 q9 => ?_)
  obtain ⟨r46, rfl, w⟩ := q9
  refine jr_astore (pc := 79) F (vs' := [(6, .inr (.inr (.inl _))), (5, .inl _), (4, .inr (.inr (.inl _))), (0, .inr (.inr (.inl _))), (1, .inl _), (2, .inl _), (3, .inr (.inr (.inl _)))]) dX1_deleteWord_79 (Nat.le_of_ble_eq_true rfl) rfl ?_
  refine jj_J.sub [3, 4, 5, 6, 0] rfl ?_
  obtain ⟨n9, w⟩ := w
  exact sC_X1_deleteWord_l81 F M O J hi hQ hE _ _ _ _ _ n9 _ _ w

theorem sC_X1_deleteWord {X : jj_X} {N : Option jj_AV → jj_H → Prop} {XN : String → Nat → jj_H → Prop} (F : jj_F X RX1 cX1_deleteWord 8) (M : jj_M X (some (.int)) 15 665 N XN) (O : jj_no X) (J : jj_GJ X.1 X.2.2.1) (hi : X.2.2.2.2.2.2.2.2.2.1.name = yX1_deleteWord.name) {Q : Int → jj_H → Prop} {E : String → Nat → jj_H → Prop} (hQ : ∀ r h, Q r h → N (some (.inl r)) h) (hE : ∀ e q h, E e q h → XN e q h) (x0 : Option Nat) (x1 : Int) (x2 : Int) : ∀ (h : jj_H) (k : Nat), fC_X1_deleteWord (jj_gk X.1) x0 x1 x2 Q E h k → jj_J X 8 0 [(0, .inr (.inr (.inl x0))), (1, .inl x1), (2, .inl x2)] [] h k := by
  intro h k w
  unfold fC_X1_deleteWord at w
  refine jr_aload_n (pc := 0) F (j := 0) dX1_deleteWord_0 rfl ?_
  refine jr_iload_n (pc := 1) F (j := 1) dX1_deleteWord_1 rfl ?_
  refine jr_iload_n (pc := 2) F (j := 2) dX1_deleteWord_2 rfl ?_
  obtain ⟨hi9, c47, hk9, w⟩ := w
  refine jr_cV (pc := 3) (As := [_, _]) (ci := 1) F M (lw_V q2817 q2819 qs38 q120 q2820) dX1_deleteWord_3 hC_X1_editionWith rfl (Nat.le_of_ble_eq_true rfl) (Nat.le_of_ble_eq_true rfl) (Nat.le_of_ble_eq_true rfl) rfl hi9 hk9 (cC_X1_editionWith J w) (fun v9 h49 q9 => ?_) (fun E9 q9 h9 w9 => jr_out F M O (hE _ _ _ w9))
  obtain ⟨r48, rfl, w⟩ := q9
  refine jr_astore_n (pc := 6) F (vs' := [(3, .inr (.inr (.inl _))), (0, .inr (.inr (.inl _))), (1, .inl _), (2, .inl _)]) dX1_deleteWord_6 (Nat.le_of_ble_eq_true rfl) rfl ?_
  refine jr_aload_n (pc := 7) F (j := 0) dX1_deleteWord_7 rfl ?_
  obtain ⟨hi9, w⟩ := w
  refine jr_cV (pc := 8) (As := []) (ci := 3) F M (lw_V q1664 q706 q707 q149 q708) dX1_deleteWord_8 hC_X5_size rfl (Nat.le_of_ble_eq_true rfl) (Nat.le_of_ble_eq_true rfl) (Nat.le_of_ble_eq_true rfl) rfl hi9 (Nat.zero_le _) (cC_X5_size J w) (fun v9 h52 q9 => ?_) (fun E9 q9 h9 w9 => jr_out F M O (hE _ _ _ w9))
  obtain ⟨r51, rfl, w⟩ := q9
  refine jr_iconst (pc := 11) F dX1_deleteWord_11 ?_
  obtain ⟨hx9, w1, w2⟩ := w
  refine jr_icmp_le (pc := 12) (tgt := 19) F hx9 ⟨by decide, by decide⟩ dX1_deleteWord_12 rfl (fun c9 => ?_) (fun c9 => ?_)
  · have w := w1 c9
    refine jr_iconst (pc := 19) F dX1_deleteWord_19 ?_
    refine jj_J.sub [1, 2, 3, 0] rfl ?_
    exact sC_X1_deleteWord_j20 F M O J hi hQ hE _ _ _ _ _ _ _ w
  · have w := w2 c9
    refine jr_iconst (pc := 15) F dX1_deleteWord_15 ?_
    refine jr_goto (pc := 16) (tgt := 20) F dX1_deleteWord_16 rfl ?_
    refine jj_J.sub [1, 2, 3, 0] rfl ?_
    exact sC_X1_deleteWord_j20 F M O J hi hQ hE _ _ _ _ _ _ _ w

theorem cC_X1_deleteWord {G : jj_G} {l : Launch} (J : jj_GJ G l) {x0 : Option Nat} {x1 : Int} {x2 : Int} {Q : Int → jj_H → Prop} {E : String → Nat → jj_H → Prop} {h : jj_H} {k : Nat} (w : fC_X1_deleteWord (jj_gk G) x0 x1 x2 Q E h k) : jj_Ct G l yX1_deleteWord (ws_ yX1_deleteWord cX1_deleteWord 8 (some (.int))) 15 665 [.inr (.inr (.inl x0)), .inl x1, .inl x2] h k (jc_i Q) E := by
  refine jj_Ct.of (jK_gs J).1 (by decide +kernel) (Nat.le_of_ble_eq_true rfl) rfl (fun X hG hl F M O hnm => ?_)
  subst hG; subst hl
  exact sC_X1_deleteWord F M O J hnm (fun r h q => ⟨r, rfl, q⟩) (fun _ _ _ q => q) _ _ _ _ _ w
theorem hC_X1_deleteWord : yX1_deleteWord.cls = RX1 ∧ yX1_deleteWord.cls ≠ "java/lang/invoke/MethodHandle" ∧ yX1_deleteWord.cls ≠ "java/lang/invoke/VarHandle" ∧ (parseMethodDescriptor yX1_deleteWord.desc).map (fun d => d.parameters.length) = some 2 := by decide +kernel
/-! X1_setParagraph(IIZ)Z -/
def fC_X1_setParagraph_j17 (gk : Nat → Nat) (x2 : Int) (x3 : Int) (x4 : Option Nat) (y0 : Int) (Q : Int → jj_H → Prop) (E : String → Nat → jj_H → Prop) (h : jj_H) (k : Nat) : Prop :=
  ∃ c1, c1 ≤ k ∧ fC_X1_checkIndex gk y0 (fun h3 =>
  jp_gr h3 x4 3 1 (fun g4 =>
  jq_J34_valueOf gk x3 (fun r7 h5 k6 =>
  jq_J2_set g4 x2 r7 (fun r10 h8 k9 =>
  jp_is h8 r10 31 ∧
  jq_J34_booleanValue r10 (fun r13 h11 k12 =>
  jp_is h11 x4 3 ∧ fC_X5_lay gk x4 (fun h16 =>
  (r13 = 0 ∨ r13 = 1) ∧ Q r13 h16) E h11 0) h8 k9) h5 k6) h3 (k - c1))) E h c1
def fC_X1_setParagraph (gk : Nat → Nat) (x0 : Option Nat) (x1 : Int) (x2 : Int) (x3 : Int) (Q : Int → jj_H → Prop) (E : String → Nat → jj_H → Prop) (h : jj_H) (k : Nat) : Prop :=
  jp_is h x0 1 ∧ ∃ c17, c17 ≤ k ∧ fC_X1_editionWith gk x0 x1 x2 (fun r18 h19 =>
  jj_r x2 ∧ (x2 ≤ 0 → (
    fC_X1_setParagraph_j17 gk x2 x3 r18 0 Q E h19 (k - c17))) ∧
  (¬ x2 ≤ 0 → (
    fC_X1_setParagraph_j17 gk x2 x3 r18 1 Q E h19 (k - c17)))) E h c17
theorem sC_X1_setParagraph_j17 {X : jj_X} {N : Option jj_AV → jj_H → Prop} {XN : String → Nat → jj_H → Prop} (F : jj_F X RX1 cX1_setParagraph 6) (M : jj_M X (some (.boolean)) 15 665 N XN) (O : jj_no X) (J : jj_GJ X.1 X.2.2.1) (hi : X.2.2.2.2.2.2.2.2.2.1.name = yX1_setParagraph.name) {Q : Int → jj_H → Prop} {E : String → Nat → jj_H → Prop} (hQ : ∀ r h, Q r h → N (some (.inl r)) h) (hE : ∀ e q h, E e q h → XN e q h) (x2 : Int) (x3 : Int) (x4 : Option Nat) (y0 : Int) : ∀ (h : jj_H) (k : Nat), fC_X1_setParagraph_j17 (jj_gk X.1) x2 x3 x4 y0 Q E h k → jj_J X 6 17 [(2, .inl x2), (3, .inl x3), (4, .inr (.inr (.inl x4)))] [.inl y0] h k := by
  intro h k w
  unfold fC_X1_setParagraph_j17 at w
  obtain ⟨c1, hk9, w⟩ := w
  refine jr_callS (pc := 17) (As := [_]) F M (lw_S q2782 q2783 q120 q2784) dX1_setParagraph_17 hC_X1_checkIndex.2 rfl (Nat.le_of_ble_eq_true rfl) (Nat.le_of_ble_eq_true rfl) (Nat.le_of_ble_eq_true rfl) hk9 (cC_X1_checkIndex J w) (fun v9 h3 q9 => ?_) (fun E9 q9 h9 w9 => jr_out F M O (hE _ _ _ w9))
  obtain ⟨rfl, w⟩ := q9
  refine jr_aload (pc := 20) F (j := 2) dX1_setParagraph_20 rfl ?_
  refine jr_grN (pc := 22) (ci := 3) (f := 1) F rfl in_X5 (Nat.le_of_ble_eq_true rfl) q1865 dX1_setParagraph_22 w (fun g4 w => ?_)
  refine jr_iload_n (pc := 25) F (j := 0) dX1_setParagraph_25 rfl ?_
  refine jr_iload_n (pc := 26) F (j := 1) dX1_setParagraph_26 rfl ?_
  refine jr_jS (pc := 27) (As := [_]) F M (lw_S q2870 q2502 q161 q2503) dX1_setParagraph_27 hj_J34_valueOf.2 rfl (Nat.le_of_ble_eq_true rfl) (Nat.le_of_ble_eq_true rfl) (Nat.le_of_ble_eq_true rfl) (jK_J34_valueOf J _ _ _ _ w) (fun v9 h5 k6 q9 => ?_)
  obtain ⟨r7, rfl, w⟩ := q9
  refine jr_jV (pc := 30) (As := [_, _]) (ci := 14) F M (lw_V q2871 q2872 q2873 q124 q2874) dX1_setParagraph_30 hj_J2_set rfl (Nat.le_of_ble_eq_true rfl) (Nat.le_of_ble_eq_true rfl) (Nat.le_of_ble_eq_true rfl) rfl (jK_J2_set J _ _ _ _ _ _ w) (fun v9 h8 k9 q9 => ?_)
  obtain ⟨r10, rfl, w⟩ := q9
  obtain ⟨hi9, w⟩ := w
  refine jr_cast (pc := 33) (ci := 31) F rfl q2823 dX1_setParagraph_33 hi9 ?_
  refine jr_jV (pc := 36) (As := []) (ci := 31) F M (lw_V q2824 q1307 q1308 q161 q1309) dX1_setParagraph_36 hj_J34_booleanValue rfl (Nat.le_of_ble_eq_true rfl) (Nat.le_of_ble_eq_true rfl) (Nat.le_of_ble_eq_true rfl) rfl (jK_J34_booleanValue J _ _ _ _ w) (fun v9 h11 k12 q9 => ?_)
  obtain ⟨r13, rfl, w⟩ := q9
  refine jr_istore (pc := 39) F (vs' := [(5, .inl _), (2, .inl _), (3, .inl _), (4, .inr (.inr (.inl _)))]) dX1_setParagraph_39 (Nat.le_of_ble_eq_true rfl) rfl ?_
  refine jr_aload (pc := 41) F (j := 3) dX1_setParagraph_41 rfl ?_
  obtain ⟨hi9, w⟩ := w
  refine jr_cV (pc := 43) (As := []) (ci := 3) F M (lw_V q2800 q1990 q1991 q149 q1992) dX1_setParagraph_43 hC_X5_lay rfl (Nat.le_of_ble_eq_true rfl) (Nat.le_of_ble_eq_true rfl) (Nat.le_of_ble_eq_true rfl) rfl hi9 (Nat.zero_le _) (cC_X5_lay J w) (fun v9 h16 q9 => ?_) (fun E9 q9 h9 w9 => jr_out F M O (hE _ _ _ w9))
  obtain ⟨rfl, w⟩ := q9
  refine jr_iload (pc := 46) F (j := 0) dX1_setParagraph_46 rfl ?_
  exact jr_zret (pc := 48) F M dX1_setParagraph_48 w.1 (hQ _ _ w.2)

theorem sC_X1_setParagraph {X : jj_X} {N : Option jj_AV → jj_H → Prop} {XN : String → Nat → jj_H → Prop} (F : jj_F X RX1 cX1_setParagraph 6) (M : jj_M X (some (.boolean)) 15 665 N XN) (O : jj_no X) (J : jj_GJ X.1 X.2.2.1) (hi : X.2.2.2.2.2.2.2.2.2.1.name = yX1_setParagraph.name) {Q : Int → jj_H → Prop} {E : String → Nat → jj_H → Prop} (hQ : ∀ r h, Q r h → N (some (.inl r)) h) (hE : ∀ e q h, E e q h → XN e q h) (x0 : Option Nat) (x1 : Int) (x2 : Int) (x3 : Int) : ∀ (h : jj_H) (k : Nat), fC_X1_setParagraph (jj_gk X.1) x0 x1 x2 x3 Q E h k → jj_J X 6 0 [(0, .inr (.inr (.inl x0))), (1, .inl x1), (2, .inl x2), (3, .inl x3)] [] h k := by
  intro h k w
  unfold fC_X1_setParagraph at w
  refine jr_aload_n (pc := 0) F (j := 0) dX1_setParagraph_0 rfl ?_
  refine jr_iload_n (pc := 1) F (j := 1) dX1_setParagraph_1 rfl ?_
  refine jr_iload_n (pc := 2) F (j := 2) dX1_setParagraph_2 rfl ?_
  obtain ⟨hi9, c17, hk9, w⟩ := w
  refine jr_cV (pc := 3) (As := [_, _]) (ci := 1) F M (lw_V q2817 q2819 qs38 q120 q2820) dX1_setParagraph_3 hC_X1_editionWith rfl (Nat.le_of_ble_eq_true rfl) (Nat.le_of_ble_eq_true rfl) (Nat.le_of_ble_eq_true rfl) rfl hi9 hk9 (cC_X1_editionWith J w) (fun v9 h19 q9 => ?_) (fun E9 q9 h9 w9 => jr_out F M O (hE _ _ _ w9))
  obtain ⟨r18, rfl, w⟩ := q9
  refine jr_astore (pc := 6) F (vs' := [(4, .inr (.inr (.inl _))), (0, .inr (.inr (.inl _))), (1, .inl _), (2, .inl _), (3, .inl _)]) dX1_setParagraph_6 (Nat.le_of_ble_eq_true rfl) rfl ?_
  refine jr_iload_n (pc := 8) F (j := 3) dX1_setParagraph_8 rfl ?_
  obtain ⟨hx9, w1, w2⟩ := w
  refine jr_if_le (pc := 9) (tgt := 16) F hx9 dX1_setParagraph_9 rfl (fun c9 => ?_) (fun c9 => ?_)
  · have w := w1 c9
    refine jr_iconst (pc := 16) F dX1_setParagraph_16 ?_
    refine jj_J.sub [3, 4, 0] rfl ?_
    exact sC_X1_setParagraph_j17 F M O J hi hQ hE _ _ _ _ _ _ w
  · have w := w2 c9
    refine jr_iconst (pc := 12) F dX1_setParagraph_12 ?_
    refine jr_goto (pc := 13) (tgt := 17) F dX1_setParagraph_13 rfl ?_
    refine jj_J.sub [3, 4, 0] rfl ?_
    exact sC_X1_setParagraph_j17 F M O J hi hQ hE _ _ _ _ _ _ w

theorem cC_X1_setParagraph {G : jj_G} {l : Launch} (J : jj_GJ G l) {x0 : Option Nat} {x1 : Int} {x2 : Int} {x3 : Int} {Q : Int → jj_H → Prop} {E : String → Nat → jj_H → Prop} {h : jj_H} {k : Nat} (w : fC_X1_setParagraph (jj_gk G) x0 x1 x2 x3 Q E h k) : jj_Ct G l yX1_setParagraph (ws_ yX1_setParagraph cX1_setParagraph 6 (some (.boolean))) 15 665 [.inr (.inr (.inl x0)), .inl x1, .inl x2, .inl x3] h k (jc_i Q) E := by
  refine jj_Ct.of (jK_gs J).1 (by decide +kernel) (Nat.le_of_ble_eq_true rfl) rfl (fun X hG hl F M O hnm => ?_)
  subst hG; subst hl
  exact sC_X1_setParagraph F M O J hnm (fun r h q => ⟨r, rfl, q⟩) (fun _ _ _ q => q) _ _ _ _ _ _ w
theorem hC_X1_setParagraph : yX1_setParagraph.cls = RX1 ∧ yX1_setParagraph.cls ≠ "java/lang/invoke/MethodHandle" ∧ yX1_setParagraph.cls ≠ "java/lang/invoke/VarHandle" ∧ (parseMethodDescriptor yX1_setParagraph.desc).map (fun d => d.parameters.length) = some 3 := by decide +kernel
/-! X1_setTarget(I)I -/
def fC_X1_setTarget (gk : Nat → Nat) (x0 : Option Nat) (x1 : Int) (Q : Int → jj_H → Prop) (E : String → Nat → jj_H → Prop) (h : jj_H) (k : Nat) : Prop :=
  jp_gr h x0 1 0 (fun g1 =>
  jp_gr h g1 2 0 (fun g2 =>
  jq_J2_size g2 (fun r5 h3 k4 =>
  fC_X1_isBetween gk (jj_i2l x1) 0 (jj_i2l (r5 - 1)) (fun r7 h8 =>
  ∃ c9, c9 ≤ k4 ∧ fC_X1_checkIndex gk r7 (fun h11 =>
  jp_gr h11 x0 1 0 (fun g12 =>
  jp_gi h11 g12 2 4 (fun g13 =>
  jp_gr h11 x0 1 0 (fun g14 =>
  jp_pi h11 g14 2 4 x1 (fun h15 =>
  jp_pr h15 x0 1 1 none (fun h16 =>
  Q g13 h16)))))) E h8 c9) E h3 0) h k))
theorem sC_X1_setTarget {X : jj_X} {N : Option jj_AV → jj_H → Prop} {XN : String → Nat → jj_H → Prop} (F : jj_F X RX1 cX1_setTarget 3) (M : jj_M X (some (.int)) 13 620 N XN) (O : jj_no X) (J : jj_GJ X.1 X.2.2.1) (hi : X.2.2.2.2.2.2.2.2.2.1.name = yX1_setTarget.name) {Q : Int → jj_H → Prop} {E : String → Nat → jj_H → Prop} (hQ : ∀ r h, Q r h → N (some (.inl r)) h) (hE : ∀ e q h, E e q h → XN e q h) (x0 : Option Nat) (x1 : Int) : ∀ (h : jj_H) (k : Nat), fC_X1_setTarget (jj_gk X.1) x0 x1 Q E h k → jj_J X 3 0 [(0, .inr (.inr (.inl x0))), (1, .inl x1)] [] h k := by
  intro h k w
  unfold fC_X1_setTarget at w
  refine jr_iload_n (pc := 0) F (j := 1) dX1_setTarget_0 rfl ?_
  refine jr_i2l (pc := 1) F dX1_setTarget_1 ?_
  refine jr_lconst (pc := 2) F (x := 0) dX1_setTarget_2 (by decide +kernel) ?_
  refine jr_aload_n (pc := 3) F (j := 0) dX1_setTarget_3 rfl ?_
  refine jr_gr (pc := 4) (ci := 1) (f := 0) F rfl in_X1 (Nat.le_of_ble_eq_true rfl) q625 dX1_setTarget_4 w (fun g1 w => ?_)
  refine jr_grN (pc := 7) (ci := 2) (f := 0) F rfl in_X2 (Nat.le_of_ble_eq_true rfl) q591 dX1_setTarget_7 w (fun g2 w => ?_)
  refine jr_jV (pc := 10) (As := []) (ci := 14) F M (lw_V q1646 q676 q677 q124 q678) dX1_setTarget_10 hj_J2_size rfl (Nat.le_of_ble_eq_true rfl) (Nat.le_of_ble_eq_true rfl) (Nat.le_of_ble_eq_true rfl) rfl (jK_J2_size J _ _ _ _ w) (fun v9 h3 k4 q9 => ?_)
  obtain ⟨r5, rfl, w⟩ := q9
  refine jr_iconst (pc := 13) F dX1_setTarget_13 ?_
  refine jr_isub (pc := 14) F dX1_setTarget_14 ?_
  refine jr_i2l (pc := 15) F dX1_setTarget_15 ?_
  refine jr_callS (pc := 16) (As := [_, _, _]) F M (lw_S q2630 q1678 q120 q1679) dX1_setTarget_16 hC_X1_isBetween.2 rfl (Nat.le_of_ble_eq_true rfl) (Nat.le_of_ble_eq_true rfl) (Nat.le_of_ble_eq_true rfl) (Nat.zero_le _) (cC_X1_isBetween J w) (fun v9 h8 q9 => ?_) (fun E9 q9 h9 w9 => jr_out F M O (hE _ _ _ w9))
  obtain ⟨r7, rfl, w⟩ := q9
  obtain ⟨c9, hk9, w⟩ := w
  refine jr_callS (pc := 19) (As := [_]) F M (lw_S q2782 q2783 q120 q2784) dX1_setTarget_19 hC_X1_checkIndex.2 rfl (Nat.le_of_ble_eq_true rfl) (Nat.le_of_ble_eq_true rfl) (Nat.le_of_ble_eq_true rfl) hk9 (cC_X1_checkIndex J w) (fun v9 h11 q9 => ?_) (fun E9 q9 h9 w9 => jr_out F M O (hE _ _ _ w9))
  obtain ⟨rfl, w⟩ := q9
  refine jr_aload_n (pc := 22) F (j := 0) dX1_setTarget_22 rfl ?_
  refine jr_gr (pc := 23) (ci := 1) (f := 0) F rfl in_X1 (Nat.le_of_ble_eq_true rfl) q625 dX1_setTarget_23 w (fun g12 w => ?_)
  refine jr_giN (pc := 26) (ci := 2) (f := 4) F rfl in_X2 (Nat.le_of_ble_eq_true rfl) q605 dX1_setTarget_26 w (fun g13 w => ?_)
  refine jr_istore_n (pc := 29) F (vs' := [(2, .inl _), (0, .inr (.inr (.inl _))), (1, .inl _)]) dX1_setTarget_29 (Nat.le_of_ble_eq_true rfl) rfl ?_
  refine jr_aload_n (pc := 30) F (j := 1) dX1_setTarget_30 rfl ?_
  refine jr_gr (pc := 31) (ci := 1) (f := 0) F rfl in_X1 (Nat.le_of_ble_eq_true rfl) q625 dX1_setTarget_31 w (fun g14 w => ?_)
  refine jr_iload_n (pc := 34) F (j := 2) dX1_setTarget_34 rfl ?_
  refine jr_piN (pc := 35) (ci := 2) (f := 4) F rfl in_X2 tyX2_ok nmX2 (Nat.le_of_ble_eq_true rfl) rfl rfl q605 dX1_setTarget_35 w (fun h15 w => ?_)
  refine jr_aload_n (pc := 38) F (j := 1) dX1_setTarget_38 rfl ?_
  refine jr_null (pc := 39) F dX1_setTarget_39 ?_
  refine jr_pr (pc := 40) (ci := 1) (f := 1) F rfl in_X1 tyX1_ok nmX1 (Nat.le_of_ble_eq_true rfl) rfl rfl q626 dX1_setTarget_40 w (fun h16 w => ?_)
  refine jr_iload_n (pc := 43) F (j := 0) dX1_setTarget_43 rfl ?_
  exact jr_iret (pc := 44) F M dX1_setTarget_44 (hQ _ _ w)

theorem cC_X1_setTarget {G : jj_G} {l : Launch} (J : jj_GJ G l) {x0 : Option Nat} {x1 : Int} {Q : Int → jj_H → Prop} {E : String → Nat → jj_H → Prop} {h : jj_H} {k : Nat} (w : fC_X1_setTarget (jj_gk G) x0 x1 Q E h k) : jj_Ct G l yX1_setTarget (ws_ yX1_setTarget cX1_setTarget 3 (some (.int))) 13 620 [.inr (.inr (.inl x0)), .inl x1] h k (jc_i Q) E := by
  refine jj_Ct.of (jK_gs J).1 (by decide +kernel) (Nat.le_of_ble_eq_true rfl) rfl (fun X hG hl F M O hnm => ?_)
  subst hG; subst hl
  exact sC_X1_setTarget F M O J hnm (fun r h q => ⟨r, rfl, q⟩) (fun _ _ _ q => q) _ _ _ _ w
theorem hC_X1_setTarget : yX1_setTarget.cls = RX1 ∧ yX1_setTarget.cls ≠ "java/lang/invoke/MethodHandle" ∧ yX1_setTarget.cls ≠ "java/lang/invoke/VarHandle" ∧ (parseMethodDescriptor yX1_setTarget.desc).map (fun d => d.parameters.length) = some 1 := by decide +kernel
/-! X1_addReader()I -/
def fC_X1_addReader_j47 (gk : Nat → Nat) (x0 : Option Nat) (x1 : Option Nat) (y0 : Int) (Q : Int → jj_H → Prop) (E : String → Nat → jj_H → Prop) (h : jj_H) (k : Nat) : Prop :=
  ∃ c1, c1 ≤ k ∧ fC_X1_checkState gk y0 (fun h3 =>
  jp_gr h3 x0 1 0 (fun g4 =>
  jp_is h3 g4 2 ∧ ∃ c5, c5 ≤ (k - c1) ∧ fC_X2_addReader gk g4 x1 (fun h7 =>
  jp_is h7 x0 1 ∧ fC_X1_change gk x0 (fun h10 =>
  jp_gr h10 x0 1 0 (fun g11 =>
  jp_gr h10 g11 2 2 (fun g12 =>
  jq_J2_size g12 (fun r15 h13 k14 =>
  Q (r15 - 1) h13) h10 ((k - c1) - c5)))) E h7 0) E h3 c5)) E h c1
def fC_X1_addReader_j24 (gk : Nat → Nat) (x0 : Option Nat) (x1 : Option Nat) (y0 : Int) (Q : Int → jj_H → Prop) (E : String → Nat → jj_H → Prop) (h : jj_H) (k : Nat) : Prop :=
  ∃ c16, c16 ≤ k ∧ fC_X1_checkArgument gk y0 (fun h18 =>
  jp_gr h18 x0 1 0 (fun g19 =>
  jp_gr h18 g19 2 2 (fun g20 =>
  jq_J2_size g20 (fun r23 h21 k22 =>
  jj_r r23 ∧ (6 ≤ r23 → (
    fC_X1_addReader_j47 gk x0 x1 0 Q E h21 k22)) ∧
  (¬ 6 ≤ r23 → (
    fC_X1_addReader_j47 gk x0 x1 1 Q E h21 k22))) h18 (k - c16)))) E h c16
def fC_X1_addReader (gk : Nat → Nat) (x0 : Option Nat) (Q : Int → jj_H → Prop) (E : String → Nat → jj_H → Prop) (h : jj_H) (k : Nat) : Prop :=
  jp_is h x0 1 ∧ ∃ c24, c24 ≤ k ∧ fC_X1_oneWord gk x0 (fun r25 h26 =>
  jp_gr h26 x0 1 0 (fun g27 =>
  jp_gr h26 g27 2 3 (fun g28 =>
  jq_J19_containsKey g28 r25 (fun r31 h29 k30 =>
  jj_r r31 ∧ (¬ r31 = 0 → (
    fC_X1_addReader_j24 gk x0 r25 0 Q E h29 k30)) ∧
  (r31 = 0 → (
    fC_X1_addReader_j24 gk x0 r25 1 Q E h29 k30))) h26 (k - c24)))) E h c24
theorem sC_X1_addReader_j47 {X : jj_X} {N : Option jj_AV → jj_H → Prop} {XN : String → Nat → jj_H → Prop} (F : jj_F X RX1 cX1_addReader 2) (M : jj_M X (some (.int)) 17 713 N XN) (O : jj_no X) (J : jj_GJ X.1 X.2.2.1) (hi : X.2.2.2.2.2.2.2.2.2.1.name = yX1_addReader.name) {Q : Int → jj_H → Prop} {E : String → Nat → jj_H → Prop} (hQ : ∀ r h, Q r h → N (some (.inl r)) h) (hE : ∀ e q h, E e q h → XN e q h) (x0 : Option Nat) (x1 : Option Nat) (y0 : Int) : ∀ (h : jj_H) (k : Nat), fC_X1_addReader_j47 (jj_gk X.1) x0 x1 y0 Q E h k → jj_J X 2 47 [(0, .inr (.inr (.inl x0))), (1, .inr (.inr (.inl x1)))] [.inl y0] h k := by
  intro h k w
  unfold fC_X1_addReader_j47 at w
  obtain ⟨c1, hk9, w⟩ := w
  refine jr_callS (pc := 47) (As := [_]) F M (lw_S q2604 q2605 q120 q2606) dX1_addReader_47 hC_X1_checkState.2 rfl (Nat.le_of_ble_eq_true rfl) (Nat.le_of_ble_eq_true rfl) (Nat.le_of_ble_eq_true rfl) hk9 (cC_X1_checkState J w) (fun v9 h3 q9 => ?_) (fun E9 q9 h9 w9 => jr_out F M O (hE _ _ _ w9))
  obtain ⟨rfl, w⟩ := q9
  refine jr_aload_n (pc := 50) F (j := 0) dX1_addReader_50 rfl ?_
  refine jr_gr (pc := 51) (ci := 1) (f := 0) F rfl in_X1 (Nat.le_of_ble_eq_true rfl) q625 dX1_addReader_51 w (fun g4 w => ?_)
  refine jr_aload_n (pc := 54) F (j := 1) dX1_addReader_54 rfl ?_
  obtain ⟨hi9, c5, hk9, w⟩ := w
  refine jr_cV (pc := 55) (As := [_]) (ci := 2) F M (lw_V q2922 q2332 q2333 q121 q2334) dX1_addReader_55 hC_X2_addReader rfl (Nat.le_of_ble_eq_true rfl) (Nat.le_of_ble_eq_true rfl) (Nat.le_of_ble_eq_true rfl) rfl hi9 hk9 (cC_X2_addReader J w) (fun v9 h7 q9 => ?_) (fun E9 q9 h9 w9 => jr_out F M O (hE _ _ _ w9))
  obtain ⟨rfl, w⟩ := q9
  refine jr_aload_n (pc := 58) F (j := 0) dX1_addReader_58 rfl ?_
  obtain ⟨hi9, w⟩ := w
  refine jr_cV (pc := 59) (As := []) (ci := 1) F M (lw_V q2763 q2765 qs36 q120 q2766) dX1_addReader_59 hC_X1_change rfl (Nat.le_of_ble_eq_true rfl) (Nat.le_of_ble_eq_true rfl) (Nat.le_of_ble_eq_true rfl) rfl hi9 (Nat.zero_le _) (cC_X1_change J w) (fun v9 h10 q9 => ?_) (fun E9 q9 h9 w9 => jr_out F M O (hE _ _ _ w9))
  obtain ⟨rfl, w⟩ := q9
  refine jr_aload_n (pc := 62) F (j := 0) dX1_addReader_62 rfl ?_
  refine jr_gr (pc := 63) (ci := 1) (f := 0) F rfl in_X1 (Nat.le_of_ble_eq_true rfl) q625 dX1_addReader_63 w (fun g11 w => ?_)
  refine jr_grN (pc := 66) (ci := 2) (f := 2) F rfl in_X2 (Nat.le_of_ble_eq_true rfl) q599 dX1_addReader_66 w (fun g12 w => ?_)
  refine jr_jV (pc := 69) (As := []) (ci := 14) F M (lw_V q1646 q676 q677 q124 q678) dX1_addReader_69 hj_J2_size rfl (Nat.le_of_ble_eq_true rfl) (Nat.le_of_ble_eq_true rfl) (Nat.le_of_ble_eq_true rfl) rfl (jK_J2_size J _ _ _ _ w) (fun v9 h13 k14 q9 => ?_)
  obtain ⟨r15, rfl, w⟩ := q9
  refine jr_iconst (pc := 72) F dX1_addReader_72 ?_
  refine jr_isub (pc := 73) F dX1_addReader_73 ?_
  exact jr_iret (pc := 74) F M dX1_addReader_74 (hQ _ _ w)

theorem sC_X1_addReader_j24 {X : jj_X} {N : Option jj_AV → jj_H → Prop} {XN : String → Nat → jj_H → Prop} (F : jj_F X RX1 cX1_addReader 2) (M : jj_M X (some (.int)) 17 713 N XN) (O : jj_no X) (J : jj_GJ X.1 X.2.2.1) (hi : X.2.2.2.2.2.2.2.2.2.1.name = yX1_addReader.name) {Q : Int → jj_H → Prop} {E : String → Nat → jj_H → Prop} (hQ : ∀ r h, Q r h → N (some (.inl r)) h) (hE : ∀ e q h, E e q h → XN e q h) (x0 : Option Nat) (x1 : Option Nat) (y0 : Int) : ∀ (h : jj_H) (k : Nat), fC_X1_addReader_j24 (jj_gk X.1) x0 x1 y0 Q E h k → jj_J X 2 24 [(0, .inr (.inr (.inl x0))), (1, .inr (.inr (.inl x1)))] [.inl y0] h k := by
  intro h k w
  unfold fC_X1_addReader_j24 at w
  obtain ⟨c16, hk9, w⟩ := w
  refine jr_callS (pc := 24) (As := [_]) F M (lw_S q2631 q2632 q120 q2633) dX1_addReader_24 hC_X1_checkArgument.2 rfl (Nat.le_of_ble_eq_true rfl) (Nat.le_of_ble_eq_true rfl) (Nat.le_of_ble_eq_true rfl) hk9 (cC_X1_checkArgument J w) (fun v9 h18 q9 => ?_) (fun E9 q9 h9 w9 => jr_out F M O (hE _ _ _ w9))
  obtain ⟨rfl, w⟩ := q9
  refine jr_aload_n (pc := 27) F (j := 0) dX1_addReader_27 rfl ?_
  refine jr_gr (pc := 28) (ci := 1) (f := 0) F rfl in_X1 (Nat.le_of_ble_eq_true rfl) q625 dX1_addReader_28 w (fun g19 w => ?_)
  refine jr_grN (pc := 31) (ci := 2) (f := 2) F rfl in_X2 (Nat.le_of_ble_eq_true rfl) q599 dX1_addReader_31 w (fun g20 w => ?_)
  refine jr_jV (pc := 34) (As := []) (ci := 14) F M (lw_V q1646 q676 q677 q124 q678) dX1_addReader_34 hj_J2_size rfl (Nat.le_of_ble_eq_true rfl) (Nat.le_of_ble_eq_true rfl) (Nat.le_of_ble_eq_true rfl) rfl (jK_J2_size J _ _ _ _ w) (fun v9 h21 k22 q9 => ?_)
  obtain ⟨r23, rfl, w⟩ := q9
  refine jr_bipush (pc := 37) F dX1_addReader_37 (by decide +kernel) ?_
  obtain ⟨hx9, w1, w2⟩ := w
  refine jr_icmp_ge (pc := 39) (tgt := 46) F hx9 ⟨by decide, by decide⟩ dX1_addReader_39 rfl (fun c9 => ?_) (fun c9 => ?_)
  · have w := w1 c9
    refine jr_iconst (pc := 46) F dX1_addReader_46 ?_
    exact sC_X1_addReader_j47 F M O J hi hQ hE _ _ _ _ _ w
  · have w := w2 c9
    refine jr_iconst (pc := 42) F dX1_addReader_42 ?_
    refine jr_goto (pc := 43) (tgt := 47) F dX1_addReader_43 rfl ?_
    exact sC_X1_addReader_j47 F M O J hi hQ hE _ _ _ _ _ w

theorem sC_X1_addReader {X : jj_X} {N : Option jj_AV → jj_H → Prop} {XN : String → Nat → jj_H → Prop} (F : jj_F X RX1 cX1_addReader 2) (M : jj_M X (some (.int)) 17 713 N XN) (O : jj_no X) (J : jj_GJ X.1 X.2.2.1) (hi : X.2.2.2.2.2.2.2.2.2.1.name = yX1_addReader.name) {Q : Int → jj_H → Prop} {E : String → Nat → jj_H → Prop} (hQ : ∀ r h, Q r h → N (some (.inl r)) h) (hE : ∀ e q h, E e q h → XN e q h) (x0 : Option Nat) : ∀ (h : jj_H) (k : Nat), fC_X1_addReader (jj_gk X.1) x0 Q E h k → jj_J X 2 0 [(0, .inr (.inr (.inl x0)))] [] h k := by
  intro h k w
  unfold fC_X1_addReader at w
  refine jr_aload_n (pc := 0) F (j := 0) dX1_addReader_0 rfl ?_
  obtain ⟨hi9, c24, hk9, w⟩ := w
  refine jr_cV (pc := 1) (As := []) (ci := 1) F M (lw_V q2850 q2852 qs39 q120 q2853) dX1_addReader_1 hC_X1_oneWord rfl (Nat.le_of_ble_eq_true rfl) (Nat.le_of_ble_eq_true rfl) (Nat.le_of_ble_eq_true rfl) rfl hi9 hk9 (cC_X1_oneWord J w) (fun v9 h26 q9 => ?_) (fun E9 q9 h9 w9 => jr_out F M O (hE _ _ _ w9))
  obtain ⟨r25, rfl, w⟩ := q9
  refine jr_astore_n (pc := 4) F (vs' := [(1, .inr (.inr (.inl _))), (0, .inr (.inr (.inl _)))]) dX1_addReader_4 (Nat.le_of_ble_eq_true rfl) rfl ?_
  refine jr_aload_n (pc := 5) F (j := 1) dX1_addReader_5 rfl ?_
  refine jr_gr (pc := 6) (ci := 1) (f := 0) F rfl in_X1 (Nat.le_of_ble_eq_true rfl) q625 dX1_addReader_6 w (fun g27 w => ?_)
  refine jr_grN (pc := 9) (ci := 2) (f := 3) F rfl in_X2 (Nat.le_of_ble_eq_true rfl) q602 dX1_addReader_9 w (fun g28 w => ?_)
  refine jr_aload_n (pc := 12) F (j := 0) dX1_addReader_12 rfl ?_
  refine jr_jV (pc := 13) (As := [_]) (ci := 16) F M (lw_V q2921 q1165 q1166 q142 q1167) dX1_addReader_13 hj_J19_containsKey rfl (Nat.le_of_ble_eq_true rfl) (Nat.le_of_ble_eq_true rfl) (Nat.le_of_ble_eq_true rfl) rfl (jK_J19_containsKey J _ _ _ _ _ w) (fun v9 h29 k30 q9 => ?_)
  obtain ⟨r31, rfl, w⟩ := q9
  obtain ⟨hx9, w1, w2⟩ := w
  refine jr_if_ne (pc := 16) (tgt := 23) F hx9 dX1_addReader_16 rfl (fun c9 => ?_) (fun c9 => ?_)
  · have w := w1 c9
    refine jr_iconst (pc := 23) F dX1_addReader_23 ?_
    refine jj_J.sub [1, 0] rfl ?_
    exact sC_X1_addReader_j24 F M O J hi hQ hE _ _ _ _ _ w
  · have w := w2 c9
    refine jr_iconst (pc := 19) F dX1_addReader_19 ?_
    refine jr_goto (pc := 20) (tgt := 24) F dX1_addReader_20 rfl ?_
    refine jj_J.sub [1, 0] rfl ?_
    exact sC_X1_addReader_j24 F M O J hi hQ hE _ _ _ _ _ w

theorem cC_X1_addReader {G : jj_G} {l : Launch} (J : jj_GJ G l) {x0 : Option Nat} {Q : Int → jj_H → Prop} {E : String → Nat → jj_H → Prop} {h : jj_H} {k : Nat} (w : fC_X1_addReader (jj_gk G) x0 Q E h k) : jj_Ct G l yX1_addReader (ws_ yX1_addReader cX1_addReader 2 (some (.int))) 17 713 [.inr (.inr (.inl x0))] h k (jc_i Q) E := by
  refine jj_Ct.of (jK_gs J).1 (by decide +kernel) (Nat.le_of_ble_eq_true rfl) rfl (fun X hG hl F M O hnm => ?_)
  subst hG; subst hl
  exact sC_X1_addReader F M O J hnm (fun r h q => ⟨r, rfl, q⟩) (fun _ _ _ q => q) _ _ _ w
theorem hC_X1_addReader : yX1_addReader.cls = RX1 ∧ yX1_addReader.cls ≠ "java/lang/invoke/MethodHandle" ∧ yX1_addReader.cls ≠ "java/lang/invoke/VarHandle" ∧ (parseMethodDescriptor yX1_addReader.desc).map (fun d => d.parameters.length) = some 0 := by decide +kernel
/-! X1_addNote(IIIII)I -/
def fC_X1_addNote_j112 (gk : Nat → Nat) (x0 : Option Nat) (x1 : Int) (x2 : Int) (x3 : Int) (x4 : Int) (x5 : Int) (x7 : Option Nat) (y0 : Int) (Q : Int → jj_H → Prop) (E : String → Nat → jj_H → Prop) (h : jj_H) (k : Nat) : Prop :=
  ∃ c1, c1 ≤ k ∧ fC_X1_checkState gk y0 (fun h3 =>
  jp_gr h3 x0 1 0 (fun g4 =>
  jp_gr h3 g4 2 1 (fun g5 =>
  jp_nw h3 (k - c1) 4 2 df_X6 (fun a6 h7 k8 =>
  jp_so (some a6) ∧ ∃ c9, c9 ≤ k8 ∧ fC_X6_init gk (some a6) x1 x2 x3 x4 x5 x7 (fun h11 =>
  jq_J2_add g5 (some a6) (fun r14 h12 k13 =>
  jp_is h12 x0 1 ∧ fC_X1_change gk x0 (fun h17 =>
  jp_gr h17 x0 1 0 (fun g18 =>
  jp_gr h17 g18 2 1 (fun g19 =>
  jq_J2_size g19 (fun r22 h20 k21 =>
  Q (r22 - 1) h20) h17 k13))) E h12 0) h11 (k8 - c9)) E h7 c9)))) E h c1
def fC_X1_addNote_j68 (gk : Nat → Nat) (x0 : Option Nat) (x1 : Int) (x2 : Int) (x3 : Int) (x4 : Int) (x5 : Int) (y0 : Int) (Q : Int → jj_H → Prop) (E : String → Nat → jj_H → Prop) (h : jj_H) (k : Nat) : Prop :=
  ∃ c23, c23 ≤ k ∧ fC_X1_checkIndex gk y0 (fun h25 =>
  fC_X1_isBetween gk (jj_i2l x2) 0 3 (fun r27 h28 =>
  ∃ c29, c29 ≤ (k - c23) ∧ fC_X1_checkArgument gk r27 (fun h31 =>
  jp_is h31 x0 1 ∧ ∃ c32, c32 ≤ ((k - c23) - c29) ∧ fC_X1_words gk x0 0 6 (fun r33 h34 =>
  jp_gr h34 x0 1 0 (fun g35 =>
  jp_gr h34 g35 2 1 (fun g36 =>
  jq_J2_size g36 (fun r39 h37 k38 =>
  jj_r r39 ∧ (40 ≤ r39 → (
    fC_X1_addNote_j112 gk x0 x1 x2 x3 x4 x5 r33 0 Q E h37 k38)) ∧
  (¬ 40 ≤ r39 → (
    fC_X1_addNote_j112 gk x0 x1 x2 x3 x4 x5 r33 1 Q E h37 k38))) h34 (((k - c23) - c29) - c32)))) E h31 c32) E h28 c29) E h25 0) E h c23
def fC_X1_addNote_j67 (gk : Nat → Nat) (x0 : Option Nat) (x1 : Int) (x2 : Int) (x3 : Int) (x4 : Int) (x5 : Int) (Q : Int → jj_H → Prop) (E : String → Nat → jj_H → Prop) (h : jj_H) (k : Nat) : Prop :=
  fC_X1_addNote_j68 gk x0 x1 x2 x3 x4 x5 0 Q E h k
def fC_X1_addNote (gk : Nat → Nat) (x0 : Option Nat) (x1 : Int) (x2 : Int) (x3 : Int) (x4 : Int) (x5 : Int) (Q : Int → jj_H → Prop) (E : String → Nat → jj_H → Prop) (h : jj_H) (k : Nat) : Prop :=
  jp_gr h x0 1 0 (fun g40 =>
  jp_gr h g40 2 2 (fun g41 =>
  jq_J2_size g41 (fun r44 h42 k43 =>
  fC_X1_isBetween gk (jj_i2l x1) 0 (jj_i2l (r44 - 1)) (fun r46 h47 =>
  ∃ c48, c48 ≤ k43 ∧ fC_X1_checkIndex gk r46 (fun h50 =>
  jp_is h50 x0 1 ∧ ∃ c51, c51 ≤ (k43 - c48) ∧ fC_X1_edition gk x0 x3 (fun r52 h53 =>
  jp_is h53 r52 3 ∧ fC_X5_last gk r52 (fun r55 h56 =>
  fC_X1_isBetween gk (jj_i2l x4) 0 (jj_i2l r55) (fun r58 h59 =>
  jj_r r58 ∧ (r58 = 0 → (
    fC_X1_addNote_j67 gk x0 x1 x2 x3 x4 x5 Q E h59 ((k43 - c48) - c51))) ∧
  (¬ r58 = 0 → (
    jp_is h59 r52 3 ∧ fC_X5_last gk r52 (fun r61 h62 =>
    fC_X1_isBetween gk (jj_i2l x5) (jj_i2l x4) (jj_i2l r61) (fun r64 h65 =>
    jj_r r64 ∧ (r64 = 0 → (
      fC_X1_addNote_j67 gk x0 x1 x2 x3 x4 x5 Q E h65 ((k43 - c48) - c51))) ∧
    (¬ r64 = 0 → (
      fC_X1_addNote_j68 gk x0 x1 x2 x3 x4 x5 1 Q E h65 ((k43 - c48) - c51)))) E h62 0) E h59 0))) E h56 0) E h53 0) E h50 c51) E h47 c48) E h42 0) h k))
theorem sC_X1_addNote_j112 {X : jj_X} {N : Option jj_AV → jj_H → Prop} {XN : String → Nat → jj_H → Prop} (F : jj_F X RX1 cX1_addNote 8) (M : jj_M X (some (.int)) 16 693 N XN) (O : jj_no X) (J : jj_GJ X.1 X.2.2.1) (hi : X.2.2.2.2.2.2.2.2.2.1.name = yX1_addNote.name) {Q : Int → jj_H → Prop} {E : String → Nat → jj_H → Prop} (hQ : ∀ r h, Q r h → N (some (.inl r)) h) (hE : ∀ e q h, E e q h → XN e q h) (x0 : Option Nat) (x1 : Int) (x2 : Int) (x3 : Int) (x4 : Int) (x5 : Int) (x7 : Option Nat) (y0 : Int) : ∀ (h : jj_H) (k : Nat), fC_X1_addNote_j112 (jj_gk X.1) x0 x1 x2 x3 x4 x5 x7 y0 Q E h k → jj_J X 8 112 [(0, .inr (.inr (.inl x0))), (1, .inl x1), (2, .inl x2), (3, .inl x3), (4, .inl x4), (5, .inl x5), (7, .inr (.inr (.inl x7)))] [.inl y0] h k := by
  intro h k w
  unfold fC_X1_addNote_j112 at w
  obtain ⟨c1, hk9, w⟩ := w
  refine jr_callS (pc := 112) (As := [_]) F M (lw_S q2604 q2605 q120 q2606) dX1_addNote_112 hC_X1_checkState.2 rfl (Nat.le_of_ble_eq_true rfl) (Nat.le_of_ble_eq_true rfl) (Nat.le_of_ble_eq_true rfl) hk9 (cC_X1_checkState J w) (fun v9 h3 q9 => ?_) (fun E9 q9 h9 w9 => jr_out F M O (hE _ _ _ w9))
  obtain ⟨rfl, w⟩ := q9
  refine jr_aload_n (pc := 115) F (j := 0) dX1_addNote_115 rfl ?_
  refine jr_gr (pc := 116) (ci := 1) (f := 0) F rfl in_X1 (Nat.le_of_ble_eq_true rfl) q625 dX1_addNote_116 w (fun g4 w => ?_)
  refine jr_grN (pc := 119) (ci := 2) (f := 1) F rfl in_X2 (Nat.le_of_ble_eq_true rfl) q596 dX1_addNote_119 w (fun g5 w => ?_)
  refine jr_new (pc := 122) (ci := 4) F rfl in_X6 tyX6_ok q2875 q2006 q159 dfo_X6 rfl ⟨by decide, by decide⟩ dX1_addNote_122 w (fun a6 h7 k8 w => ?_)
  refine jr_dup (pc := 125) F dX1_addNote_125 rfl ?_
  refine jr_iload_n (pc := 126) F (j := 1) dX1_addNote_126 rfl ?_
  refine jr_iload_n (pc := 127) F (j := 2) dX1_addNote_127 rfl ?_
  refine jr_iload_n (pc := 128) F (j := 3) dX1_addNote_128 rfl ?_
  refine jr_iload (pc := 129) F (j := 4) dX1_addNote_129 rfl ?_
  refine jr_iload (pc := 131) F (j := 5) dX1_addNote_131 rfl ?_
  refine jr_aload (pc := 133) F (j := 6) dX1_addNote_133 rfl ?_
  obtain ⟨hi9, c9, hk9, w⟩ := w
  refine jr_cI (pc := 135) (As := [_, _, _, _, _, _]) F M q2931 q2008 q159 q2009 dX1_addNote_135 rfl hC_X6_init.2 rfl (Nat.le_of_ble_eq_true rfl) (Nat.le_of_ble_eq_true rfl) (Nat.le_of_ble_eq_true rfl) hi9 hk9 (cC_X6_init J w) (fun v9 h11 q9 => ?_) (fun E9 q9 h9 w9 => jr_out F M O (hE _ _ _ w9))
  obtain ⟨rfl, w⟩ := q9
  refine jr_jV (pc := 138) (As := [_]) (ci := 14) F M (lw_V q2676 q820 q821 q124 q822) dX1_addNote_138 hj_J2_add rfl (Nat.le_of_ble_eq_true rfl) (Nat.le_of_ble_eq_true rfl) (Nat.le_of_ble_eq_true rfl) rfl (jK_J2_add J _ _ _ _ _ w) (fun v9 h12 k13 q9 => ?_)
  obtain ⟨r14, rfl, w⟩ := q9
  refine jr_pop (pc := 141) F dX1_addNote_141 rfl ?_
  refine jr_aload_n (pc := 142) F (j := 0) dX1_addNote_142 rfl ?_
  obtain ⟨hi9, w⟩ := w
  refine jr_cV (pc := 143) (As := []) (ci := 1) F M (lw_V q2763 q2765 qs36 q120 q2766) dX1_addNote_143 hC_X1_change rfl (Nat.le_of_ble_eq_true rfl) (Nat.le_of_ble_eq_true rfl) (Nat.le_of_ble_eq_true rfl) rfl hi9 (Nat.zero_le _) (cC_X1_change J w) (fun v9 h17 q9 => ?_) (fun E9 q9 h9 w9 => jr_out F M O (hE _ _ _ w9))
  obtain ⟨rfl, w⟩ := q9
  refine jr_aload_n (pc := 146) F (j := 0) dX1_addNote_146 rfl ?_
  refine jr_gr (pc := 147) (ci := 1) (f := 0) F rfl in_X1 (Nat.le_of_ble_eq_true rfl) q625 dX1_addNote_147 w (fun g18 w => ?_)
  refine jr_grN (pc := 150) (ci := 2) (f := 1) F rfl in_X2 (Nat.le_of_ble_eq_true rfl) q596 dX1_addNote_150 w (fun g19 w => ?_)
  refine jr_jV (pc := 153) (As := []) (ci := 14) F M (lw_V q1646 q676 q677 q124 q678) dX1_addNote_153 hj_J2_size rfl (Nat.le_of_ble_eq_true rfl) (Nat.le_of_ble_eq_true rfl) (Nat.le_of_ble_eq_true rfl) rfl (jK_J2_size J _ _ _ _ w) (fun v9 h20 k21 q9 => ?_)
  obtain ⟨r22, rfl, w⟩ := q9
  refine jr_iconst (pc := 156) F dX1_addNote_156 ?_
  refine jr_isub (pc := 157) F dX1_addNote_157 ?_
  exact jr_iret (pc := 158) F M dX1_addNote_158 (hQ _ _ w)

theorem sC_X1_addNote_j68 {X : jj_X} {N : Option jj_AV → jj_H → Prop} {XN : String → Nat → jj_H → Prop} (F : jj_F X RX1 cX1_addNote 8) (M : jj_M X (some (.int)) 16 693 N XN) (O : jj_no X) (J : jj_GJ X.1 X.2.2.1) (hi : X.2.2.2.2.2.2.2.2.2.1.name = yX1_addNote.name) {Q : Int → jj_H → Prop} {E : String → Nat → jj_H → Prop} (hQ : ∀ r h, Q r h → N (some (.inl r)) h) (hE : ∀ e q h, E e q h → XN e q h) (x0 : Option Nat) (x1 : Int) (x2 : Int) (x3 : Int) (x4 : Int) (x5 : Int) (y0 : Int) : ∀ (h : jj_H) (k : Nat), fC_X1_addNote_j68 (jj_gk X.1) x0 x1 x2 x3 x4 x5 y0 Q E h k → jj_J X 8 68 [(0, .inr (.inr (.inl x0))), (1, .inl x1), (2, .inl x2), (3, .inl x3), (4, .inl x4), (5, .inl x5)] [.inl y0] h k := by
  intro h k w
  unfold fC_X1_addNote_j68 at w
  obtain ⟨c23, hk9, w⟩ := w
  refine jr_callS (pc := 68) (As := [_]) F M (lw_S q2782 q2783 q120 q2784) dX1_addNote_68 hC_X1_checkIndex.2 rfl (Nat.le_of_ble_eq_true rfl) (Nat.le_of_ble_eq_true rfl) (Nat.le_of_ble_eq_true rfl) hk9 (cC_X1_checkIndex J w) (fun v9 h25 q9 => ?_) (fun E9 q9 h9 w9 => jr_out F M O (hE _ _ _ w9))
  obtain ⟨rfl, w⟩ := q9
  refine jr_iload_n (pc := 71) F (j := 2) dX1_addNote_71 rfl ?_
  refine jr_i2l (pc := 72) F dX1_addNote_72 ?_
  refine jr_lconst (pc := 73) F (x := 0) dX1_addNote_73 (by decide +kernel) ?_
  refine jr_ldc2 (pc := 74) F (x := 3) q2930 dX1_addNote_74 (by decide +kernel) ?_
  refine jr_callS (pc := 77) (As := [_, _, _]) F M (lw_S q2630 q1678 q120 q1679) dX1_addNote_77 hC_X1_isBetween.2 rfl (Nat.le_of_ble_eq_true rfl) (Nat.le_of_ble_eq_true rfl) (Nat.le_of_ble_eq_true rfl) (Nat.zero_le _) (cC_X1_isBetween J w) (fun v9 h28 q9 => ?_) (fun E9 q9 h9 w9 => jr_out F M O (hE _ _ _ w9))
  obtain ⟨r27, rfl, w⟩ := q9
  obtain ⟨c29, hk9, w⟩ := w
  refine jr_callS (pc := 80) (As := [_]) F M (lw_S q2631 q2632 q120 q2633) dX1_addNote_80 hC_X1_checkArgument.2 rfl (Nat.le_of_ble_eq_true rfl) (Nat.le_of_ble_eq_true rfl) (Nat.le_of_ble_eq_true rfl) hk9 (cC_X1_checkArgument J w) (fun v9 h31 q9 => ?_) (fun E9 q9 h9 w9 => jr_out F M O (hE _ _ _ w9))
  obtain ⟨rfl, w⟩ := q9
  refine jr_aload_n (pc := 83) F (j := 0) dX1_addNote_83 rfl ?_
  refine jr_iconst (pc := 84) F dX1_addNote_84 ?_
  refine jr_bipush (pc := 85) F dX1_addNote_85 (by decide +kernel) ?_
  obtain ⟨hi9, c32, hk9, w⟩ := w
  refine jr_cVX (pc := 87) (As := [_, _]) (ci := 1) F M (lw_VW q2657 q2659 qs34 q120 q2660) dX1_addNote_87 hC_X1_words rfl (Nat.le_of_ble_eq_true rfl) (Nat.le_of_ble_eq_true rfl) (Nat.le_of_ble_eq_true rfl) rfl hi9 hk9 (cC_X1_words J w) (fun v9 h34 q9 => ?_) (fun E9 q9 h9 w9 => jr_out F M O (hE _ _ _ w9))
  obtain ⟨r33, rfl, w⟩ := q9
  refine jr_astore (pc := 90) F (vs' := [(7, .inr (.inr (.inl _))), (0, .inr (.inr (.inl _))), (1, .inl _), (2, .inl _), (3, .inl _), (4, .inl _), (5, .inl _)]) dX1_addNote_90 (Nat.le_of_ble_eq_true rfl) rfl ?_
  refine jr_aload_n (pc := 92) F (j := 1) dX1_addNote_92 rfl ?_
  refine jr_gr (pc := 93) (ci := 1) (f := 0) F rfl in_X1 (Nat.le_of_ble_eq_true rfl) q625 dX1_addNote_93 w (fun g35 w => ?_)
  refine jr_grN (pc := 96) (ci := 2) (f := 1) F rfl in_X2 (Nat.le_of_ble_eq_true rfl) q596 dX1_addNote_96 w (fun g36 w => ?_)
  refine jr_jV (pc := 99) (As := []) (ci := 14) F M (lw_V q1646 q676 q677 q124 q678) dX1_addNote_99 hj_J2_size rfl (Nat.le_of_ble_eq_true rfl) (Nat.le_of_ble_eq_true rfl) (Nat.le_of_ble_eq_true rfl) rfl (jK_J2_size J _ _ _ _ w) (fun v9 h37 k38 q9 => ?_)
  obtain ⟨r39, rfl, w⟩ := q9
  refine jr_bipush (pc := 102) F dX1_addNote_102 (by decide +kernel) ?_
  obtain ⟨hx9, w1, w2⟩ := w
  refine jr_icmp_ge (pc := 104) (tgt := 111) F hx9 ⟨by decide, by decide⟩ dX1_addNote_104 rfl (fun c9 => ?_) (fun c9 => ?_)
  · have w := w1 c9
    refine jr_iconst (pc := 111) F dX1_addNote_111 ?_
    refine jj_J.sub [1, 2, 3, 4, 5, 6, 0] rfl ?_
    exact sC_X1_addNote_j112 F M O J hi hQ hE _ _ _ _ _ _ _ _ _ _ w
  · have w := w2 c9
    refine jr_iconst (pc := 107) F dX1_addNote_107 ?_
    refine jr_goto (pc := 108) (tgt := 112) F dX1_addNote_108 rfl ?_
    refine jj_J.sub [1, 2, 3, 4, 5, 6, 0] rfl ?_
    exact sC_X1_addNote_j112 F M O J hi hQ hE _ _ _ _ _ _ _ _ _ _ w

theorem sC_X1_addNote_j67 {X : jj_X} {N : Option jj_AV → jj_H → Prop} {XN : String → Nat → jj_H → Prop} (F : jj_F X RX1 cX1_addNote 8) (M : jj_M X (some (.int)) 16 693 N XN) (O : jj_no X) (J : jj_GJ X.1 X.2.2.1) (hi : X.2.2.2.2.2.2.2.2.2.1.name = yX1_addNote.name) {Q : Int → jj_H → Prop} {E : String → Nat → jj_H → Prop} (hQ : ∀ r h, Q r h → N (some (.inl r)) h) (hE : ∀ e q h, E e q h → XN e q h) (x0 : Option Nat) (x1 : Int) (x2 : Int) (x3 : Int) (x4 : Int) (x5 : Int) : ∀ (h : jj_H) (k : Nat), fC_X1_addNote_j67 (jj_gk X.1) x0 x1 x2 x3 x4 x5 Q E h k → jj_J X 8 67 [(0, .inr (.inr (.inl x0))), (1, .inl x1), (2, .inl x2), (3, .inl x3), (4, .inl x4), (5, .inl x5)] [] h k := by
  intro h k w
  unfold fC_X1_addNote_j67 at w
  refine jr_iconst (pc := 67) F dX1_addNote_67 ?_
  exact sC_X1_addNote_j68 F M O J hi hQ hE _ _ _ _ _ _ _ _ _ w

theorem sC_X1_addNote {X : jj_X} {N : Option jj_AV → jj_H → Prop} {XN : String → Nat → jj_H → Prop} (F : jj_F X RX1 cX1_addNote 8) (M : jj_M X (some (.int)) 16 693 N XN) (O : jj_no X) (J : jj_GJ X.1 X.2.2.1) (hi : X.2.2.2.2.2.2.2.2.2.1.name = yX1_addNote.name) {Q : Int → jj_H → Prop} {E : String → Nat → jj_H → Prop} (hQ : ∀ r h, Q r h → N (some (.inl r)) h) (hE : ∀ e q h, E e q h → XN e q h) (x0 : Option Nat) (x1 : Int) (x2 : Int) (x3 : Int) (x4 : Int) (x5 : Int) : ∀ (h : jj_H) (k : Nat), fC_X1_addNote (jj_gk X.1) x0 x1 x2 x3 x4 x5 Q E h k → jj_J X 8 0 [(0, .inr (.inr (.inl x0))), (1, .inl x1), (2, .inl x2), (3, .inl x3), (4, .inl x4), (5, .inl x5)] [] h k := by
  intro h k w
  unfold fC_X1_addNote at w
  refine jr_iload_n (pc := 0) F (j := 1) dX1_addNote_0 rfl ?_
  refine jr_i2l (pc := 1) F dX1_addNote_1 ?_
  refine jr_lconst (pc := 2) F (x := 0) dX1_addNote_2 (by decide +kernel) ?_
  refine jr_aload_n (pc := 3) F (j := 0) dX1_addNote_3 rfl ?_
  refine jr_gr (pc := 4) (ci := 1) (f := 0) F rfl in_X1 (Nat.le_of_ble_eq_true rfl) q625 dX1_addNote_4 w (fun g40 w => ?_)
  refine jr_grN (pc := 7) (ci := 2) (f := 2) F rfl in_X2 (Nat.le_of_ble_eq_true rfl) q599 dX1_addNote_7 w (fun g41 w => ?_)
  refine jr_jV (pc := 10) (As := []) (ci := 14) F M (lw_V q1646 q676 q677 q124 q678) dX1_addNote_10 hj_J2_size rfl (Nat.le_of_ble_eq_true rfl) (Nat.le_of_ble_eq_true rfl) (Nat.le_of_ble_eq_true rfl) rfl (jK_J2_size J _ _ _ _ w) (fun v9 h42 k43 q9 => ?_)
  obtain ⟨r44, rfl, w⟩ := q9
  refine jr_iconst (pc := 13) F dX1_addNote_13 ?_
  refine jr_isub (pc := 14) F dX1_addNote_14 ?_
  refine jr_i2l (pc := 15) F dX1_addNote_15 ?_
  refine jr_callS (pc := 16) (As := [_, _, _]) F M (lw_S q2630 q1678 q120 q1679) dX1_addNote_16 hC_X1_isBetween.2 rfl (Nat.le_of_ble_eq_true rfl) (Nat.le_of_ble_eq_true rfl) (Nat.le_of_ble_eq_true rfl) (Nat.zero_le _) (cC_X1_isBetween J w) (fun v9 h47 q9 => ?_) (fun E9 q9 h9 w9 => jr_out F M O (hE _ _ _ w9))
  obtain ⟨r46, rfl, w⟩ := q9
  obtain ⟨c48, hk9, w⟩ := w
  refine jr_callS (pc := 19) (As := [_]) F M (lw_S q2782 q2783 q120 q2784) dX1_addNote_19 hC_X1_checkIndex.2 rfl (Nat.le_of_ble_eq_true rfl) (Nat.le_of_ble_eq_true rfl) (Nat.le_of_ble_eq_true rfl) hk9 (cC_X1_checkIndex J w) (fun v9 h50 q9 => ?_) (fun E9 q9 h9 w9 => jr_out F M O (hE _ _ _ w9))
  obtain ⟨rfl, w⟩ := q9
  refine jr_aload_n (pc := 22) F (j := 0) dX1_addNote_22 rfl ?_
  refine jr_iload_n (pc := 23) F (j := 3) dX1_addNote_23 rfl ?_
  obtain ⟨hi9, c51, hk9, w⟩ := w
  refine jr_cV (pc := 24) (As := [_]) (ci := 1) F M (lw_V q2778 q2780 qs37 q120 q2781) dX1_addNote_24 hC_X1_edition rfl (Nat.le_of_ble_eq_true rfl) (Nat.le_of_ble_eq_true rfl) (Nat.le_of_ble_eq_true rfl) rfl hi9 hk9 (cC_X1_edition J w) (fun v9 h53 q9 => ?_) (fun E9 q9 h9 w9 => jr_out F M O (hE _ _ _ w9))
  obtain ⟨r52, rfl, w⟩ := q9
  refine jr_astore (pc := 27) F (vs' := [(6, .inr (.inr (.inl _))), (0, .inr (.inr (.inl _))), (1, .inl _), (2, .inl _), (3, .inl _), (4, .inl _), (5, .inl _)]) dX1_addNote_27 (Nat.le_of_ble_eq_true rfl) rfl ?_
  refine jr_iload (pc := 29) F (j := 5) dX1_addNote_29 rfl ?_
  refine jr_i2l (pc := 31) F dX1_addNote_31 ?_
  refine jr_lconst (pc := 32) F (x := 0) dX1_addNote_32 (by decide +kernel) ?_
  refine jr_aload (pc := 33) F (j := 0) dX1_addNote_33 rfl ?_
  obtain ⟨hi9, w⟩ := w
  refine jr_cV (pc := 35) (As := []) (ci := 3) F M (lw_V q2821 q1661 q1662 q149 q1663) dX1_addNote_35 hC_X5_last rfl (Nat.le_of_ble_eq_true rfl) (Nat.le_of_ble_eq_true rfl) (Nat.le_of_ble_eq_true rfl) rfl hi9 (Nat.zero_le _) (cC_X5_last J w) (fun v9 h56 q9 => ?_) (fun E9 q9 h9 w9 => jr_out F M O (hE _ _ _ w9))
  obtain ⟨r55, rfl, w⟩ := q9
  refine jr_i2l (pc := 38) F dX1_addNote_38 ?_
  refine jr_callS (pc := 39) (As := [_, _, _]) F M (lw_S q2630 q1678 q120 q1679) dX1_addNote_39 hC_X1_isBetween.2 rfl (Nat.le_of_ble_eq_true rfl) (Nat.le_of_ble_eq_true rfl) (Nat.le_of_ble_eq_true rfl) (Nat.zero_le _) (cC_X1_isBetween J w) (fun v9 h59 q9 => ?_) (fun E9 q9 h9 w9 => jr_out F M O (hE _ _ _ w9))
  obtain ⟨r58, rfl, w⟩ := q9
  obtain ⟨hx9, w1, w2⟩ := w
  refine jr_if_eq (pc := 42) (tgt := 67) F hx9 dX1_addNote_42 rfl (fun c9 => ?_) (fun c9 => ?_)
  · have w := w1 c9
    refine jj_J.sub [1, 2, 3, 4, 5, 6] rfl ?_
    exact sC_X1_addNote_j67 F M O J hi hQ hE _ _ _ _ _ _ _ _ w
  · have w := w2 c9
    refine jr_iload (pc := 45) F (j := 6) dX1_addNote_45 rfl ?_
    refine jr_i2l (pc := 47) F dX1_addNote_47 ?_
    refine jr_iload (pc := 48) F (j := 5) dX1_addNote_48 rfl ?_
    refine jr_i2l (pc := 50) F dX1_addNote_50 ?_
    refine jr_aload (pc := 51) F (j := 0) dX1_addNote_51 rfl ?_
    obtain ⟨hi9, w⟩ := w
    refine jr_cV (pc := 53) (As := []) (ci := 3) F M (lw_V q2821 q1661 q1662 q149 q1663) dX1_addNote_53 hC_X5_last rfl (Nat.le_of_ble_eq_true rfl) (Nat.le_of_ble_eq_true rfl) (Nat.le_of_ble_eq_true rfl) rfl hi9 (Nat.zero_le _) (cC_X5_last J w) (fun v9 h62 q9 => ?_) (fun E9 q9 h9 w9 => jr_out F M O (hE _ _ _ w9))
    obtain ⟨r61, rfl, w⟩ := q9
    refine jr_i2l (pc := 56) F dX1_addNote_56 ?_
    refine jr_callS (pc := 57) (As := [_, _, _]) F M (lw_S q2630 q1678 q120 q1679) dX1_addNote_57 hC_X1_isBetween.2 rfl (Nat.le_of_ble_eq_true rfl) (Nat.le_of_ble_eq_true rfl) (Nat.le_of_ble_eq_true rfl) (Nat.zero_le _) (cC_X1_isBetween J w) (fun v9 h65 q9 => ?_) (fun E9 q9 h9 w9 => jr_out F M O (hE _ _ _ w9))
    obtain ⟨r64, rfl, w⟩ := q9
    obtain ⟨hx9, w1, w2⟩ := w
    refine jr_if_eq (pc := 60) (tgt := 67) F hx9 dX1_addNote_60 rfl (fun c9 => ?_) (fun c9 => ?_)
    · have w := w1 c9
      refine jj_J.sub [1, 2, 3, 4, 5, 6] rfl ?_
      exact sC_X1_addNote_j67 F M O J hi hQ hE _ _ _ _ _ _ _ _ w
    · have w := w2 c9
      refine jr_iconst (pc := 63) F dX1_addNote_63 ?_
      refine jr_goto (pc := 64) (tgt := 68) F dX1_addNote_64 rfl ?_
      refine jj_J.sub [1, 2, 3, 4, 5, 6] rfl ?_
      exact sC_X1_addNote_j68 F M O J hi hQ hE _ _ _ _ _ _ _ _ _ w

theorem cC_X1_addNote {G : jj_G} {l : Launch} (J : jj_GJ G l) {x0 : Option Nat} {x1 : Int} {x2 : Int} {x3 : Int} {x4 : Int} {x5 : Int} {Q : Int → jj_H → Prop} {E : String → Nat → jj_H → Prop} {h : jj_H} {k : Nat} (w : fC_X1_addNote (jj_gk G) x0 x1 x2 x3 x4 x5 Q E h k) : jj_Ct G l yX1_addNote (ws_ yX1_addNote cX1_addNote 8 (some (.int))) 16 693 [.inr (.inr (.inl x0)), .inl x1, .inl x2, .inl x3, .inl x4, .inl x5] h k (jc_i Q) E := by
  refine jj_Ct.of (jK_gs J).1 (by decide +kernel) (Nat.le_of_ble_eq_true rfl) rfl (fun X hG hl F M O hnm => ?_)
  subst hG; subst hl
  exact sC_X1_addNote F M O J hnm (fun r h q => ⟨r, rfl, q⟩) (fun _ _ _ q => q) _ _ _ _ _ _ _ _ w
theorem hC_X1_addNote : yX1_addNote.cls = RX1 ∧ yX1_addNote.cls ≠ "java/lang/invoke/MethodHandle" ∧ yX1_addNote.cls ≠ "java/lang/invoke/VarHandle" ∧ (parseMethodDescriptor yX1_addNote.desc).map (fun d => d.parameters.length) = some 5 := by decide +kernel
/-! X1_noteAt(I)LNoteImporter$Note; -/
def fC_X1_noteAt (gk : Nat → Nat) (x0 : Option Nat) (x1 : Int) (Q : Option Nat → jj_H → Prop) (E : String → Nat → jj_H → Prop) (h : jj_H) (k : Nat) : Prop :=
  jp_gr h x0 1 0 (fun g1 =>
  jp_gr h g1 2 1 (fun g2 =>
  jq_J2_size g2 (fun r5 h3 k4 =>
  fC_X1_isBetween gk (jj_i2l x1) 0 (jj_i2l (r5 - 1)) (fun r7 h8 =>
  ∃ c9, c9 ≤ k4 ∧ fC_X1_checkIndex gk r7 (fun h11 =>
  jp_gr h11 x0 1 0 (fun g12 =>
  jp_gr h11 g12 2 1 (fun g13 =>
  jq_J2_get g13 x1 (fun r16 h14 k15 =>
  jp_is h14 r16 4 ∧
  Q r16 h14) h11 (k4 - c9)))) E h8 c9) E h3 0) h k))
theorem sC_X1_noteAt {X : jj_X} {N : Option jj_AV → jj_H → Prop} {XN : String → Nat → jj_H → Prop} (F : jj_F X RX1 cX1_noteAt 2) (M : jj_M X (some ((.object "NoteImporter$Note"))) 13 621 N XN) (O : jj_no X) (J : jj_GJ X.1 X.2.2.1) (hi : X.2.2.2.2.2.2.2.2.2.1.name = yX1_noteAt.name) {Q : Option Nat → jj_H → Prop} {E : String → Nat → jj_H → Prop} (hQ : ∀ r h, Q r h → N (some (.inr (.inr (.inl r)))) h) (hE : ∀ e q h, E e q h → XN e q h) (x0 : Option Nat) (x1 : Int) : ∀ (h : jj_H) (k : Nat), fC_X1_noteAt (jj_gk X.1) x0 x1 Q E h k → jj_J X 2 0 [(0, .inr (.inr (.inl x0))), (1, .inl x1)] [] h k := by
  intro h k w
  unfold fC_X1_noteAt at w
  refine jr_iload_n (pc := 0) F (j := 1) dX1_noteAt_0 rfl ?_
  refine jr_i2l (pc := 1) F dX1_noteAt_1 ?_
  refine jr_lconst (pc := 2) F (x := 0) dX1_noteAt_2 (by decide +kernel) ?_
  refine jr_aload_n (pc := 3) F (j := 0) dX1_noteAt_3 rfl ?_
  refine jr_gr (pc := 4) (ci := 1) (f := 0) F rfl in_X1 (Nat.le_of_ble_eq_true rfl) q625 dX1_noteAt_4 w (fun g1 w => ?_)
  refine jr_grN (pc := 7) (ci := 2) (f := 1) F rfl in_X2 (Nat.le_of_ble_eq_true rfl) q596 dX1_noteAt_7 w (fun g2 w => ?_)
  refine jr_jV (pc := 10) (As := []) (ci := 14) F M (lw_V q1646 q676 q677 q124 q678) dX1_noteAt_10 hj_J2_size rfl (Nat.le_of_ble_eq_true rfl) (Nat.le_of_ble_eq_true rfl) (Nat.le_of_ble_eq_true rfl) rfl (jK_J2_size J _ _ _ _ w) (fun v9 h3 k4 q9 => ?_)
  obtain ⟨r5, rfl, w⟩ := q9
  refine jr_iconst (pc := 13) F dX1_noteAt_13 ?_
  refine jr_isub (pc := 14) F dX1_noteAt_14 ?_
  refine jr_i2l (pc := 15) F dX1_noteAt_15 ?_
  refine jr_callS (pc := 16) (As := [_, _, _]) F M (lw_S q2630 q1678 q120 q1679) dX1_noteAt_16 hC_X1_isBetween.2 rfl (Nat.le_of_ble_eq_true rfl) (Nat.le_of_ble_eq_true rfl) (Nat.le_of_ble_eq_true rfl) (Nat.zero_le _) (cC_X1_isBetween J w) (fun v9 h8 q9 => ?_) (fun E9 q9 h9 w9 => jr_out F M O (hE _ _ _ w9))
  obtain ⟨r7, rfl, w⟩ := q9
  obtain ⟨c9, hk9, w⟩ := w
  refine jr_callS (pc := 19) (As := [_]) F M (lw_S q2782 q2783 q120 q2784) dX1_noteAt_19 hC_X1_checkIndex.2 rfl (Nat.le_of_ble_eq_true rfl) (Nat.le_of_ble_eq_true rfl) (Nat.le_of_ble_eq_true rfl) hk9 (cC_X1_checkIndex J w) (fun v9 h11 q9 => ?_) (fun E9 q9 h9 w9 => jr_out F M O (hE _ _ _ w9))
  obtain ⟨rfl, w⟩ := q9
  refine jr_aload_n (pc := 22) F (j := 0) dX1_noteAt_22 rfl ?_
  refine jr_gr (pc := 23) (ci := 1) (f := 0) F rfl in_X1 (Nat.le_of_ble_eq_true rfl) q625 dX1_noteAt_23 w (fun g12 w => ?_)
  refine jr_grN (pc := 26) (ci := 2) (f := 1) F rfl in_X2 (Nat.le_of_ble_eq_true rfl) q596 dX1_noteAt_26 w (fun g13 w => ?_)
  refine jr_iload_n (pc := 29) F (j := 1) dX1_noteAt_29 rfl ?_
  refine jr_jV (pc := 30) (As := [_]) (ci := 14) F M (lw_V q1613 q681 q682 q124 q683) dX1_noteAt_30 hj_J2_get rfl (Nat.le_of_ble_eq_true rfl) (Nat.le_of_ble_eq_true rfl) (Nat.le_of_ble_eq_true rfl) rfl (jK_J2_get J _ _ _ _ _ w) (fun v9 h14 k15 q9 => ?_)
  obtain ⟨r16, rfl, w⟩ := q9
  obtain ⟨hi9, w⟩ := w
  refine jr_cast (pc := 33) (ci := 4) F rfl q2875 dX1_noteAt_33 hi9 ?_
  exact jr_aret (pc := 36) F M (Or.inl ⟨_, rfl⟩) dX1_noteAt_36 (hQ _ _ w)

theorem cC_X1_noteAt {G : jj_G} {l : Launch} (J : jj_GJ G l) {x0 : Option Nat} {x1 : Int} {Q : Option Nat → jj_H → Prop} {E : String → Nat → jj_H → Prop} {h : jj_H} {k : Nat} (w : fC_X1_noteAt (jj_gk G) x0 x1 Q E h k) : jj_Ct G l yX1_noteAt (ws_ yX1_noteAt cX1_noteAt 2 (some ((.object "NoteImporter$Note")))) 13 621 [.inr (.inr (.inl x0)), .inl x1] h k (jc_r Q) E := by
  refine jj_Ct.of (jK_gs J).1 (by decide +kernel) (Nat.le_of_ble_eq_true rfl) rfl (fun X hG hl F M O hnm => ?_)
  subst hG; subst hl
  exact sC_X1_noteAt F M O J hnm (fun r h q => ⟨r, rfl, q⟩) (fun _ _ _ q => q) _ _ _ _ w
theorem hC_X1_noteAt : yX1_noteAt.cls = RX1 ∧ yX1_noteAt.cls ≠ "java/lang/invoke/MethodHandle" ∧ yX1_noteAt.cls ≠ "java/lang/invoke/VarHandle" ∧ (parseMethodDescriptor yX1_noteAt.desc).map (fun d => d.parameters.length) = some 1 := by decide +kernel
/-! X1_note(II)I -/
def fC_X1_note (gk : Nat → Nat) (x0 : Option Nat) (x1 : Int) (x2 : Int) (Q : Int → jj_H → Prop) (E : String → Nat → jj_H → Prop) (h : jj_H) (k : Nat) : Prop :=
  jp_is h x0 1 ∧ ∃ c1, c1 ≤ k ∧ fC_X1_noteAt gk x0 x1 (fun r2 h3 =>
  fC_X1_isBetween gk (jj_i2l x2) 0 5 (fun r5 h6 =>
  ∃ c7, c7 ≤ (k - c1) ∧ fC_X1_checkArgument gk r5 (fun h9 =>
  jj_r x2 ∧
  (x2 = 0 → (
    jp_gi h9 r2 4 0 (fun g10 =>
    Q g10 h9))) ∧
  (x2 = 1 → (
    jp_gi h9 r2 4 1 (fun g11 =>
    Q g11 h9))) ∧
  (x2 = 2 → (
    jp_gi h9 r2 4 2 (fun g12 =>
    Q g12 h9))) ∧
  (x2 = 3 → (
    jp_gi h9 r2 4 5 (fun g13 =>
    Q g13 h9))) ∧
  (x2 = 4 → (
    jp_gi h9 r2 4 6 (fun g14 =>
    Q g14 h9))) ∧
  ((x2 < 0 ∨ 4 < x2) → (
    jp_gr h9 r2 4 3 (fun g15 =>
    jq_J2_size g15 (fun r18 h16 k17 =>
    Q r18 h16) h9 ((k - c1) - c7))))) E h6 c7) E h3 0) E h c1
theorem sC_X1_note {X : jj_X} {N : Option jj_AV → jj_H → Prop} {XN : String → Nat → jj_H → Prop} (F : jj_F X RX1 cX1_note 4) (M : jj_M X (some (.int)) 14 642 N XN) (O : jj_no X) (J : jj_GJ X.1 X.2.2.1) (hi : X.2.2.2.2.2.2.2.2.2.1.name = yX1_note.name) {Q : Int → jj_H → Prop} {E : String → Nat → jj_H → Prop} (hQ : ∀ r h, Q r h → N (some (.inl r)) h) (hE : ∀ e q h, E e q h → XN e q h) (x0 : Option Nat) (x1 : Int) (x2 : Int) : ∀ (h : jj_H) (k : Nat), fC_X1_note (jj_gk X.1) x0 x1 x2 Q E h k → jj_J X 4 0 [(0, .inr (.inr (.inl x0))), (1, .inl x1), (2, .inl x2)] [] h k := by
  intro h k w
  unfold fC_X1_note at w
  refine jr_aload_n (pc := 0) F (j := 0) dX1_note_0 rfl ?_
  refine jr_iload_n (pc := 1) F (j := 1) dX1_note_1 rfl ?_
  obtain ⟨hi9, c1, hk9, w⟩ := w
  refine jr_cV (pc := 2) (As := [_]) (ci := 1) F M (lw_V q2939 q2941 qs43 q120 q2942) dX1_note_2 hC_X1_noteAt rfl (Nat.le_of_ble_eq_true rfl) (Nat.le_of_ble_eq_true rfl) (Nat.le_of_ble_eq_true rfl) rfl hi9 hk9 (cC_X1_noteAt J w) (fun v9 h3 q9 => ?_) (fun E9 q9 h9 w9 => jr_out F M O (hE _ _ _ w9))
  obtain ⟨r2, rfl, w⟩ := q9
  refine jr_astore_n (pc := 5) F (vs' := [(3, .inr (.inr (.inl _))), (0, .inr (.inr (.inl _))), (1, .inl _), (2, .inl _)]) dX1_note_5 (Nat.le_of_ble_eq_true rfl) rfl ?_
  refine jr_iload_n (pc := 6) F (j := 3) dX1_note_6 rfl ?_
  refine jr_i2l (pc := 7) F dX1_note_7 ?_
  refine jr_lconst (pc := 8) F (x := 0) dX1_note_8 (by decide +kernel) ?_
  refine jr_ldc2 (pc := 9) F (x := 5) q2643 dX1_note_9 (by decide +kernel) ?_
  refine jr_callS (pc := 12) (As := [_, _, _]) F M (lw_S q2630 q1678 q120 q1679) dX1_note_12 hC_X1_isBetween.2 rfl (Nat.le_of_ble_eq_true rfl) (Nat.le_of_ble_eq_true rfl) (Nat.le_of_ble_eq_true rfl) (Nat.zero_le _) (cC_X1_isBetween J w) (fun v9 h6 q9 => ?_) (fun E9 q9 h9 w9 => jr_out F M O (hE _ _ _ w9))
  obtain ⟨r5, rfl, w⟩ := q9
  obtain ⟨c7, hk9, w⟩ := w
  refine jr_callS (pc := 15) (As := [_]) F M (lw_S q2631 q2632 q120 q2633) dX1_note_15 hC_X1_checkArgument.2 rfl (Nat.le_of_ble_eq_true rfl) (Nat.le_of_ble_eq_true rfl) (Nat.le_of_ble_eq_true rfl) hk9 (cC_X1_checkArgument J w) (fun v9 h9 q9 => ?_) (fun E9 q9 h9 w9 => jr_out F M O (hE _ _ _ w9))
  obtain ⟨rfl, w⟩ := q9
  refine jr_iload_n (pc := 18) F (j := 3) dX1_note_18 rfl ?_
  obtain ⟨hx9, w⟩ := w
  obtain ⟨w9, w⟩ := w
  rcases Decidable.em (x2 = 0) with e9 | e9_0
  · have w := w9 e9
    refine jr_tabIn (pc := 19) (tgt := 52) (off := 33) F hx9 dX1_note_19 (by rw [e9]; decide) (by rw [e9]; decide) (by rw [e9]; rfl) rfl ?_
    refine jr_aload_n (pc := 52) F (j := 0) dX1_note_52 rfl ?_
    refine jr_giN (pc := 53) (ci := 4) (f := 0) F rfl in_X6 (Nat.le_of_ble_eq_true rfl) q2296 dX1_note_53 w (fun g10 w => ?_)
    exact jr_iret (pc := 56) F M dX1_note_56 (hQ _ _ w)
  obtain ⟨w9, w⟩ := w
  rcases Decidable.em (x2 = 1) with e9 | e9_1
  · have w := w9 e9
    refine jr_tabIn (pc := 19) (tgt := 57) (off := 38) F hx9 dX1_note_19 (by rw [e9]; decide) (by rw [e9]; decide) (by rw [e9]; rfl) rfl ?_
    refine jr_aload_n (pc := 57) F (j := 0) dX1_note_57 rfl ?_
    refine jr_giN (pc := 58) (ci := 4) (f := 1) F rfl in_X6 (Nat.le_of_ble_eq_true rfl) q2299 dX1_note_58 w (fun g11 w => ?_)
    exact jr_iret (pc := 61) F M dX1_note_61 (hQ _ _ w)
  obtain ⟨w9, w⟩ := w
  rcases Decidable.em (x2 = 2) with e9 | e9_2
  · have w := w9 e9
    refine jr_tabIn (pc := 19) (tgt := 62) (off := 43) F hx9 dX1_note_19 (by rw [e9]; decide) (by rw [e9]; decide) (by rw [e9]; rfl) rfl ?_
    refine jr_aload_n (pc := 62) F (j := 0) dX1_note_62 rfl ?_
    refine jr_giN (pc := 63) (ci := 4) (f := 2) F rfl in_X6 (Nat.le_of_ble_eq_true rfl) q2302 dX1_note_63 w (fun g12 w => ?_)
    exact jr_iret (pc := 66) F M dX1_note_66 (hQ _ _ w)
  obtain ⟨w9, w⟩ := w
  rcases Decidable.em (x2 = 3) with e9 | e9_3
  · have w := w9 e9
    refine jr_tabIn (pc := 19) (tgt := 67) (off := 48) F hx9 dX1_note_19 (by rw [e9]; decide) (by rw [e9]; decide) (by rw [e9]; rfl) rfl ?_
    refine jr_aload_n (pc := 67) F (j := 0) dX1_note_67 rfl ?_
    refine jr_giN (pc := 68) (ci := 4) (f := 5) F rfl in_X6 (Nat.le_of_ble_eq_true rfl) q2311 dX1_note_68 w (fun g13 w => ?_)
    exact jr_iret (pc := 71) F M dX1_note_71 (hQ _ _ w)
  obtain ⟨w9, w⟩ := w
  rcases Decidable.em (x2 = 4) with e9 | e9_4
  · have w := w9 e9
    refine jr_tabIn (pc := 19) (tgt := 72) (off := 53) F hx9 dX1_note_19 (by rw [e9]; decide) (by rw [e9]; decide) (by rw [e9]; rfl) rfl ?_
    refine jr_aload_n (pc := 72) F (j := 0) dX1_note_72 rfl ?_
    refine jr_giN (pc := 73) (ci := 4) (f := 6) F rfl in_X6 (Nat.le_of_ble_eq_true rfl) q2314 dX1_note_73 w (fun g14 w => ?_)
    exact jr_iret (pc := 76) F M dX1_note_76 (hQ _ _ w)
  have c9 := jj_to4 e9_0 e9_1 e9_2 e9_3 e9_4
  have w := w c9
  refine jr_tabOut (pc := 19) (tgt := 77) F hx9 dX1_note_19 c9 rfl ?_
  refine jr_aload_n (pc := 77) F (j := 0) dX1_note_77 rfl ?_
  refine jr_grN (pc := 78) (ci := 4) (f := 3) F rfl in_X6 (Nat.le_of_ble_eq_true rfl) q2306 dX1_note_78 w (fun g15 w => ?_)
  refine jr_jV (pc := 81) (As := []) (ci := 14) F M (lw_V q1646 q676 q677 q124 q678) dX1_note_81 hj_J2_size rfl (Nat.le_of_ble_eq_true rfl) (Nat.le_of_ble_eq_true rfl) (Nat.le_of_ble_eq_true rfl) rfl (jK_J2_size J _ _ _ _ w) (fun v9 h16 k17 q9 => ?_)
  obtain ⟨r18, rfl, w⟩ := q9
  exact jr_iret (pc := 84) F M dX1_note_84 (hQ _ _ w)

theorem cC_X1_note {G : jj_G} {l : Launch} (J : jj_GJ G l) {x0 : Option Nat} {x1 : Int} {x2 : Int} {Q : Int → jj_H → Prop} {E : String → Nat → jj_H → Prop} {h : jj_H} {k : Nat} (w : fC_X1_note (jj_gk G) x0 x1 x2 Q E h k) : jj_Ct G l yX1_note (ws_ yX1_note cX1_note 4 (some (.int))) 14 642 [.inr (.inr (.inl x0)), .inl x1, .inl x2] h k (jc_i Q) E := by
  refine jj_Ct.of (jK_gs J).1 (by decide +kernel) (Nat.le_of_ble_eq_true rfl) rfl (fun X hG hl F M O hnm => ?_)
  subst hG; subst hl
  exact sC_X1_note F M O J hnm (fun r h q => ⟨r, rfl, q⟩) (fun _ _ _ q => q) _ _ _ _ _ w
theorem hC_X1_note : yX1_note.cls = RX1 ∧ yX1_note.cls ≠ "java/lang/invoke/MethodHandle" ∧ yX1_note.cls ≠ "java/lang/invoke/VarHandle" ∧ (parseMethodDescriptor yX1_note.desc).map (fun d => d.parameters.length) = some 2 := by decide +kernel
/-! X1_removeNote()I -/
def fC_X1_removeNote_j18 (gk : Nat → Nat) (x0 : Option Nat) (y0 : Int) (Q : Int → jj_H → Prop) (E : String → Nat → jj_H → Prop) (h : jj_H) (k : Nat) : Prop :=
  ∃ c1, c1 ≤ k ∧ fC_X1_checkState gk y0 (fun h3 =>
  jp_gr h3 x0 1 0 (fun g4 =>
  jp_gr h3 g4 2 1 (fun g5 =>
  jp_gr h3 x0 1 0 (fun g6 =>
  jp_gr h3 g6 2 1 (fun g7 =>
  jq_J2_size g7 (fun r10 h8 k9 =>
  jq_J2_remove g5 (r10 - 1) (fun r13 h11 k12 =>
  jp_is h11 r13 4 ∧
  jp_pr h11 x0 1 1 none (fun h14 =>
  jp_gr h14 x0 1 0 (fun g15 =>
  jp_gr h14 g15 2 1 (fun g16 =>
  jq_J2_size g16 (fun r19 h17 k18 =>
  Q r19 h17) h14 k12)))) h8 k9) h3 (k - c1)))))) E h c1
def fC_X1_removeNote (gk : Nat → Nat) (x0 : Option Nat) (Q : Int → jj_H → Prop) (E : String → Nat → jj_H → Prop) (h : jj_H) (k : Nat) : Prop :=
  jp_gr h x0 1 0 (fun g20 =>
  jp_gr h g20 2 1 (fun g21 =>
  jq_J2_isEmpty g21 (fun r24 h22 k23 =>
  jj_r r24 ∧ (¬ r24 = 0 → (
    fC_X1_removeNote_j18 gk x0 0 Q E h22 k23)) ∧
  (r24 = 0 → (
    fC_X1_removeNote_j18 gk x0 1 Q E h22 k23))) h k))
theorem sC_X1_removeNote_j18 {X : jj_X} {N : Option jj_AV → jj_H → Prop} {XN : String → Nat → jj_H → Prop} (F : jj_F X RX1 cX1_removeNote 2) (M : jj_M X (some (.int)) 13 623 N XN) (O : jj_no X) (J : jj_GJ X.1 X.2.2.1) (hi : X.2.2.2.2.2.2.2.2.2.1.name = yX1_removeNote.name) {Q : Int → jj_H → Prop} {E : String → Nat → jj_H → Prop} (hQ : ∀ r h, Q r h → N (some (.inl r)) h) (hE : ∀ e q h, E e q h → XN e q h) (x0 : Option Nat) (y0 : Int) : ∀ (h : jj_H) (k : Nat), fC_X1_removeNote_j18 (jj_gk X.1) x0 y0 Q E h k → jj_J X 2 18 [(0, .inr (.inr (.inl x0)))] [.inl y0] h k := by
  intro h k w
  unfold fC_X1_removeNote_j18 at w
  obtain ⟨c1, hk9, w⟩ := w
  refine jr_callS (pc := 18) (As := [_]) F M (lw_S q2604 q2605 q120 q2606) dX1_removeNote_18 hC_X1_checkState.2 rfl (Nat.le_of_ble_eq_true rfl) (Nat.le_of_ble_eq_true rfl) (Nat.le_of_ble_eq_true rfl) hk9 (cC_X1_checkState J w) (fun v9 h3 q9 => ?_) (fun E9 q9 h9 w9 => jr_out F M O (hE _ _ _ w9))
  obtain ⟨rfl, w⟩ := q9
  refine jr_aload_n (pc := 21) F (j := 0) dX1_removeNote_21 rfl ?_
  refine jr_gr (pc := 22) (ci := 1) (f := 0) F rfl in_X1 (Nat.le_of_ble_eq_true rfl) q625 dX1_removeNote_22 w (fun g4 w => ?_)
  refine jr_grN (pc := 25) (ci := 2) (f := 1) F rfl in_X2 (Nat.le_of_ble_eq_true rfl) q596 dX1_removeNote_25 w (fun g5 w => ?_)
  refine jr_aload_n (pc := 28) F (j := 0) dX1_removeNote_28 rfl ?_
  refine jr_gr (pc := 29) (ci := 1) (f := 0) F rfl in_X1 (Nat.le_of_ble_eq_true rfl) q625 dX1_removeNote_29 w (fun g6 w => ?_)
  refine jr_grN (pc := 32) (ci := 2) (f := 1) F rfl in_X2 (Nat.le_of_ble_eq_true rfl) q596 dX1_removeNote_32 w (fun g7 w => ?_)
  refine jr_jV (pc := 35) (As := []) (ci := 14) F M (lw_V q1646 q676 q677 q124 q678) dX1_removeNote_35 hj_J2_size rfl (Nat.le_of_ble_eq_true rfl) (Nat.le_of_ble_eq_true rfl) (Nat.le_of_ble_eq_true rfl) rfl (jK_J2_size J _ _ _ _ w) (fun v9 h8 k9 q9 => ?_)
  obtain ⟨r10, rfl, w⟩ := q9
  refine jr_iconst (pc := 38) F dX1_removeNote_38 ?_
  refine jr_isub (pc := 39) F dX1_removeNote_39 ?_
  refine jr_jV (pc := 40) (As := [_]) (ci := 14) F M (lw_V q2887 q2888 q2889 q124 q2890) dX1_removeNote_40 hj_J2_remove rfl (Nat.le_of_ble_eq_true rfl) (Nat.le_of_ble_eq_true rfl) (Nat.le_of_ble_eq_true rfl) rfl (jK_J2_remove J _ _ _ _ _ w) (fun v9 h11 k12 q9 => ?_)
  obtain ⟨r13, rfl, w⟩ := q9
  obtain ⟨hi9, w⟩ := w
  refine jr_cast (pc := 43) (ci := 4) F rfl q2875 dX1_removeNote_43 hi9 ?_
  refine jr_astore_n (pc := 46) F (vs' := [(1, .inr (.inr (.inl _))), (0, .inr (.inr (.inl _)))]) dX1_removeNote_46 (Nat.le_of_ble_eq_true rfl) rfl ?_
  refine jr_aload_n (pc := 47) F (j := 1) dX1_removeNote_47 rfl ?_
  refine jr_null (pc := 48) F dX1_removeNote_48 ?_
  refine jr_pr (pc := 49) (ci := 1) (f := 1) F rfl in_X1 tyX1_ok nmX1 (Nat.le_of_ble_eq_true rfl) rfl rfl q626 dX1_removeNote_49 w (fun h14 w => ?_)
  refine jr_aload_n (pc := 52) F (j := 1) dX1_removeNote_52 rfl ?_
  refine jr_gr (pc := 53) (ci := 1) (f := 0) F rfl in_X1 (Nat.le_of_ble_eq_true rfl) q625 dX1_removeNote_53 w (fun g15 w => ?_)
  refine jr_grN (pc := 56) (ci := 2) (f := 1) F rfl in_X2 (Nat.le_of_ble_eq_true rfl) q596 dX1_removeNote_56 w (fun g16 w => ?_)
  refine jr_jV (pc := 59) (As := []) (ci := 14) F M (lw_V q1646 q676 q677 q124 q678) dX1_removeNote_59 hj_J2_size rfl (Nat.le_of_ble_eq_true rfl) (Nat.le_of_ble_eq_true rfl) (Nat.le_of_ble_eq_true rfl) rfl (jK_J2_size J _ _ _ _ w) (fun v9 h17 k18 q9 => ?_)
  obtain ⟨r19, rfl, w⟩ := q9
  exact jr_iret (pc := 62) F M dX1_removeNote_62 (hQ _ _ w)

theorem sC_X1_removeNote {X : jj_X} {N : Option jj_AV → jj_H → Prop} {XN : String → Nat → jj_H → Prop} (F : jj_F X RX1 cX1_removeNote 2) (M : jj_M X (some (.int)) 13 623 N XN) (O : jj_no X) (J : jj_GJ X.1 X.2.2.1) (hi : X.2.2.2.2.2.2.2.2.2.1.name = yX1_removeNote.name) {Q : Int → jj_H → Prop} {E : String → Nat → jj_H → Prop} (hQ : ∀ r h, Q r h → N (some (.inl r)) h) (hE : ∀ e q h, E e q h → XN e q h) (x0 : Option Nat) : ∀ (h : jj_H) (k : Nat), fC_X1_removeNote (jj_gk X.1) x0 Q E h k → jj_J X 2 0 [(0, .inr (.inr (.inl x0)))] [] h k := by
  intro h k w
  unfold fC_X1_removeNote at w
  refine jr_aload_n (pc := 0) F (j := 0) dX1_removeNote_0 rfl ?_
  refine jr_gr (pc := 1) (ci := 1) (f := 0) F rfl in_X1 (Nat.le_of_ble_eq_true rfl) q625 dX1_removeNote_1 w (fun g20 w => ?_)
  refine jr_grN (pc := 4) (ci := 2) (f := 1) F rfl in_X2 (Nat.le_of_ble_eq_true rfl) q596 dX1_removeNote_4 w (fun g21 w => ?_)
  refine jr_jV (pc := 7) (As := []) (ci := 14) F M (lw_V q655 q656 q657 q124 q658) dX1_removeNote_7 hj_J2_isEmpty rfl (Nat.le_of_ble_eq_true rfl) (Nat.le_of_ble_eq_true rfl) (Nat.le_of_ble_eq_true rfl) rfl (jK_J2_isEmpty J _ _ _ _ w) (fun v9 h22 k23 q9 => ?_)
  obtain ⟨r24, rfl, w⟩ := q9
  obtain ⟨hx9, w1, w2⟩ := w
  refine jr_if_ne (pc := 10) (tgt := 17) F hx9 dX1_removeNote_10 rfl (fun c9 => ?_) (fun c9 => ?_)
  · have w := w1 c9
    refine jr_iconst (pc := 17) F dX1_removeNote_17 ?_
    exact sC_X1_removeNote_j18 F M O J hi hQ hE _ _ _ _ w
  · have w := w2 c9
    refine jr_iconst (pc := 13) F dX1_removeNote_13 ?_
    refine jr_goto (pc := 14) (tgt := 18) F dX1_removeNote_14 rfl ?_
    exact sC_X1_removeNote_j18 F M O J hi hQ hE _ _ _ _ w

theorem cC_X1_removeNote {G : jj_G} {l : Launch} (J : jj_GJ G l) {x0 : Option Nat} {Q : Int → jj_H → Prop} {E : String → Nat → jj_H → Prop} {h : jj_H} {k : Nat} (w : fC_X1_removeNote (jj_gk G) x0 Q E h k) : jj_Ct G l yX1_removeNote (ws_ yX1_removeNote cX1_removeNote 2 (some (.int))) 13 623 [.inr (.inr (.inl x0))] h k (jc_i Q) E := by
  refine jj_Ct.of (jK_gs J).1 (by decide +kernel) (Nat.le_of_ble_eq_true rfl) rfl (fun X hG hl F M O hnm => ?_)
  subst hG; subst hl
  exact sC_X1_removeNote F M O J hnm (fun r h q => ⟨r, rfl, q⟩) (fun _ _ _ q => q) _ _ _ w
theorem hC_X1_removeNote : yX1_removeNote.cls = RX1 ∧ yX1_removeNote.cls ≠ "java/lang/invoke/MethodHandle" ∧ yX1_removeNote.cls ≠ "java/lang/invoke/VarHandle" ∧ (parseMethodDescriptor yX1_removeNote.desc).map (fun d => d.parameters.length) = some 0 := by decide +kernel
/-! X1_partner(II)I -/
def fC_X1_partner (gk : Nat → Nat) (x0 : Option Nat) (x1 : Int) (x2 : Int) (Q : Int → jj_H → Prop) (E : String → Nat → jj_H → Prop) (h : jj_H) (k : Nat) : Prop :=
  jp_is h x0 1 ∧ ∃ c1, c1 ≤ k ∧ fC_X1_editionWith gk x0 x1 x2 (fun r2 h3 =>
  jp_gr h3 x0 1 0 (fun g4 =>
  jp_gi h3 g4 2 4 (fun g5 =>
  jj_r x1 ∧ jj_r g5 ∧ (¬ x1 = g5 → (
    jp_is h3 x0 1 ∧ ∃ c6, c6 ≤ (k - c1) ∧ fC_X1_view gk x0 (fun r7 h8 =>
    jp_gr h8 r7 8 1 (fun g9 =>
    jp_rl h8 g9 2 x1 (fun g10 =>
    jp_gr h8 g10 5 0 (fun g11 =>
    jp_al h8 g11 0 x2 (fun g12 =>
    Q g12 h8))))) E h3 c6)) ∧
  (x1 = g5 → (
    Q x2 h3))))) E h c1
theorem sC_X1_partner {X : jj_X} {N : Option jj_AV → jj_H → Prop} {XN : String → Nat → jj_H → Prop} (F : jj_F X RX1 cX1_partner 4) (M : jj_M X (some (.int)) 18 739 N XN) (O : jj_no X) (J : jj_GJ X.1 X.2.2.1) (hi : X.2.2.2.2.2.2.2.2.2.1.name = yX1_partner.name) {Q : Int → jj_H → Prop} {E : String → Nat → jj_H → Prop} (hQ : ∀ r h, Q r h → N (some (.inl r)) h) (hE : ∀ e q h, E e q h → XN e q h) (x0 : Option Nat) (x1 : Int) (x2 : Int) : ∀ (h : jj_H) (k : Nat), fC_X1_partner (jj_gk X.1) x0 x1 x2 Q E h k → jj_J X 4 0 [(0, .inr (.inr (.inl x0))), (1, .inl x1), (2, .inl x2)] [] h k := by
  intro h k w
  unfold fC_X1_partner at w
  refine jr_aload_n (pc := 0) F (j := 0) dX1_partner_0 rfl ?_
  refine jr_iload_n (pc := 1) F (j := 1) dX1_partner_1 rfl ?_
  refine jr_iload_n (pc := 2) F (j := 2) dX1_partner_2 rfl ?_
  obtain ⟨hi9, c1, hk9, w⟩ := w
  refine jr_cV (pc := 3) (As := [_, _]) (ci := 1) F M (lw_V q2817 q2819 qs38 q120 q2820) dX1_partner_3 hC_X1_editionWith rfl (Nat.le_of_ble_eq_true rfl) (Nat.le_of_ble_eq_true rfl) (Nat.le_of_ble_eq_true rfl) rfl hi9 hk9 (cC_X1_editionWith J w) (fun v9 h3 q9 => ?_) (fun E9 q9 h9 w9 => jr_out F M O (hE _ _ _ w9))
  obtain ⟨r2, rfl, w⟩ := q9
  refine jr_astore_n (pc := 6) F (vs' := [(3, .inr (.inr (.inl _))), (0, .inr (.inr (.inl _))), (1, .inl _), (2, .inl _)]) dX1_partner_6 (Nat.le_of_ble_eq_true rfl) rfl ?_
  refine jr_iload_n (pc := 7) F (j := 2) dX1_partner_7 rfl ?_
  refine jr_aload_n (pc := 8) F (j := 1) dX1_partner_8 rfl ?_
  refine jr_gr (pc := 9) (ci := 1) (f := 0) F rfl in_X1 (Nat.le_of_ble_eq_true rfl) q625 dX1_partner_9 w (fun g4 w => ?_)
  refine jr_giN (pc := 12) (ci := 2) (f := 4) F rfl in_X2 (Nat.le_of_ble_eq_true rfl) q605 dX1_partner_12 w (fun g5 w => ?_)
  obtain ⟨hx9, hy9, w1, w2⟩ := w
  refine jr_icmp_ne (pc := 15) (tgt := 22) F hx9 hy9 dX1_partner_15 rfl (fun c9 => ?_) (fun c9 => ?_)
  · have w := w1 c9
    refine jr_aload_n (pc := 22) F (j := 1) dX1_partner_22 rfl ?_
    obtain ⟨hi9, c6, hk9, w⟩ := w
    refine jr_cV (pc := 23) (As := []) (ci := 1) F M (lw_V q659 q661 qs1 q120 q662) dX1_partner_23 hC_X1_view rfl (Nat.le_of_ble_eq_true rfl) (Nat.le_of_ble_eq_true rfl) (Nat.le_of_ble_eq_true rfl) rfl hi9 hk9 (cC_X1_view J w) (fun v9 h8 q9 => ?_) (fun E9 q9 h9 w9 => jr_out F M O (hE _ _ _ w9))
    obtain ⟨r7, rfl, w⟩ := q9
    refine jr_grN (pc := 26) (ci := 8) (f := 1) F rfl in_X10 (Nat.le_of_ble_eq_true rfl) q1595 dX1_partner_26 w (fun g9 w => ?_)
    refine jr_iload_n (pc := 29) F (j := 2) dX1_partner_29 rfl ?_
    refine jr_aald (pc := 30) F ⟨6, _, fun _ => rfl⟩ dX1_partner_30 w (fun g10 w => ?_)
    refine jr_grN (pc := 31) (ci := 5) (f := 0) F rfl in_X11 (Nat.le_of_ble_eq_true rfl) q727 dX1_partner_31 w (fun g11 w => ?_)
    refine jr_iload_n (pc := 34) F (j := 3) dX1_partner_34 rfl ?_
    refine jr_iald (pc := 35) F dX1_partner_35 w (fun g12 w => ?_)
    exact jr_iret (pc := 36) F M dX1_partner_36 (hQ _ _ w)
  · have w := w2 c9
    refine jr_iload_n (pc := 18) F (j := 3) dX1_partner_18 rfl ?_
    refine jr_goto (pc := 19) (tgt := 36) F dX1_partner_19 rfl ?_
    exact jr_iret (pc := 36) F M dX1_partner_36 (hQ _ _ w)

theorem cC_X1_partner {G : jj_G} {l : Launch} (J : jj_GJ G l) {x0 : Option Nat} {x1 : Int} {x2 : Int} {Q : Int → jj_H → Prop} {E : String → Nat → jj_H → Prop} {h : jj_H} {k : Nat} (w : fC_X1_partner (jj_gk G) x0 x1 x2 Q E h k) : jj_Ct G l yX1_partner (ws_ yX1_partner cX1_partner 4 (some (.int))) 18 739 [.inr (.inr (.inl x0)), .inl x1, .inl x2] h k (jc_i Q) E := by
  refine jj_Ct.of (jK_gs J).1 (by decide +kernel) (Nat.le_of_ble_eq_true rfl) rfl (fun X hG hl F M O hnm => ?_)
  subst hG; subst hl
  exact sC_X1_partner F M O J hnm (fun r h q => ⟨r, rfl, q⟩) (fun _ _ _ q => q) _ _ _ _ _ w
theorem hC_X1_partner : yX1_partner.cls = RX1 ∧ yX1_partner.cls ≠ "java/lang/invoke/MethodHandle" ∧ yX1_partner.cls ≠ "java/lang/invoke/VarHandle" ∧ (parseMethodDescriptor yX1_partner.desc).map (fun d => d.parameters.length) = some 2 := by decide +kernel
/-! X1_partners(I)I -/
def fC_X1_partners (gk : Nat → Nat) (x0 : Option Nat) (x1 : Int) (Q : Int → jj_H → Prop) (E : String → Nat → jj_H → Prop) (h : jj_H) (k : Nat) : Prop :=
  jp_is h x0 1 ∧ ∃ c1, c1 ≤ k ∧ fC_X1_edition gk x0 x1 (fun r2 h3 =>
  jp_is h3 x0 1 ∧ ∃ c4, c4 ≤ (k - c1) ∧ fC_X1_view gk x0 (fun r5 h6 =>
  jp_gr h6 r5 8 1 (fun g7 =>
  jp_rl h6 g7 2 x1 (fun g8 =>
  jp_is h6 g8 5 ∧ fC_X11_count_2 gk g8 (fun r10 h11 =>
  Q r10 h11) E h6 0))) E h3 c4) E h c1
theorem sC_X1_partners {X : jj_X} {N : Option jj_AV → jj_H → Prop} {XN : String → Nat → jj_H → Prop} (F : jj_F X RX1 cX1_partners 3) (M : jj_M X (some (.int)) 18 739 N XN) (O : jj_no X) (J : jj_GJ X.1 X.2.2.1) (hi : X.2.2.2.2.2.2.2.2.2.1.name = yX1_partners.name) {Q : Int → jj_H → Prop} {E : String → Nat → jj_H → Prop} (hQ : ∀ r h, Q r h → N (some (.inl r)) h) (hE : ∀ e q h, E e q h → XN e q h) (x0 : Option Nat) (x1 : Int) : ∀ (h : jj_H) (k : Nat), fC_X1_partners (jj_gk X.1) x0 x1 Q E h k → jj_J X 3 0 [(0, .inr (.inr (.inl x0))), (1, .inl x1)] [] h k := by
  intro h k w
  unfold fC_X1_partners at w
  refine jr_aload_n (pc := 0) F (j := 0) dX1_partners_0 rfl ?_
  refine jr_iload_n (pc := 1) F (j := 1) dX1_partners_1 rfl ?_
  obtain ⟨hi9, c1, hk9, w⟩ := w
  refine jr_cV (pc := 2) (As := [_]) (ci := 1) F M (lw_V q2778 q2780 qs37 q120 q2781) dX1_partners_2 hC_X1_edition rfl (Nat.le_of_ble_eq_true rfl) (Nat.le_of_ble_eq_true rfl) (Nat.le_of_ble_eq_true rfl) rfl hi9 hk9 (cC_X1_edition J w) (fun v9 h3 q9 => ?_) (fun E9 q9 h9 w9 => jr_out F M O (hE _ _ _ w9))
  obtain ⟨r2, rfl, w⟩ := q9
  refine jr_astore_n (pc := 5) F (vs' := [(2, .inr (.inr (.inl _))), (0, .inr (.inr (.inl _))), (1, .inl _)]) dX1_partners_5 (Nat.le_of_ble_eq_true rfl) rfl ?_
  refine jr_aload_n (pc := 6) F (j := 1) dX1_partners_6 rfl ?_
  obtain ⟨hi9, c4, hk9, w⟩ := w
  refine jr_cV (pc := 7) (As := []) (ci := 1) F M (lw_V q659 q661 qs1 q120 q662) dX1_partners_7 hC_X1_view rfl (Nat.le_of_ble_eq_true rfl) (Nat.le_of_ble_eq_true rfl) (Nat.le_of_ble_eq_true rfl) rfl hi9 hk9 (cC_X1_view J w) (fun v9 h6 q9 => ?_) (fun E9 q9 h9 w9 => jr_out F M O (hE _ _ _ w9))
  obtain ⟨r5, rfl, w⟩ := q9
  refine jr_grN (pc := 10) (ci := 8) (f := 1) F rfl in_X10 (Nat.le_of_ble_eq_true rfl) q1595 dX1_partners_10 w (fun g7 w => ?_)
  refine jr_iload_n (pc := 13) F (j := 2) dX1_partners_13 rfl ?_
  refine jr_aald (pc := 14) F ⟨6, _, fun _ => rfl⟩ dX1_partners_14 w (fun g8 w => ?_)
  obtain ⟨hi9, w⟩ := w
  refine jr_cV (pc := 15) (As := []) (ci := 5) F M (lw_V q2964 q747 q748 q178 q749) dX1_partners_15 hC_X11_count_2 rfl (Nat.le_of_ble_eq_true rfl) (Nat.le_of_ble_eq_true rfl) (Nat.le_of_ble_eq_true rfl) rfl hi9 (Nat.zero_le _) (cC_X11_count_2 J w) (fun v9 h11 q9 => ?_) (fun E9 q9 h9 w9 => jr_out F M O (hE _ _ _ w9))
  obtain ⟨r10, rfl, w⟩ := q9
  exact jr_iret (pc := 18) F M dX1_partners_18 (hQ _ _ w)

theorem cC_X1_partners {G : jj_G} {l : Launch} (J : jj_GJ G l) {x0 : Option Nat} {x1 : Int} {Q : Int → jj_H → Prop} {E : String → Nat → jj_H → Prop} {h : jj_H} {k : Nat} (w : fC_X1_partners (jj_gk G) x0 x1 Q E h k) : jj_Ct G l yX1_partners (ws_ yX1_partners cX1_partners 3 (some (.int))) 18 739 [.inr (.inr (.inl x0)), .inl x1] h k (jc_i Q) E := by
  refine jj_Ct.of (jK_gs J).1 (by decide +kernel) (Nat.le_of_ble_eq_true rfl) rfl (fun X hG hl F M O hnm => ?_)
  subst hG; subst hl
  exact sC_X1_partners F M O J hnm (fun r h q => ⟨r, rfl, q⟩) (fun _ _ _ q => q) _ _ _ _ w
theorem hC_X1_partners : yX1_partners.cls = RX1 ∧ yX1_partners.cls ≠ "java/lang/invoke/MethodHandle" ∧ yX1_partners.cls ≠ "java/lang/invoke/VarHandle" ∧ (parseMethodDescriptor yX1_partners.desc).map (fun d => d.parameters.length) = some 1 := by decide +kernel
/-! X1_anchor(II)I -/
def fC_X1_anchor (gk : Nat → Nat) (x0 : Option Nat) (x1 : Int) (x2 : Int) (Q : Int → jj_H → Prop) (E : String → Nat → jj_H → Prop) (h : jj_H) (k : Nat) : Prop :=
  jp_is h x0 1 ∧ ∃ c1, c1 ≤ k ∧ fC_X1_noteAt gk x0 x1 (fun r2 h3 =>
  fC_X1_isBetween gk (jj_i2l x2) 0 3 (fun r5 h6 =>
  ∃ c7, c7 ≤ (k - c1) ∧ fC_X1_checkArgument gk r5 (fun h9 =>
  jp_is h9 x0 1 ∧ ∃ c10, c10 ≤ ((k - c1) - c7) ∧ fC_X1_view gk x0 (fun r11 h12 =>
  jp_gr h12 r11 8 2 (fun g13 =>
  jp_rl h12 g13 3 x1 (fun g14 =>
  jj_r x2 ∧
  (x2 = 0 → (
    jp_gi h12 g14 6 0 (fun g15 =>
    Q g15 h12))) ∧
  (x2 = 1 → (
    jp_gi h12 g14 6 1 (fun g16 =>
    Q g16 h12))) ∧
  (x2 = 2 → (
    jp_gi h12 g14 6 2 (fun g17 =>
    Q g17 h12))) ∧
  ((x2 < 0 ∨ 2 < x2) → (
    jp_gi h12 g14 6 3 (fun g18 =>
    Q g18 h12)))))) E h9 c10) E h6 c7) E h3 0) E h c1
theorem sC_X1_anchor {X : jj_X} {N : Option jj_AV → jj_H → Prop} {XN : String → Nat → jj_H → Prop} (F : jj_F X RX1 cX1_anchor 5) (M : jj_M X (some (.int)) 18 739 N XN) (O : jj_no X) (J : jj_GJ X.1 X.2.2.1) (hi : X.2.2.2.2.2.2.2.2.2.1.name = yX1_anchor.name) {Q : Int → jj_H → Prop} {E : String → Nat → jj_H → Prop} (hQ : ∀ r h, Q r h → N (some (.inl r)) h) (hE : ∀ e q h, E e q h → XN e q h) (x0 : Option Nat) (x1 : Int) (x2 : Int) : ∀ (h : jj_H) (k : Nat), fC_X1_anchor (jj_gk X.1) x0 x1 x2 Q E h k → jj_J X 5 0 [(0, .inr (.inr (.inl x0))), (1, .inl x1), (2, .inl x2)] [] h k := by
  intro h k w
  unfold fC_X1_anchor at w
  refine jr_aload_n (pc := 0) F (j := 0) dX1_anchor_0 rfl ?_
  refine jr_iload_n (pc := 1) F (j := 1) dX1_anchor_1 rfl ?_
  obtain ⟨hi9, c1, hk9, w⟩ := w
  refine jr_cV (pc := 2) (As := [_]) (ci := 1) F M (lw_V q2939 q2941 qs43 q120 q2942) dX1_anchor_2 hC_X1_noteAt rfl (Nat.le_of_ble_eq_true rfl) (Nat.le_of_ble_eq_true rfl) (Nat.le_of_ble_eq_true rfl) rfl hi9 hk9 (cC_X1_noteAt J w) (fun v9 h3 q9 => ?_) (fun E9 q9 h9 w9 => jr_out F M O (hE _ _ _ w9))
  obtain ⟨r2, rfl, w⟩ := q9
  refine jr_astore_n (pc := 5) F (vs' := [(3, .inr (.inr (.inl _))), (0, .inr (.inr (.inl _))), (1, .inl _), (2, .inl _)]) dX1_anchor_5 (Nat.le_of_ble_eq_true rfl) rfl ?_
  refine jr_iload_n (pc := 6) F (j := 3) dX1_anchor_6 rfl ?_
  refine jr_i2l (pc := 7) F dX1_anchor_7 ?_
  refine jr_lconst (pc := 8) F (x := 0) dX1_anchor_8 (by decide +kernel) ?_
  refine jr_ldc2 (pc := 9) F (x := 3) q2930 dX1_anchor_9 (by decide +kernel) ?_
  refine jr_callS (pc := 12) (As := [_, _, _]) F M (lw_S q2630 q1678 q120 q1679) dX1_anchor_12 hC_X1_isBetween.2 rfl (Nat.le_of_ble_eq_true rfl) (Nat.le_of_ble_eq_true rfl) (Nat.le_of_ble_eq_true rfl) (Nat.zero_le _) (cC_X1_isBetween J w) (fun v9 h6 q9 => ?_) (fun E9 q9 h9 w9 => jr_out F M O (hE _ _ _ w9))
  obtain ⟨r5, rfl, w⟩ := q9
  obtain ⟨c7, hk9, w⟩ := w
  refine jr_callS (pc := 15) (As := [_]) F M (lw_S q2631 q2632 q120 q2633) dX1_anchor_15 hC_X1_checkArgument.2 rfl (Nat.le_of_ble_eq_true rfl) (Nat.le_of_ble_eq_true rfl) (Nat.le_of_ble_eq_true rfl) hk9 (cC_X1_checkArgument J w) (fun v9 h9 q9 => ?_) (fun E9 q9 h9 w9 => jr_out F M O (hE _ _ _ w9))
  obtain ⟨rfl, w⟩ := q9
  refine jr_aload_n (pc := 18) F (j := 1) dX1_anchor_18 rfl ?_
  obtain ⟨hi9, c10, hk9, w⟩ := w
  refine jr_cV (pc := 19) (As := []) (ci := 1) F M (lw_V q659 q661 qs1 q120 q662) dX1_anchor_19 hC_X1_view rfl (Nat.le_of_ble_eq_true rfl) (Nat.le_of_ble_eq_true rfl) (Nat.le_of_ble_eq_true rfl) rfl hi9 hk9 (cC_X1_view J w) (fun v9 h12 q9 => ?_) (fun E9 q9 h9 w9 => jr_out F M O (hE _ _ _ w9))
  obtain ⟨r11, rfl, w⟩ := q9
  refine jr_grN (pc := 22) (ci := 8) (f := 2) F rfl in_X10 (Nat.le_of_ble_eq_true rfl) q1597 dX1_anchor_22 w (fun g13 w => ?_)
  refine jr_iload_n (pc := 25) F (j := 2) dX1_anchor_25 rfl ?_
  refine jr_aald (pc := 26) F ⟨7, _, fun _ => rfl⟩ dX1_anchor_26 w (fun g14 w => ?_)
  refine jr_astore (pc := 27) F (vs' := [(4, .inr (.inr (.inl _))), (3, .inr (.inr (.inl _))), (0, .inr (.inr (.inl _))), (1, .inl _), (2, .inl _)]) dX1_anchor_27 (Nat.le_of_ble_eq_true rfl) rfl ?_
  refine jr_iload_n (pc := 29) F (j := 4) dX1_anchor_29 rfl ?_
  obtain ⟨hx9, w⟩ := w
  obtain ⟨w9, w⟩ := w
  rcases Decidable.em (x2 = 0) with e9 | e9_0
  · have w := w9 e9
    refine jr_tabIn (pc := 30) (tgt := 56) (off := 26) F hx9 dX1_anchor_30 (by rw [e9]; decide) (by rw [e9]; decide) (by rw [e9]; rfl) rfl ?_
    refine jr_aload (pc := 56) F (j := 0) dX1_anchor_56 rfl ?_
    refine jr_giN (pc := 58) (ci := 6) (f := 0) F rfl in_X12 (Nat.le_of_ble_eq_true rfl) q759 dX1_anchor_58 w (fun g15 w => ?_)
    exact jr_iret (pc := 61) F M dX1_anchor_61 (hQ _ _ w)
  obtain ⟨w9, w⟩ := w
  rcases Decidable.em (x2 = 1) with e9 | e9_1
  · have w := w9 e9
    refine jr_tabIn (pc := 30) (tgt := 62) (off := 32) F hx9 dX1_anchor_30 (by rw [e9]; decide) (by rw [e9]; decide) (by rw [e9]; rfl) rfl ?_
    refine jr_aload (pc := 62) F (j := 0) dX1_anchor_62 rfl ?_
    refine jr_giN (pc := 64) (ci := 6) (f := 1) F rfl in_X12 (Nat.le_of_ble_eq_true rfl) q762 dX1_anchor_64 w (fun g16 w => ?_)
    exact jr_iret (pc := 67) F M dX1_anchor_67 (hQ _ _ w)
  obtain ⟨w9, w⟩ := w
  rcases Decidable.em (x2 = 2) with e9 | e9_2
  · have w := w9 e9
    refine jr_tabIn (pc := 30) (tgt := 68) (off := 38) F hx9 dX1_anchor_30 (by rw [e9]; decide) (by rw [e9]; decide) (by rw [e9]; rfl) rfl ?_
    refine jr_aload (pc := 68) F (j := 0) dX1_anchor_68 rfl ?_
    refine jr_giN (pc := 70) (ci := 6) (f := 2) F rfl in_X12 (Nat.le_of_ble_eq_true rfl) q765 dX1_anchor_70 w (fun g17 w => ?_)
    exact jr_iret (pc := 73) F M dX1_anchor_73 (hQ _ _ w)
  have c9 := jj_to2 e9_0 e9_1 e9_2
  have w := w c9
  refine jr_tabOut (pc := 30) (tgt := 74) F hx9 dX1_anchor_30 c9 rfl ?_
  refine jr_aload (pc := 74) F (j := 0) dX1_anchor_74 rfl ?_
  refine jr_giN (pc := 76) (ci := 6) (f := 3) F rfl in_X12 (Nat.le_of_ble_eq_true rfl) q767 dX1_anchor_76 w (fun g18 w => ?_)
  exact jr_iret (pc := 79) F M dX1_anchor_79 (hQ _ _ w)

theorem cC_X1_anchor {G : jj_G} {l : Launch} (J : jj_GJ G l) {x0 : Option Nat} {x1 : Int} {x2 : Int} {Q : Int → jj_H → Prop} {E : String → Nat → jj_H → Prop} {h : jj_H} {k : Nat} (w : fC_X1_anchor (jj_gk G) x0 x1 x2 Q E h k) : jj_Ct G l yX1_anchor (ws_ yX1_anchor cX1_anchor 5 (some (.int))) 18 739 [.inr (.inr (.inl x0)), .inl x1, .inl x2] h k (jc_i Q) E := by
  refine jj_Ct.of (jK_gs J).1 (by decide +kernel) (Nat.le_of_ble_eq_true rfl) rfl (fun X hG hl F M O hnm => ?_)
  subst hG; subst hl
  exact sC_X1_anchor F M O J hnm (fun r h q => ⟨r, rfl, q⟩) (fun _ _ _ q => q) _ _ _ _ _ w
theorem hC_X1_anchor : yX1_anchor.cls = RX1 ∧ yX1_anchor.cls ≠ "java/lang/invoke/MethodHandle" ∧ yX1_anchor.cls ≠ "java/lang/invoke/VarHandle" ∧ (parseMethodDescriptor yX1_anchor.desc).map (fun d => d.parameters.length) = some 2 := by decide +kernel
/-! X1_anchors(I)I -/
def fC_X1_anchors_l16 (gk : Nat → Nat) (x0 : Option Nat) (x1 : Int) (Q : Int → jj_H → Prop) (E : String → Nat → jj_H → Prop) : Nat → Int → Int → jj_H → Nat → Prop
  | 0, _, _, _, _ => False
  | n + 1, x2, x3, h, k =>
  jp_gr h x0 1 0 (fun g1 =>
  jp_gr h g1 2 1 (fun g2 =>
  jq_J2_size g2 (fun r5 h3 k4 =>
  jj_r x3 ∧ jj_r r5 ∧ (r5 ≤ x3 → (
    Q x2 h3)) ∧
  (¬ r5 ≤ x3 → (
    jp_is h3 x0 1 ∧ ∃ c6, c6 ≤ k4 ∧ fC_X1_view gk x0 (fun r7 h8 =>
    jp_gr h8 r7 8 2 (fun g9 =>
    jp_rl h8 g9 3 x3 (fun g10 =>
    jp_gi h8 g10 6 0 (fun g11 =>
    jj_r g11 ∧ jj_r x1 ∧ (¬ g11 = x1 → (
      ∀ v12, v12 = x2 + 0 →
      ∀ v13, v13 = x3 + 1 →
      fC_X1_anchors_l16 gk x0 x1 Q E n v12 v13 h8 (k4 - c6))) ∧
    (g11 = x1 → (
      ∀ v14, v14 = x2 + 1 →
      ∀ v15, v15 = x3 + 1 →
      fC_X1_anchors_l16 gk x0 x1 Q E n v14 v15 h8 (k4 - c6))))))) E h3 c6))) h k))
def fC_X1_anchors (gk : Nat → Nat) (x0 : Option Nat) (x1 : Int) (Q : Int → jj_H → Prop) (E : String → Nat → jj_H → Prop) (h : jj_H) (k : Nat) : Prop :=
  fC_X1_isBetween gk (jj_i2l x1) 0 3 (fun r17 h18 =>
  ∃ c19, c19 ≤ k ∧ fC_X1_checkArgument gk r17 (fun h21 =>
  ∃ n9, fC_X1_anchors_l16 gk x0 x1 Q E n9 0 0 h21 (k - c19)) E h18 c19) E h 0
theorem sC_X1_anchors_l16 {X : jj_X} {N : Option jj_AV → jj_H → Prop} {XN : String → Nat → jj_H → Prop} (F : jj_F X RX1 cX1_anchors 4) (M : jj_M X (some (.int)) 18 739 N XN) (O : jj_no X) (J : jj_GJ X.1 X.2.2.1) (hi : X.2.2.2.2.2.2.2.2.2.1.name = yX1_anchors.name) {Q : Int → jj_H → Prop} {E : String → Nat → jj_H → Prop} (hQ : ∀ r h, Q r h → N (some (.inl r)) h) (hE : ∀ e q h, E e q h → XN e q h) (x0 : Option Nat) (x1 : Int) : ∀ (n : Nat) (x2 : Int) (x3 : Int) (h : jj_H) (k : Nat), fC_X1_anchors_l16 (jj_gk X.1) x0 x1 Q E n x2 x3 h k → jj_J X 4 16 [(0, .inr (.inr (.inl x0))), (1, .inl x1), (2, .inl x2), (3, .inl x3)] [] h k := by
  intro n
  induction n with
  | zero =>
    intro x2 x3 h k w
    exact (show False from w).elim
  | succ n ih =>
    intro x2 x3 h k w
    rw [fC_X1_anchors_l16] at w
    refine jr_iload_n (pc := 16) F (j := 3) dX1_anchors_16 rfl ?_
    refine jr_aload_n (pc := 17) F (j := 0) dX1_anchors_17 rfl ?_
    refine jr_gr (pc := 18) (ci := 1) (f := 0) F rfl in_X1 (Nat.le_of_ble_eq_true rfl) q625 dX1_anchors_18 w (fun g1 w => ?_)
    refine jr_grN (pc := 21) (ci := 2) (f := 1) F rfl in_X2 (Nat.le_of_ble_eq_true rfl) q596 dX1_anchors_21 w (fun g2 w => ?_)
    refine jr_jV (pc := 24) (As := []) (ci := 14) F M (lw_V q1646 q676 q677 q124 q678) dX1_anchors_24 hj_J2_size rfl (Nat.le_of_ble_eq_true rfl) (Nat.le_of_ble_eq_true rfl) (Nat.le_of_ble_eq_true rfl) rfl (jK_J2_size J _ _ _ _ w) (fun v9 h3 k4 q9 => ?_)
    obtain ⟨r5, rfl, w⟩ := q9
    obtain ⟨hx9, hy9, w1, w2⟩ := w
    refine jr_icmp_ge (pc := 27) (tgt := 60) F hx9 hy9 dX1_anchors_27 rfl (fun c9 => ?_) (fun c9 => ?_)
    · have w := w1 c9
      refine jr_iload_n (pc := 60) F (j := 2) dX1_anchors_60 rfl ?_
      exact jr_iret (pc := 61) F M dX1_anchors_61 (hQ _ _ w)
    · have w := w2 c9
      refine jr_iload_n (pc := 30) F (j := 2) dX1_anchors_30 rfl ?_
      refine jr_aload_n (pc := 31) F (j := 0) dX1_anchors_31 rfl ?_
      obtain ⟨hi9, c6, hk9, w⟩ := w
      refine jr_cV (pc := 32) (As := []) (ci := 1) F M (lw_V q659 q661 qs1 q120 q662) dX1_anchors_32 hC_X1_view rfl (Nat.le_of_ble_eq_true rfl) (Nat.le_of_ble_eq_true rfl) (Nat.le_of_ble_eq_true rfl) rfl hi9 hk9 (cC_X1_view J w) (fun v9 h8 q9 => ?_) (fun E9 q9 h9 w9 => jr_out F M O (hE _ _ _ w9))
      obtain ⟨r7, rfl, w⟩ := q9
      refine jr_grN (pc := 35) (ci := 8) (f := 2) F rfl in_X10 (Nat.le_of_ble_eq_true rfl) q1597 dX1_anchors_35 w (fun g9 w => ?_)
      refine jr_iload_n (pc := 38) F (j := 3) dX1_anchors_38 rfl ?_
      refine jr_aald (pc := 39) F ⟨7, _, fun _ => rfl⟩ dX1_anchors_39 w (fun g10 w => ?_)
      refine jr_giN (pc := 40) (ci := 6) (f := 0) F rfl in_X12 (Nat.le_of_ble_eq_true rfl) q759 dX1_anchors_40 w (fun g11 w => ?_)
      refine jr_iload_n (pc := 43) F (j := 1) dX1_anchors_43 rfl ?_
      obtain ⟨hx9, hy9, w1, w2⟩ := w
      refine jr_icmp_ne (pc := 44) (tgt := 51) F hx9 hy9 dX1_anchors_44 rfl (fun c9 => ?_) (fun c9 => ?_)
      · have w := w1 c9
        refine jr_iconst (pc := 51) F dX1_anchors_51 ?_
        refine jr_iadd (pc := 52) F dX1_anchors_52 ?_
        have w := w _ rfl
        refine jr_istore_n (pc := 53) F (vs' := [(2, .inl _), (0, .inr (.inr (.inl _))), (1, .inl _), (3, .inl _)]) dX1_anchors_53 (Nat.le_of_ble_eq_true rfl) rfl ?_
        have w := w _ rfl
        refine jr_iinc (pc := 54) F (j := 3) (vs' := [(3, .inl _), (2, .inl _), (0, .inr (.inr (.inl _))), (1, .inl _)]) dX1_anchors_54 rfl rfl (Nat.le_of_ble_eq_true rfl) rfl ?_
        refine jr_goto (pc := 57) (tgt := 16) F dX1_anchors_57 rfl ?_
        refine jj_J.sub [2, 3, 1, 0] rfl ?_
        exact ih _ _ _ _ w
      · have w := w2 c9
        refine jr_iconst (pc := 47) F dX1_anchors_47 ?_
        refine jr_goto (pc := 48) (tgt := 52) F dX1_anchors_48 rfl ?_
        refine jr_iadd (pc := 52) F dX1_anchors_52 ?_
        have w := w _ rfl
        refine jr_istore_n (pc := 53) F (vs' := [(2, .inl _), (0, .inr (.inr (.inl _))), (1, .inl _), (3, .inl _)]) dX1_anchors_53 (Nat.le_of_ble_eq_true rfl) rfl ?_
        have w := w _ rfl
        refine jr_iinc (pc := 54) F (j := 3) (vs' := [(3, .inl _), (2, .inl _), (0, .inr (.inr (.inl _))), (1, .inl _)]) dX1_anchors_54 rfl rfl (Nat.le_of_ble_eq_true rfl) rfl ?_
        refine jr_goto (pc := 57) (tgt := 16) F dX1_anchors_57 rfl ?_
        refine jj_J.sub [2, 3, 1, 0] rfl ?_
        exact ih _ _ _ _ w

theorem sC_X1_anchors {X : jj_X} {N : Option jj_AV → jj_H → Prop} {XN : String → Nat → jj_H → Prop} (F : jj_F X RX1 cX1_anchors 4) (M : jj_M X (some (.int)) 18 739 N XN) (O : jj_no X) (J : jj_GJ X.1 X.2.2.1) (hi : X.2.2.2.2.2.2.2.2.2.1.name = yX1_anchors.name) {Q : Int → jj_H → Prop} {E : String → Nat → jj_H → Prop} (hQ : ∀ r h, Q r h → N (some (.inl r)) h) (hE : ∀ e q h, E e q h → XN e q h) (x0 : Option Nat) (x1 : Int) : ∀ (h : jj_H) (k : Nat), fC_X1_anchors (jj_gk X.1) x0 x1 Q E h k → jj_J X 4 0 [(0, .inr (.inr (.inl x0))), (1, .inl x1)] [] h k := by
  intro h k w
  unfold fC_X1_anchors at w
  refine jr_iload_n (pc := 0) F (j := 1) dX1_anchors_0 rfl ?_
  refine jr_i2l (pc := 1) F dX1_anchors_1 ?_
  refine jr_lconst (pc := 2) F (x := 0) dX1_anchors_2 (by decide +kernel) ?_
  refine jr_ldc2 (pc := 3) F (x := 3) q2930 dX1_anchors_3 (by decide +kernel) ?_
  refine jr_callS (pc := 6) (As := [_, _, _]) F M (lw_S q2630 q1678 q120 q1679) dX1_anchors_6 hC_X1_isBetween.2 rfl (Nat.le_of_ble_eq_true rfl) (Nat.le_of_ble_eq_true rfl) (Nat.le_of_ble_eq_true rfl) (Nat.zero_le _) (cC_X1_isBetween J w) (fun v9 h18 q9 => ?_) (fun E9 q9 h9 w9 => jr_out F M O (hE _ _ _ w9))
  obtain ⟨r17, rfl, w⟩ := q9
  obtain ⟨c19, hk9, w⟩ := w
  refine jr_callS (pc := 9) (As := [_]) F M (lw_S q2631 q2632 q120 q2633) dX1_anchors_9 hC_X1_checkArgument.2 rfl (Nat.le_of_ble_eq_true rfl) (Nat.le_of_ble_eq_true rfl) (Nat.le_of_ble_eq_true rfl) hk9 (cC_X1_checkArgument J w) (fun v9 h21 q9 => ?_) (fun E9 q9 h9 w9 => jr_out F M O (hE _ _ _ w9))
  obtain ⟨rfl, w⟩ := q9
  refine jr_iconst (pc := 12) F dX1_anchors_12 ?_
  refine jr_istore_n (pc := 13) F (vs' := [(2, .inl _), (0, .inr (.inr (.inl _))), (1, .inl _)]) dX1_anchors_13 (Nat.le_of_ble_eq_true rfl) rfl ?_
  refine jr_iconst (pc := 14) F dX1_anchors_14 ?_
  refine jr_istore_n (pc := 15) F (vs' := [(3, .inl _), (2, .inl _), (0, .inr (.inr (.inl _))), (1, .inl _)]) dX1_anchors_15 (Nat.le_of_ble_eq_true rfl) rfl ?_
  refine jj_J.sub [2, 3, 1, 0] rfl ?_
  obtain ⟨n9, w⟩ := w
  exact sC_X1_anchors_l16 F M O J hi hQ hE _ _ n9 _ _ _ _ w

theorem cC_X1_anchors {G : jj_G} {l : Launch} (J : jj_GJ G l) {x0 : Option Nat} {x1 : Int} {Q : Int → jj_H → Prop} {E : String → Nat → jj_H → Prop} {h : jj_H} {k : Nat} (w : fC_X1_anchors (jj_gk G) x0 x1 Q E h k) : jj_Ct G l yX1_anchors (ws_ yX1_anchors cX1_anchors 4 (some (.int))) 18 739 [.inr (.inr (.inl x0)), .inl x1] h k (jc_i Q) E := by
  refine jj_Ct.of (jK_gs J).1 (by decide +kernel) (Nat.le_of_ble_eq_true rfl) rfl (fun X hG hl F M O hnm => ?_)
  subst hG; subst hl
  exact sC_X1_anchors F M O J hnm (fun r h q => ⟨r, rfl, q⟩) (fun _ _ _ q => q) _ _ _ _ w
theorem hC_X1_anchors : yX1_anchors.cls = RX1 ∧ yX1_anchors.cls ≠ "java/lang/invoke/MethodHandle" ∧ yX1_anchors.cls ≠ "java/lang/invoke/VarHandle" ∧ (parseMethodDescriptor yX1_anchors.desc).map (fun d => d.parameters.length) = some 1 := by decide +kernel
/-! X1_setThreshold(I)I -/
def fC_X1_setThreshold (gk : Nat → Nat) (x0 : Option Nat) (x1 : Int) (Q : Int → jj_H → Prop) (E : String → Nat → jj_H → Prop) (h : jj_H) (k : Nat) : Prop :=
  fC_X1_isBetween gk (jj_i2l x1) 0 100 (fun r2 h3 =>
  ∃ c4, c4 ≤ k ∧ fC_X1_checkArgument gk r2 (fun h6 =>
  jp_gr h6 x0 1 0 (fun g7 =>
  jp_gi h6 g7 2 5 (fun g8 =>
  jp_gr h6 x0 1 0 (fun g9 =>
  jp_pi h6 g9 2 5 x1 (fun h10 =>
  jp_pr h10 x0 1 1 none (fun h11 =>
  Q g8 h11)))))) E h3 c4) E h 0
theorem sC_X1_setThreshold {X : jj_X} {N : Option jj_AV → jj_H → Prop} {XN : String → Nat → jj_H → Prop} (F : jj_F X RX1 cX1_setThreshold 3) (M : jj_M X (some (.int)) 7 109 N XN) (O : jj_no X) (J : jj_GJ X.1 X.2.2.1) (hi : X.2.2.2.2.2.2.2.2.2.1.name = yX1_setThreshold.name) {Q : Int → jj_H → Prop} {E : String → Nat → jj_H → Prop} (hQ : ∀ r h, Q r h → N (some (.inl r)) h) (hE : ∀ e q h, E e q h → XN e q h) (x0 : Option Nat) (x1 : Int) : ∀ (h : jj_H) (k : Nat), fC_X1_setThreshold (jj_gk X.1) x0 x1 Q E h k → jj_J X 3 0 [(0, .inr (.inr (.inl x0))), (1, .inl x1)] [] h k := by
  intro h k w
  unfold fC_X1_setThreshold at w
  refine jr_iload_n (pc := 0) F (j := 1) dX1_setThreshold_0 rfl ?_
  refine jr_i2l (pc := 1) F dX1_setThreshold_1 ?_
  refine jr_lconst (pc := 2) F (x := 0) dX1_setThreshold_2 (by decide +kernel) ?_
  refine jr_ldc2 (pc := 3) F (x := 100) q2986 dX1_setThreshold_3 (by decide +kernel) ?_
  refine jr_callS (pc := 6) (As := [_, _, _]) F M (lw_S q2630 q1678 q120 q1679) dX1_setThreshold_6 hC_X1_isBetween.2 rfl (Nat.le_of_ble_eq_true rfl) (Nat.le_of_ble_eq_true rfl) (Nat.le_of_ble_eq_true rfl) (Nat.zero_le _) (cC_X1_isBetween J w) (fun v9 h3 q9 => ?_) (fun E9 q9 h9 w9 => jr_out F M O (hE _ _ _ w9))
  obtain ⟨r2, rfl, w⟩ := q9
  obtain ⟨c4, hk9, w⟩ := w
  refine jr_callS (pc := 9) (As := [_]) F M (lw_S q2631 q2632 q120 q2633) dX1_setThreshold_9 hC_X1_checkArgument.2 rfl (Nat.le_of_ble_eq_true rfl) (Nat.le_of_ble_eq_true rfl) (Nat.le_of_ble_eq_true rfl) hk9 (cC_X1_checkArgument J w) (fun v9 h6 q9 => ?_) (fun E9 q9 h9 w9 => jr_out F M O (hE _ _ _ w9))
  obtain ⟨rfl, w⟩ := q9
  refine jr_aload_n (pc := 12) F (j := 0) dX1_setThreshold_12 rfl ?_
  refine jr_gr (pc := 13) (ci := 1) (f := 0) F rfl in_X1 (Nat.le_of_ble_eq_true rfl) q625 dX1_setThreshold_13 w (fun g7 w => ?_)
  refine jr_giN (pc := 16) (ci := 2) (f := 5) F rfl in_X2 (Nat.le_of_ble_eq_true rfl) q608 dX1_setThreshold_16 w (fun g8 w => ?_)
  refine jr_istore_n (pc := 19) F (vs' := [(2, .inl _), (0, .inr (.inr (.inl _))), (1, .inl _)]) dX1_setThreshold_19 (Nat.le_of_ble_eq_true rfl) rfl ?_
  refine jr_aload_n (pc := 20) F (j := 1) dX1_setThreshold_20 rfl ?_
  refine jr_gr (pc := 21) (ci := 1) (f := 0) F rfl in_X1 (Nat.le_of_ble_eq_true rfl) q625 dX1_setThreshold_21 w (fun g9 w => ?_)
  refine jr_iload_n (pc := 24) F (j := 2) dX1_setThreshold_24 rfl ?_
  refine jr_piN (pc := 25) (ci := 2) (f := 5) F rfl in_X2 tyX2_ok nmX2 (Nat.le_of_ble_eq_true rfl) rfl rfl q608 dX1_setThreshold_25 w (fun h10 w => ?_)
  refine jr_aload_n (pc := 28) F (j := 1) dX1_setThreshold_28 rfl ?_
  refine jr_null (pc := 29) F dX1_setThreshold_29 ?_
  refine jr_pr (pc := 30) (ci := 1) (f := 1) F rfl in_X1 tyX1_ok nmX1 (Nat.le_of_ble_eq_true rfl) rfl rfl q626 dX1_setThreshold_30 w (fun h11 w => ?_)
  refine jr_iload_n (pc := 33) F (j := 0) dX1_setThreshold_33 rfl ?_
  exact jr_iret (pc := 34) F M dX1_setThreshold_34 (hQ _ _ w)

theorem cC_X1_setThreshold {G : jj_G} {l : Launch} (J : jj_GJ G l) {x0 : Option Nat} {x1 : Int} {Q : Int → jj_H → Prop} {E : String → Nat → jj_H → Prop} {h : jj_H} {k : Nat} (w : fC_X1_setThreshold (jj_gk G) x0 x1 Q E h k) : jj_Ct G l yX1_setThreshold (ws_ yX1_setThreshold cX1_setThreshold 3 (some (.int))) 7 109 [.inr (.inr (.inl x0)), .inl x1] h k (jc_i Q) E := by
  refine jj_Ct.of (jK_gs J).1 (by decide +kernel) (Nat.le_of_ble_eq_true rfl) rfl (fun X hG hl F M O hnm => ?_)
  subst hG; subst hl
  exact sC_X1_setThreshold F M O J hnm (fun r h q => ⟨r, rfl, q⟩) (fun _ _ _ q => q) _ _ _ _ w
theorem hC_X1_setThreshold : yX1_setThreshold.cls = RX1 ∧ yX1_setThreshold.cls ≠ "java/lang/invoke/MethodHandle" ∧ yX1_setThreshold.cls ≠ "java/lang/invoke/VarHandle" ∧ (parseMethodDescriptor yX1_setThreshold.desc).map (fun d => d.parameters.length) = some 1 := by decide +kernel
/-! X1_areAlike(II)Z -/
def fC_X1_areAlike_j49 (gk : Nat → Nat) (x0 : Option Nat) (x1 : Int) (x2 : Int) (y0 : Int) (Q : Int → jj_H → Prop) (E : String → Nat → jj_H → Prop) (h : jj_H) (k : Nat) : Prop :=
  ∃ c1, c1 ≤ k ∧ fC_X1_checkIndex gk y0 (fun h3 =>
  jp_is h3 x0 1 ∧ ∃ c4, c4 ≤ (k - c1) ∧ fC_X1_view gk x0 (fun r5 h6 =>
  jp_is h6 r5 8 ∧ ∃ c7, c7 ≤ ((k - c1) - c4) ∧ fC_X10_areAlike gk r5 x1 x2 (fun r8 h9 =>
  (r8 = 0 ∨ r8 = 1) ∧ Q r8 h9) E h6 c7) E h3 c4) E h c1
def fC_X1_areAlike_j48 (gk : Nat → Nat) (x0 : Option Nat) (x1 : Int) (x2 : Int) (Q : Int → jj_H → Prop) (E : String → Nat → jj_H → Prop) (h : jj_H) (k : Nat) : Prop :=
  fC_X1_areAlike_j49 gk x0 x1 x2 0 Q E h k
def fC_X1_areAlike (gk : Nat → Nat) (x0 : Option Nat) (x1 : Int) (x2 : Int) (Q : Int → jj_H → Prop) (E : String → Nat → jj_H → Prop) (h : jj_H) (k : Nat) : Prop :=
  jp_gr h x0 1 0 (fun g10 =>
  jp_gr h g10 2 1 (fun g11 =>
  jq_J2_size g11 (fun r14 h12 k13 =>
  fC_X1_isBetween gk (jj_i2l x1) 0 (jj_i2l (r14 - 1)) (fun r16 h17 =>
  jj_r r16 ∧ (r16 = 0 → (
    fC_X1_areAlike_j48 gk x0 x1 x2 Q E h17 k13)) ∧
  (¬ r16 = 0 → (
    jp_gr h17 x0 1 0 (fun g18 =>
    jp_gr h17 g18 2 1 (fun g19 =>
    jq_J2_size g19 (fun r22 h20 k21 =>
    fC_X1_isBetween gk (jj_i2l x2) 0 (jj_i2l (r22 - 1)) (fun r24 h25 =>
    jj_r r24 ∧ (r24 = 0 → (
      fC_X1_areAlike_j48 gk x0 x1 x2 Q E h25 k21)) ∧
    (¬ r24 = 0 → (
      fC_X1_areAlike_j49 gk x0 x1 x2 1 Q E h25 k21))) E h20 0) h17 k13))))) E h12 0) h k))
theorem sC_X1_areAlike_j49 {X : jj_X} {N : Option jj_AV → jj_H → Prop} {XN : String → Nat → jj_H → Prop} (F : jj_F X RX1 cX1_areAlike 3) (M : jj_M X (some (.boolean)) 18 739 N XN) (O : jj_no X) (J : jj_GJ X.1 X.2.2.1) (hi : X.2.2.2.2.2.2.2.2.2.1.name = yX1_areAlike.name) {Q : Int → jj_H → Prop} {E : String → Nat → jj_H → Prop} (hQ : ∀ r h, Q r h → N (some (.inl r)) h) (hE : ∀ e q h, E e q h → XN e q h) (x0 : Option Nat) (x1 : Int) (x2 : Int) (y0 : Int) : ∀ (h : jj_H) (k : Nat), fC_X1_areAlike_j49 (jj_gk X.1) x0 x1 x2 y0 Q E h k → jj_J X 3 49 [(0, .inr (.inr (.inl x0))), (1, .inl x1), (2, .inl x2)] [.inl y0] h k := by
  intro h k w
  unfold fC_X1_areAlike_j49 at w
  obtain ⟨c1, hk9, w⟩ := w
  refine jr_callS (pc := 49) (As := [_]) F M (lw_S q2782 q2783 q120 q2784) dX1_areAlike_49 hC_X1_checkIndex.2 rfl (Nat.le_of_ble_eq_true rfl) (Nat.le_of_ble_eq_true rfl) (Nat.le_of_ble_eq_true rfl) hk9 (cC_X1_checkIndex J w) (fun v9 h3 q9 => ?_) (fun E9 q9 h9 w9 => jr_out F M O (hE _ _ _ w9))
  obtain ⟨rfl, w⟩ := q9
  refine jr_aload_n (pc := 52) F (j := 0) dX1_areAlike_52 rfl ?_
  obtain ⟨hi9, c4, hk9, w⟩ := w
  refine jr_cV (pc := 53) (As := []) (ci := 1) F M (lw_V q659 q661 qs1 q120 q662) dX1_areAlike_53 hC_X1_view rfl (Nat.le_of_ble_eq_true rfl) (Nat.le_of_ble_eq_true rfl) (Nat.le_of_ble_eq_true rfl) rfl hi9 hk9 (cC_X1_view J w) (fun v9 h6 q9 => ?_) (fun E9 q9 h9 w9 => jr_out F M O (hE _ _ _ w9))
  obtain ⟨r5, rfl, w⟩ := q9
  refine jr_iload_n (pc := 56) F (j := 1) dX1_areAlike_56 rfl ?_
  refine jr_iload_n (pc := 57) F (j := 2) dX1_areAlike_57 rfl ?_
  obtain ⟨hi9, c7, hk9, w⟩ := w
  refine jr_cV (pc := 58) (As := [_, _]) (ci := 8) F M (lw_V q2994 q918 q919 q177 q920) dX1_areAlike_58 hC_X10_areAlike rfl (Nat.le_of_ble_eq_true rfl) (Nat.le_of_ble_eq_true rfl) (Nat.le_of_ble_eq_true rfl) rfl hi9 hk9 (cC_X10_areAlike J w) (fun v9 h9 q9 => ?_) (fun E9 q9 h9 w9 => jr_out F M O (hE _ _ _ w9))
  obtain ⟨r8, rfl, w⟩ := q9
  exact jr_zret (pc := 61) F M dX1_areAlike_61 w.1 (hQ _ _ w.2)

theorem sC_X1_areAlike_j48 {X : jj_X} {N : Option jj_AV → jj_H → Prop} {XN : String → Nat → jj_H → Prop} (F : jj_F X RX1 cX1_areAlike 3) (M : jj_M X (some (.boolean)) 18 739 N XN) (O : jj_no X) (J : jj_GJ X.1 X.2.2.1) (hi : X.2.2.2.2.2.2.2.2.2.1.name = yX1_areAlike.name) {Q : Int → jj_H → Prop} {E : String → Nat → jj_H → Prop} (hQ : ∀ r h, Q r h → N (some (.inl r)) h) (hE : ∀ e q h, E e q h → XN e q h) (x0 : Option Nat) (x1 : Int) (x2 : Int) : ∀ (h : jj_H) (k : Nat), fC_X1_areAlike_j48 (jj_gk X.1) x0 x1 x2 Q E h k → jj_J X 3 48 [(0, .inr (.inr (.inl x0))), (1, .inl x1), (2, .inl x2)] [] h k := by
  intro h k w
  unfold fC_X1_areAlike_j48 at w
  refine jr_iconst (pc := 48) F dX1_areAlike_48 ?_
  exact sC_X1_areAlike_j49 F M O J hi hQ hE _ _ _ _ _ _ w

theorem sC_X1_areAlike {X : jj_X} {N : Option jj_AV → jj_H → Prop} {XN : String → Nat → jj_H → Prop} (F : jj_F X RX1 cX1_areAlike 3) (M : jj_M X (some (.boolean)) 18 739 N XN) (O : jj_no X) (J : jj_GJ X.1 X.2.2.1) (hi : X.2.2.2.2.2.2.2.2.2.1.name = yX1_areAlike.name) {Q : Int → jj_H → Prop} {E : String → Nat → jj_H → Prop} (hQ : ∀ r h, Q r h → N (some (.inl r)) h) (hE : ∀ e q h, E e q h → XN e q h) (x0 : Option Nat) (x1 : Int) (x2 : Int) : ∀ (h : jj_H) (k : Nat), fC_X1_areAlike (jj_gk X.1) x0 x1 x2 Q E h k → jj_J X 3 0 [(0, .inr (.inr (.inl x0))), (1, .inl x1), (2, .inl x2)] [] h k := by
  intro h k w
  unfold fC_X1_areAlike at w
  refine jr_iload_n (pc := 0) F (j := 1) dX1_areAlike_0 rfl ?_
  refine jr_i2l (pc := 1) F dX1_areAlike_1 ?_
  refine jr_lconst (pc := 2) F (x := 0) dX1_areAlike_2 (by decide +kernel) ?_
  refine jr_aload_n (pc := 3) F (j := 0) dX1_areAlike_3 rfl ?_
  refine jr_gr (pc := 4) (ci := 1) (f := 0) F rfl in_X1 (Nat.le_of_ble_eq_true rfl) q625 dX1_areAlike_4 w (fun g10 w => ?_)
  refine jr_grN (pc := 7) (ci := 2) (f := 1) F rfl in_X2 (Nat.le_of_ble_eq_true rfl) q596 dX1_areAlike_7 w (fun g11 w => ?_)
  refine jr_jV (pc := 10) (As := []) (ci := 14) F M (lw_V q1646 q676 q677 q124 q678) dX1_areAlike_10 hj_J2_size rfl (Nat.le_of_ble_eq_true rfl) (Nat.le_of_ble_eq_true rfl) (Nat.le_of_ble_eq_true rfl) rfl (jK_J2_size J _ _ _ _ w) (fun v9 h12 k13 q9 => ?_)
  obtain ⟨r14, rfl, w⟩ := q9
  refine jr_iconst (pc := 13) F dX1_areAlike_13 ?_
  refine jr_isub (pc := 14) F dX1_areAlike_14 ?_
  refine jr_i2l (pc := 15) F dX1_areAlike_15 ?_
  refine jr_callS (pc := 16) (As := [_, _, _]) F M (lw_S q2630 q1678 q120 q1679) dX1_areAlike_16 hC_X1_isBetween.2 rfl (Nat.le_of_ble_eq_true rfl) (Nat.le_of_ble_eq_true rfl) (Nat.le_of_ble_eq_true rfl) (Nat.zero_le _) (cC_X1_isBetween J w) (fun v9 h17 q9 => ?_) (fun E9 q9 h9 w9 => jr_out F M O (hE _ _ _ w9))
  obtain ⟨r16, rfl, w⟩ := q9
  obtain ⟨hx9, w1, w2⟩ := w
  refine jr_if_eq (pc := 19) (tgt := 48) F hx9 dX1_areAlike_19 rfl (fun c9 => ?_) (fun c9 => ?_)
  · have w := w1 c9
    exact sC_X1_areAlike_j48 F M O J hi hQ hE _ _ _ _ _ w
  · have w := w2 c9
    refine jr_iload_n (pc := 22) F (j := 2) dX1_areAlike_22 rfl ?_
    refine jr_i2l (pc := 23) F dX1_areAlike_23 ?_
    refine jr_lconst (pc := 24) F (x := 0) dX1_areAlike_24 (by decide +kernel) ?_
    refine jr_aload_n (pc := 25) F (j := 0) dX1_areAlike_25 rfl ?_
    refine jr_gr (pc := 26) (ci := 1) (f := 0) F rfl in_X1 (Nat.le_of_ble_eq_true rfl) q625 dX1_areAlike_26 w (fun g18 w => ?_)
    refine jr_grN (pc := 29) (ci := 2) (f := 1) F rfl in_X2 (Nat.le_of_ble_eq_true rfl) q596 dX1_areAlike_29 w (fun g19 w => ?_)
    refine jr_jV (pc := 32) (As := []) (ci := 14) F M (lw_V q1646 q676 q677 q124 q678) dX1_areAlike_32 hj_J2_size rfl (Nat.le_of_ble_eq_true rfl) (Nat.le_of_ble_eq_true rfl) (Nat.le_of_ble_eq_true rfl) rfl (jK_J2_size J _ _ _ _ w) (fun v9 h20 k21 q9 => ?_)
    obtain ⟨r22, rfl, w⟩ := q9
    refine jr_iconst (pc := 35) F dX1_areAlike_35 ?_
    refine jr_isub (pc := 36) F dX1_areAlike_36 ?_
    refine jr_i2l (pc := 37) F dX1_areAlike_37 ?_
    refine jr_callS (pc := 38) (As := [_, _, _]) F M (lw_S q2630 q1678 q120 q1679) dX1_areAlike_38 hC_X1_isBetween.2 rfl (Nat.le_of_ble_eq_true rfl) (Nat.le_of_ble_eq_true rfl) (Nat.le_of_ble_eq_true rfl) (Nat.zero_le _) (cC_X1_isBetween J w) (fun v9 h25 q9 => ?_) (fun E9 q9 h9 w9 => jr_out F M O (hE _ _ _ w9))
    obtain ⟨r24, rfl, w⟩ := q9
    obtain ⟨hx9, w1, w2⟩ := w
    refine jr_if_eq (pc := 41) (tgt := 48) F hx9 dX1_areAlike_41 rfl (fun c9 => ?_) (fun c9 => ?_)
    · have w := w1 c9
      exact sC_X1_areAlike_j48 F M O J hi hQ hE _ _ _ _ _ w
    · have w := w2 c9
      refine jr_iconst (pc := 44) F dX1_areAlike_44 ?_
      refine jr_goto (pc := 45) (tgt := 49) F dX1_areAlike_45 rfl ?_
      exact sC_X1_areAlike_j49 F M O J hi hQ hE _ _ _ _ _ _ w

theorem cC_X1_areAlike {G : jj_G} {l : Launch} (J : jj_GJ G l) {x0 : Option Nat} {x1 : Int} {x2 : Int} {Q : Int → jj_H → Prop} {E : String → Nat → jj_H → Prop} {h : jj_H} {k : Nat} (w : fC_X1_areAlike (jj_gk G) x0 x1 x2 Q E h k) : jj_Ct G l yX1_areAlike (ws_ yX1_areAlike cX1_areAlike 3 (some (.boolean))) 18 739 [.inr (.inr (.inl x0)), .inl x1, .inl x2] h k (jc_i Q) E := by
  refine jj_Ct.of (jK_gs J).1 (by decide +kernel) (Nat.le_of_ble_eq_true rfl) rfl (fun X hG hl F M O hnm => ?_)
  subst hG; subst hl
  exact sC_X1_areAlike F M O J hnm (fun r h q => ⟨r, rfl, q⟩) (fun _ _ _ q => q) _ _ _ _ _ w
theorem hC_X1_areAlike : yX1_areAlike.cls = RX1 ∧ yX1_areAlike.cls ≠ "java/lang/invoke/MethodHandle" ∧ yX1_areAlike.cls ≠ "java/lang/invoke/VarHandle" ∧ (parseMethodDescriptor yX1_areAlike.desc).map (fun d => d.parameters.length) = some 2 := by decide +kernel
/-! X1_groupOf(I)I -/
def fC_X1_groupOf (gk : Nat → Nat) (x0 : Option Nat) (x1 : Int) (Q : Int → jj_H → Prop) (E : String → Nat → jj_H → Prop) (h : jj_H) (k : Nat) : Prop :=
  jp_is h x0 1 ∧ ∃ c1, c1 ≤ k ∧ fC_X1_noteAt gk x0 x1 (fun r2 h3 =>
  jp_is h3 x0 1 ∧ ∃ c4, c4 ≤ (k - c1) ∧ fC_X1_view gk x0 (fun r5 h6 =>
  jp_gr h6 r5 8 3 (fun g7 =>
  jp_al h6 g7 0 x1 (fun g8 =>
  Q g8 h6))) E h3 c4) E h c1
theorem sC_X1_groupOf {X : jj_X} {N : Option jj_AV → jj_H → Prop} {XN : String → Nat → jj_H → Prop} (F : jj_F X RX1 cX1_groupOf 3) (M : jj_M X (some (.int)) 18 739 N XN) (O : jj_no X) (J : jj_GJ X.1 X.2.2.1) (hi : X.2.2.2.2.2.2.2.2.2.1.name = yX1_groupOf.name) {Q : Int → jj_H → Prop} {E : String → Nat → jj_H → Prop} (hQ : ∀ r h, Q r h → N (some (.inl r)) h) (hE : ∀ e q h, E e q h → XN e q h) (x0 : Option Nat) (x1 : Int) : ∀ (h : jj_H) (k : Nat), fC_X1_groupOf (jj_gk X.1) x0 x1 Q E h k → jj_J X 3 0 [(0, .inr (.inr (.inl x0))), (1, .inl x1)] [] h k := by
  intro h k w
  unfold fC_X1_groupOf at w
  refine jr_aload_n (pc := 0) F (j := 0) dX1_groupOf_0 rfl ?_
  refine jr_iload_n (pc := 1) F (j := 1) dX1_groupOf_1 rfl ?_
  obtain ⟨hi9, c1, hk9, w⟩ := w
  refine jr_cV (pc := 2) (As := [_]) (ci := 1) F M (lw_V q2939 q2941 qs43 q120 q2942) dX1_groupOf_2 hC_X1_noteAt rfl (Nat.le_of_ble_eq_true rfl) (Nat.le_of_ble_eq_true rfl) (Nat.le_of_ble_eq_true rfl) rfl hi9 hk9 (cC_X1_noteAt J w) (fun v9 h3 q9 => ?_) (fun E9 q9 h9 w9 => jr_out F M O (hE _ _ _ w9))
  obtain ⟨r2, rfl, w⟩ := q9
  refine jr_astore_n (pc := 5) F (vs' := [(2, .inr (.inr (.inl _))), (0, .inr (.inr (.inl _))), (1, .inl _)]) dX1_groupOf_5 (Nat.le_of_ble_eq_true rfl) rfl ?_
  refine jr_aload_n (pc := 6) F (j := 1) dX1_groupOf_6 rfl ?_
  obtain ⟨hi9, c4, hk9, w⟩ := w
  refine jr_cV (pc := 7) (As := []) (ci := 1) F M (lw_V q659 q661 qs1 q120 q662) dX1_groupOf_7 hC_X1_view rfl (Nat.le_of_ble_eq_true rfl) (Nat.le_of_ble_eq_true rfl) (Nat.le_of_ble_eq_true rfl) rfl hi9 hk9 (cC_X1_view J w) (fun v9 h6 q9 => ?_) (fun E9 q9 h9 w9 => jr_out F M O (hE _ _ _ w9))
  obtain ⟨r5, rfl, w⟩ := q9
  refine jr_grN (pc := 10) (ci := 8) (f := 3) F rfl in_X10 (Nat.le_of_ble_eq_true rfl) q1599 dX1_groupOf_10 w (fun g7 w => ?_)
  refine jr_iload_n (pc := 13) F (j := 2) dX1_groupOf_13 rfl ?_
  refine jr_iald (pc := 14) F dX1_groupOf_14 w (fun g8 w => ?_)
  exact jr_iret (pc := 15) F M dX1_groupOf_15 (hQ _ _ w)

theorem cC_X1_groupOf {G : jj_G} {l : Launch} (J : jj_GJ G l) {x0 : Option Nat} {x1 : Int} {Q : Int → jj_H → Prop} {E : String → Nat → jj_H → Prop} {h : jj_H} {k : Nat} (w : fC_X1_groupOf (jj_gk G) x0 x1 Q E h k) : jj_Ct G l yX1_groupOf (ws_ yX1_groupOf cX1_groupOf 3 (some (.int))) 18 739 [.inr (.inr (.inl x0)), .inl x1] h k (jc_i Q) E := by
  refine jj_Ct.of (jK_gs J).1 (by decide +kernel) (Nat.le_of_ble_eq_true rfl) rfl (fun X hG hl F M O hnm => ?_)
  subst hG; subst hl
  exact sC_X1_groupOf F M O J hnm (fun r h q => ⟨r, rfl, q⟩) (fun _ _ _ q => q) _ _ _ _ w
theorem hC_X1_groupOf : yX1_groupOf.cls = RX1 ∧ yX1_groupOf.cls ≠ "java/lang/invoke/MethodHandle" ∧ yX1_groupOf.cls ≠ "java/lang/invoke/VarHandle" ∧ (parseMethodDescriptor yX1_groupOf.desc).map (fun d => d.parameters.length) = some 1 := by decide +kernel
/-! X1_groupAt(I)LNoteImporter$Group; -/
def fC_X1_groupAt_j40 (gk : Nat → Nat) (x0 : Option Nat) (x1 : Int) (y0 : Int) (Q : Option Nat → jj_H → Prop) (E : String → Nat → jj_H → Prop) (h : jj_H) (k : Nat) : Prop :=
  ∃ c1, c1 ≤ k ∧ fC_X1_checkIndex gk y0 (fun h3 =>
  jp_is h3 x0 1 ∧ ∃ c4, c4 ≤ (k - c1) ∧ fC_X1_view gk x0 (fun r5 h6 =>
  jp_gr h6 r5 8 4 (fun g7 =>
  jq_J2_get g7 x1 (fun r10 h8 k9 =>
  jp_is h8 r10 7 ∧
  Q r10 h8) h6 ((k - c1) - c4))) E h3 c4) E h c1
def fC_X1_groupAt_j39 (gk : Nat → Nat) (x0 : Option Nat) (x1 : Int) (Q : Option Nat → jj_H → Prop) (E : String → Nat → jj_H → Prop) (h : jj_H) (k : Nat) : Prop :=
  fC_X1_groupAt_j40 gk x0 x1 0 Q E h k
def fC_X1_groupAt (gk : Nat → Nat) (x0 : Option Nat) (x1 : Int) (Q : Option Nat → jj_H → Prop) (E : String → Nat → jj_H → Prop) (h : jj_H) (k : Nat) : Prop :=
  jp_gr h x0 1 0 (fun g11 =>
  jp_gr h g11 2 1 (fun g12 =>
  jq_J2_isEmpty g12 (fun r15 h13 k14 =>
  jj_r r15 ∧ (¬ r15 = 0 → (
    fC_X1_groupAt_j39 gk x0 x1 Q E h13 k14)) ∧
  (r15 = 0 → (
    jp_is h13 x0 1 ∧ ∃ c16, c16 ≤ k14 ∧ fC_X1_view gk x0 (fun r17 h18 =>
    jp_gr h18 r17 8 4 (fun g19 =>
    jq_J2_size g19 (fun r22 h20 k21 =>
    fC_X1_isBetween gk (jj_i2l x1) 0 (jj_i2l (r22 - 1)) (fun r24 h25 =>
    jj_r r24 ∧ (r24 = 0 → (
      fC_X1_groupAt_j39 gk x0 x1 Q E h25 k21)) ∧
    (¬ r24 = 0 → (
      fC_X1_groupAt_j40 gk x0 x1 1 Q E h25 k21))) E h20 0) h18 (k14 - c16))) E h13 c16))) h k))
theorem sC_X1_groupAt_j40 {X : jj_X} {N : Option jj_AV → jj_H → Prop} {XN : String → Nat → jj_H → Prop} (F : jj_F X RX1 cX1_groupAt 2) (M : jj_M X (some ((.object "NoteImporter$Group"))) 18 739 N XN) (O : jj_no X) (J : jj_GJ X.1 X.2.2.1) (hi : X.2.2.2.2.2.2.2.2.2.1.name = yX1_groupAt.name) {Q : Option Nat → jj_H → Prop} {E : String → Nat → jj_H → Prop} (hQ : ∀ r h, Q r h → N (some (.inr (.inr (.inl r)))) h) (hE : ∀ e q h, E e q h → XN e q h) (x0 : Option Nat) (x1 : Int) (y0 : Int) : ∀ (h : jj_H) (k : Nat), fC_X1_groupAt_j40 (jj_gk X.1) x0 x1 y0 Q E h k → jj_J X 2 40 [(0, .inr (.inr (.inl x0))), (1, .inl x1)] [.inl y0] h k := by
  intro h k w
  unfold fC_X1_groupAt_j40 at w
  obtain ⟨c1, hk9, w⟩ := w
  refine jr_callS (pc := 40) (As := [_]) F M (lw_S q2782 q2783 q120 q2784) dX1_groupAt_40 hC_X1_checkIndex.2 rfl (Nat.le_of_ble_eq_true rfl) (Nat.le_of_ble_eq_true rfl) (Nat.le_of_ble_eq_true rfl) hk9 (cC_X1_checkIndex J w) (fun v9 h3 q9 => ?_) (fun E9 q9 h9 w9 => jr_out F M O (hE _ _ _ w9))
  obtain ⟨rfl, w⟩ := q9
  refine jr_aload_n (pc := 43) F (j := 0) dX1_groupAt_43 rfl ?_
  obtain ⟨hi9, c4, hk9, w⟩ := w
  refine jr_cV (pc := 44) (As := []) (ci := 1) F M (lw_V q659 q661 qs1 q120 q662) dX1_groupAt_44 hC_X1_view rfl (Nat.le_of_ble_eq_true rfl) (Nat.le_of_ble_eq_true rfl) (Nat.le_of_ble_eq_true rfl) rfl hi9 hk9 (cC_X1_view J w) (fun v9 h6 q9 => ?_) (fun E9 q9 h9 w9 => jr_out F M O (hE _ _ _ w9))
  obtain ⟨r5, rfl, w⟩ := q9
  refine jr_grN (pc := 47) (ci := 8) (f := 4) F rfl in_X10 (Nat.le_of_ble_eq_true rfl) q1601 dX1_groupAt_47 w (fun g7 w => ?_)
  refine jr_iload_n (pc := 50) F (j := 1) dX1_groupAt_50 rfl ?_
  refine jr_jV (pc := 51) (As := [_]) (ci := 14) F M (lw_V q1613 q681 q682 q124 q683) dX1_groupAt_51 hj_J2_get rfl (Nat.le_of_ble_eq_true rfl) (Nat.le_of_ble_eq_true rfl) (Nat.le_of_ble_eq_true rfl) rfl (jK_J2_get J _ _ _ _ _ w) (fun v9 h8 k9 q9 => ?_)
  obtain ⟨r10, rfl, w⟩ := q9
  obtain ⟨hi9, w⟩ := w
  refine jr_cast (pc := 54) (ci := 7) F rfl q1614 dX1_groupAt_54 hi9 ?_
  exact jr_aret (pc := 57) F M (Or.inl ⟨_, rfl⟩) dX1_groupAt_57 (hQ _ _ w)

theorem sC_X1_groupAt_j39 {X : jj_X} {N : Option jj_AV → jj_H → Prop} {XN : String → Nat → jj_H → Prop} (F : jj_F X RX1 cX1_groupAt 2) (M : jj_M X (some ((.object "NoteImporter$Group"))) 18 739 N XN) (O : jj_no X) (J : jj_GJ X.1 X.2.2.1) (hi : X.2.2.2.2.2.2.2.2.2.1.name = yX1_groupAt.name) {Q : Option Nat → jj_H → Prop} {E : String → Nat → jj_H → Prop} (hQ : ∀ r h, Q r h → N (some (.inr (.inr (.inl r)))) h) (hE : ∀ e q h, E e q h → XN e q h) (x0 : Option Nat) (x1 : Int) : ∀ (h : jj_H) (k : Nat), fC_X1_groupAt_j39 (jj_gk X.1) x0 x1 Q E h k → jj_J X 2 39 [(0, .inr (.inr (.inl x0))), (1, .inl x1)] [] h k := by
  intro h k w
  unfold fC_X1_groupAt_j39 at w
  refine jr_iconst (pc := 39) F dX1_groupAt_39 ?_
  exact sC_X1_groupAt_j40 F M O J hi hQ hE _ _ _ _ _ w

theorem sC_X1_groupAt {X : jj_X} {N : Option jj_AV → jj_H → Prop} {XN : String → Nat → jj_H → Prop} (F : jj_F X RX1 cX1_groupAt 2) (M : jj_M X (some ((.object "NoteImporter$Group"))) 18 739 N XN) (O : jj_no X) (J : jj_GJ X.1 X.2.2.1) (hi : X.2.2.2.2.2.2.2.2.2.1.name = yX1_groupAt.name) {Q : Option Nat → jj_H → Prop} {E : String → Nat → jj_H → Prop} (hQ : ∀ r h, Q r h → N (some (.inr (.inr (.inl r)))) h) (hE : ∀ e q h, E e q h → XN e q h) (x0 : Option Nat) (x1 : Int) : ∀ (h : jj_H) (k : Nat), fC_X1_groupAt (jj_gk X.1) x0 x1 Q E h k → jj_J X 2 0 [(0, .inr (.inr (.inl x0))), (1, .inl x1)] [] h k := by
  intro h k w
  unfold fC_X1_groupAt at w
  refine jr_aload_n (pc := 0) F (j := 0) dX1_groupAt_0 rfl ?_
  refine jr_gr (pc := 1) (ci := 1) (f := 0) F rfl in_X1 (Nat.le_of_ble_eq_true rfl) q625 dX1_groupAt_1 w (fun g11 w => ?_)
  refine jr_grN (pc := 4) (ci := 2) (f := 1) F rfl in_X2 (Nat.le_of_ble_eq_true rfl) q596 dX1_groupAt_4 w (fun g12 w => ?_)
  refine jr_jV (pc := 7) (As := []) (ci := 14) F M (lw_V q655 q656 q657 q124 q658) dX1_groupAt_7 hj_J2_isEmpty rfl (Nat.le_of_ble_eq_true rfl) (Nat.le_of_ble_eq_true rfl) (Nat.le_of_ble_eq_true rfl) rfl (jK_J2_isEmpty J _ _ _ _ w) (fun v9 h13 k14 q9 => ?_)
  obtain ⟨r15, rfl, w⟩ := q9
  obtain ⟨hx9, w1, w2⟩ := w
  refine jr_if_ne (pc := 10) (tgt := 39) F hx9 dX1_groupAt_10 rfl (fun c9 => ?_) (fun c9 => ?_)
  · have w := w1 c9
    exact sC_X1_groupAt_j39 F M O J hi hQ hE _ _ _ _ w
  · have w := w2 c9
    refine jr_iload_n (pc := 13) F (j := 1) dX1_groupAt_13 rfl ?_
    refine jr_i2l (pc := 14) F dX1_groupAt_14 ?_
    refine jr_lconst (pc := 15) F (x := 0) dX1_groupAt_15 (by decide +kernel) ?_
    refine jr_aload_n (pc := 16) F (j := 0) dX1_groupAt_16 rfl ?_
    obtain ⟨hi9, c16, hk9, w⟩ := w
    refine jr_cV (pc := 17) (As := []) (ci := 1) F M (lw_V q659 q661 qs1 q120 q662) dX1_groupAt_17 hC_X1_view rfl (Nat.le_of_ble_eq_true rfl) (Nat.le_of_ble_eq_true rfl) (Nat.le_of_ble_eq_true rfl) rfl hi9 hk9 (cC_X1_view J w) (fun v9 h18 q9 => ?_) (fun E9 q9 h9 w9 => jr_out F M O (hE _ _ _ w9))
    obtain ⟨r17, rfl, w⟩ := q9
    refine jr_grN (pc := 20) (ci := 8) (f := 4) F rfl in_X10 (Nat.le_of_ble_eq_true rfl) q1601 dX1_groupAt_20 w (fun g19 w => ?_)
    refine jr_jV (pc := 23) (As := []) (ci := 14) F M (lw_V q1646 q676 q677 q124 q678) dX1_groupAt_23 hj_J2_size rfl (Nat.le_of_ble_eq_true rfl) (Nat.le_of_ble_eq_true rfl) (Nat.le_of_ble_eq_true rfl) rfl (jK_J2_size J _ _ _ _ w) (fun v9 h20 k21 q9 => ?_)
    obtain ⟨r22, rfl, w⟩ := q9
    refine jr_iconst (pc := 26) F dX1_groupAt_26 ?_
    refine jr_isub (pc := 27) F dX1_groupAt_27 ?_
    refine jr_i2l (pc := 28) F dX1_groupAt_28 ?_
    refine jr_callS (pc := 29) (As := [_, _, _]) F M (lw_S q2630 q1678 q120 q1679) dX1_groupAt_29 hC_X1_isBetween.2 rfl (Nat.le_of_ble_eq_true rfl) (Nat.le_of_ble_eq_true rfl) (Nat.le_of_ble_eq_true rfl) (Nat.zero_le _) (cC_X1_isBetween J w) (fun v9 h25 q9 => ?_) (fun E9 q9 h9 w9 => jr_out F M O (hE _ _ _ w9))
    obtain ⟨r24, rfl, w⟩ := q9
    obtain ⟨hx9, w1, w2⟩ := w
    refine jr_if_eq (pc := 32) (tgt := 39) F hx9 dX1_groupAt_32 rfl (fun c9 => ?_) (fun c9 => ?_)
    · have w := w1 c9
      exact sC_X1_groupAt_j39 F M O J hi hQ hE _ _ _ _ w
    · have w := w2 c9
      refine jr_iconst (pc := 35) F dX1_groupAt_35 ?_
      refine jr_goto (pc := 36) (tgt := 40) F dX1_groupAt_36 rfl ?_
      exact sC_X1_groupAt_j40 F M O J hi hQ hE _ _ _ _ _ w

theorem cC_X1_groupAt {G : jj_G} {l : Launch} (J : jj_GJ G l) {x0 : Option Nat} {x1 : Int} {Q : Option Nat → jj_H → Prop} {E : String → Nat → jj_H → Prop} {h : jj_H} {k : Nat} (w : fC_X1_groupAt (jj_gk G) x0 x1 Q E h k) : jj_Ct G l yX1_groupAt (ws_ yX1_groupAt cX1_groupAt 2 (some ((.object "NoteImporter$Group")))) 18 739 [.inr (.inr (.inl x0)), .inl x1] h k (jc_r Q) E := by
  refine jj_Ct.of (jK_gs J).1 (by decide +kernel) (Nat.le_of_ble_eq_true rfl) rfl (fun X hG hl F M O hnm => ?_)
  subst hG; subst hl
  exact sC_X1_groupAt F M O J hnm (fun r h q => ⟨r, rfl, q⟩) (fun _ _ _ q => q) _ _ _ _ w
theorem hC_X1_groupAt : yX1_groupAt.cls = RX1 ∧ yX1_groupAt.cls ≠ "java/lang/invoke/MethodHandle" ∧ yX1_groupAt.cls ≠ "java/lang/invoke/VarHandle" ∧ (parseMethodDescriptor yX1_groupAt.desc).map (fun d => d.parameters.length) = some 1 := by decide +kernel
/-! X1_group(II)I -/
def fC_X1_group (gk : Nat → Nat) (x0 : Option Nat) (x1 : Int) (x2 : Int) (Q : Int → jj_H → Prop) (E : String → Nat → jj_H → Prop) (h : jj_H) (k : Nat) : Prop :=
  jp_is h x0 1 ∧ ∃ c1, c1 ≤ k ∧ fC_X1_groupAt gk x0 x1 (fun r2 h3 =>
  fC_X1_isBetween gk (jj_i2l x2) 0 5 (fun r5 h6 =>
  ∃ c7, c7 ≤ (k - c1) ∧ fC_X1_checkArgument gk r5 (fun h9 =>
  jj_r x2 ∧
  (x2 = 0 → (
    jp_gr h9 r2 7 1 (fun g10 =>
    jq_J2_size g10 (fun r13 h11 k12 =>
    Q r13 h11) h9 ((k - c1) - c7)))) ∧
  (x2 = 1 → (
    jp_gr h9 r2 7 1 (fun g14 =>
    jq_J2_get g14 0 (fun r17 h15 k16 =>
    jp_is h15 r17 27 ∧
    jq_J17_intValue r17 (fun r20 h18 k19 =>
    Q r20 h18) h15 k16) h9 ((k - c1) - c7)))) ∧
  (x2 = 2 → (
    jp_gi h9 r2 7 2 (fun g21 =>
    Q g21 h9))) ∧
  (x2 = 3 → (
    jp_gi h9 r2 7 3 (fun g22 =>
    Q g22 h9))) ∧
  (x2 = 4 → (
    jp_gi h9 r2 7 4 (fun g23 =>
    Q g23 h9))) ∧
  ((x2 < 0 ∨ 4 < x2) → (
    jp_gi h9 r2 7 5 (fun g24 =>
    Q g24 h9)))) E h6 c7) E h3 0) E h c1
theorem sC_X1_group {X : jj_X} {N : Option jj_AV → jj_H → Prop} {XN : String → Nat → jj_H → Prop} (F : jj_F X RX1 cX1_group 4) (M : jj_M X (some (.int)) 19 760 N XN) (O : jj_no X) (J : jj_GJ X.1 X.2.2.1) (hi : X.2.2.2.2.2.2.2.2.2.1.name = yX1_group.name) {Q : Int → jj_H → Prop} {E : String → Nat → jj_H → Prop} (hQ : ∀ r h, Q r h → N (some (.inl r)) h) (hE : ∀ e q h, E e q h → XN e q h) (x0 : Option Nat) (x1 : Int) (x2 : Int) : ∀ (h : jj_H) (k : Nat), fC_X1_group (jj_gk X.1) x0 x1 x2 Q E h k → jj_J X 4 0 [(0, .inr (.inr (.inl x0))), (1, .inl x1), (2, .inl x2)] [] h k := by
  intro h k w
  unfold fC_X1_group at w
  refine jr_aload_n (pc := 0) F (j := 0) dX1_group_0 rfl ?_
  refine jr_iload_n (pc := 1) F (j := 1) dX1_group_1 rfl ?_
  obtain ⟨hi9, c1, hk9, w⟩ := w
  refine jr_cV (pc := 2) (As := [_]) (ci := 1) F M (lw_V q3009 q3011 qs44 q120 q3012) dX1_group_2 hC_X1_groupAt rfl (Nat.le_of_ble_eq_true rfl) (Nat.le_of_ble_eq_true rfl) (Nat.le_of_ble_eq_true rfl) rfl hi9 hk9 (cC_X1_groupAt J w) (fun v9 h3 q9 => ?_) (fun E9 q9 h9 w9 => jr_out F M O (hE _ _ _ w9))
  obtain ⟨r2, rfl, w⟩ := q9
  refine jr_astore_n (pc := 5) F (vs' := [(3, .inr (.inr (.inl _))), (0, .inr (.inr (.inl _))), (1, .inl _), (2, .inl _)]) dX1_group_5 (Nat.le_of_ble_eq_true rfl) rfl ?_
  refine jr_iload_n (pc := 6) F (j := 3) dX1_group_6 rfl ?_
  refine jr_i2l (pc := 7) F dX1_group_7 ?_
  refine jr_lconst (pc := 8) F (x := 0) dX1_group_8 (by decide +kernel) ?_
  refine jr_ldc2 (pc := 9) F (x := 5) q2643 dX1_group_9 (by decide +kernel) ?_
  refine jr_callS (pc := 12) (As := [_, _, _]) F M (lw_S q2630 q1678 q120 q1679) dX1_group_12 hC_X1_isBetween.2 rfl (Nat.le_of_ble_eq_true rfl) (Nat.le_of_ble_eq_true rfl) (Nat.le_of_ble_eq_true rfl) (Nat.zero_le _) (cC_X1_isBetween J w) (fun v9 h6 q9 => ?_) (fun E9 q9 h9 w9 => jr_out F M O (hE _ _ _ w9))
  obtain ⟨r5, rfl, w⟩ := q9
  obtain ⟨c7, hk9, w⟩ := w
  refine jr_callS (pc := 15) (As := [_]) F M (lw_S q2631 q2632 q120 q2633) dX1_group_15 hC_X1_checkArgument.2 rfl (Nat.le_of_ble_eq_true rfl) (Nat.le_of_ble_eq_true rfl) (Nat.le_of_ble_eq_true rfl) hk9 (cC_X1_checkArgument J w) (fun v9 h9 q9 => ?_) (fun E9 q9 h9 w9 => jr_out F M O (hE _ _ _ w9))
  obtain ⟨rfl, w⟩ := q9
  refine jr_iload_n (pc := 18) F (j := 3) dX1_group_18 rfl ?_
  obtain ⟨hx9, w⟩ := w
  obtain ⟨w9, w⟩ := w
  rcases Decidable.em (x2 = 0) with e9 | e9_0
  · have w := w9 e9
    refine jr_tabIn (pc := 19) (tgt := 52) (off := 33) F hx9 dX1_group_19 (by rw [e9]; decide) (by rw [e9]; decide) (by rw [e9]; rfl) rfl ?_
    refine jr_aload_n (pc := 52) F (j := 0) dX1_group_52 rfl ?_
    refine jr_grN (pc := 53) (ci := 7) (f := 1) F rfl in_X13 (Nat.le_of_ble_eq_true rfl) q794 dX1_group_53 w (fun g10 w => ?_)
    refine jr_jV (pc := 56) (As := []) (ci := 14) F M (lw_V q1646 q676 q677 q124 q678) dX1_group_56 hj_J2_size rfl (Nat.le_of_ble_eq_true rfl) (Nat.le_of_ble_eq_true rfl) (Nat.le_of_ble_eq_true rfl) rfl (jK_J2_size J _ _ _ _ w) (fun v9 h11 k12 q9 => ?_)
    obtain ⟨r13, rfl, w⟩ := q9
    exact jr_iret (pc := 59) F M dX1_group_59 (hQ _ _ w)
  obtain ⟨w9, w⟩ := w
  rcases Decidable.em (x2 = 1) with e9 | e9_1
  · have w := w9 e9
    refine jr_tabIn (pc := 19) (tgt := 60) (off := 41) F hx9 dX1_group_19 (by rw [e9]; decide) (by rw [e9]; decide) (by rw [e9]; rfl) rfl ?_
    refine jr_aload_n (pc := 60) F (j := 0) dX1_group_60 rfl ?_
    refine jr_grN (pc := 61) (ci := 7) (f := 1) F rfl in_X13 (Nat.le_of_ble_eq_true rfl) q794 dX1_group_61 w (fun g14 w => ?_)
    refine jr_iconst (pc := 64) F dX1_group_64 ?_
    refine jr_jV (pc := 65) (As := [_]) (ci := 14) F M (lw_V q1613 q681 q682 q124 q683) dX1_group_65 hj_J2_get rfl (Nat.le_of_ble_eq_true rfl) (Nat.le_of_ble_eq_true rfl) (Nat.le_of_ble_eq_true rfl) rfl (jK_J2_get J _ _ _ _ _ w) (fun v9 h15 k16 q9 => ?_)
    obtain ⟨r17, rfl, w⟩ := q9
    obtain ⟨hi9, w⟩ := w
    refine jr_cast (pc := 68) (ci := 27) F rfl q3013 dX1_group_68 hi9 ?_
    refine jr_jV (pc := 71) (As := []) (ci := 27) F M (lw_V q3014 q914 q915 q140 q916) dX1_group_71 hj_J17_intValue rfl (Nat.le_of_ble_eq_true rfl) (Nat.le_of_ble_eq_true rfl) (Nat.le_of_ble_eq_true rfl) rfl (jK_J17_intValue J _ _ _ _ w) (fun v9 h18 k19 q9 => ?_)
    obtain ⟨r20, rfl, w⟩ := q9
    exact jr_iret (pc := 74) F M dX1_group_74 (hQ _ _ w)
  obtain ⟨w9, w⟩ := w
  rcases Decidable.em (x2 = 2) with e9 | e9_2
  · have w := w9 e9
    refine jr_tabIn (pc := 19) (tgt := 75) (off := 56) F hx9 dX1_group_19 (by rw [e9]; decide) (by rw [e9]; decide) (by rw [e9]; rfl) rfl ?_
    refine jr_aload_n (pc := 75) F (j := 0) dX1_group_75 rfl ?_
    refine jr_giN (pc := 76) (ci := 7) (f := 2) F rfl in_X13 (Nat.le_of_ble_eq_true rfl) q796 dX1_group_76 w (fun g21 w => ?_)
    exact jr_iret (pc := 79) F M dX1_group_79 (hQ _ _ w)
  obtain ⟨w9, w⟩ := w
  rcases Decidable.em (x2 = 3) with e9 | e9_3
  · have w := w9 e9
    refine jr_tabIn (pc := 19) (tgt := 80) (off := 61) F hx9 dX1_group_19 (by rw [e9]; decide) (by rw [e9]; decide) (by rw [e9]; rfl) rfl ?_
    refine jr_aload_n (pc := 80) F (j := 0) dX1_group_80 rfl ?_
    refine jr_giN (pc := 81) (ci := 7) (f := 3) F rfl in_X13 (Nat.le_of_ble_eq_true rfl) q800 dX1_group_81 w (fun g22 w => ?_)
    exact jr_iret (pc := 84) F M dX1_group_84 (hQ _ _ w)
  obtain ⟨w9, w⟩ := w
  rcases Decidable.em (x2 = 4) with e9 | e9_4
  · have w := w9 e9
    refine jr_tabIn (pc := 19) (tgt := 85) (off := 66) F hx9 dX1_group_19 (by rw [e9]; decide) (by rw [e9]; decide) (by rw [e9]; rfl) rfl ?_
    refine jr_aload_n (pc := 85) F (j := 0) dX1_group_85 rfl ?_
    refine jr_giN (pc := 86) (ci := 7) (f := 4) F rfl in_X13 (Nat.le_of_ble_eq_true rfl) q802 dX1_group_86 w (fun g23 w => ?_)
    exact jr_iret (pc := 89) F M dX1_group_89 (hQ _ _ w)
  have c9 := jj_to4 e9_0 e9_1 e9_2 e9_3 e9_4
  have w := w c9
  refine jr_tabOut (pc := 19) (tgt := 90) F hx9 dX1_group_19 c9 rfl ?_
  refine jr_aload_n (pc := 90) F (j := 0) dX1_group_90 rfl ?_
  refine jr_giN (pc := 91) (ci := 7) (f := 5) F rfl in_X13 (Nat.le_of_ble_eq_true rfl) q805 dX1_group_91 w (fun g24 w => ?_)
  exact jr_iret (pc := 94) F M dX1_group_94 (hQ _ _ w)

theorem cC_X1_group {G : jj_G} {l : Launch} (J : jj_GJ G l) {x0 : Option Nat} {x1 : Int} {x2 : Int} {Q : Int → jj_H → Prop} {E : String → Nat → jj_H → Prop} {h : jj_H} {k : Nat} (w : fC_X1_group (jj_gk G) x0 x1 x2 Q E h k) : jj_Ct G l yX1_group (ws_ yX1_group cX1_group 4 (some (.int))) 19 760 [.inr (.inr (.inl x0)), .inl x1, .inl x2] h k (jc_i Q) E := by
  refine jj_Ct.of (jK_gs J).1 (by decide +kernel) (Nat.le_of_ble_eq_true rfl) rfl (fun X hG hl F M O hnm => ?_)
  subst hG; subst hl
  exact sC_X1_group F M O J hnm (fun r h q => ⟨r, rfl, q⟩) (fun _ _ _ q => q) _ _ _ _ _ w
theorem hC_X1_group : yX1_group.cls = RX1 ∧ yX1_group.cls ≠ "java/lang/invoke/MethodHandle" ∧ yX1_group.cls ≠ "java/lang/invoke/VarHandle" ∧ (parseMethodDescriptor yX1_group.desc).map (fun d => d.parameters.length) = some 2 := by decide +kernel
/-! X1_heat(I)I -/
def fC_X1_heat_j38 (gk : Nat → Nat) (x0 : Option Nat) (x1 : Int) (y0 : Int) (Q : Int → jj_H → Prop) (E : String → Nat → jj_H → Prop) (h : jj_H) (k : Nat) : Prop :=
  ∃ c1, c1 ≤ k ∧ fC_X1_checkIndex gk y0 (fun h3 =>
  jp_is h3 x0 1 ∧ ∃ c4, c4 ≤ (k - c1) ∧ fC_X1_view gk x0 (fun r5 h6 =>
  jp_is h6 r5 8 ∧ fC_X10_heat gk r5 x1 (fun r8 h9 =>
  Q r8 h9) E h6 0) E h3 c4) E h c1
def fC_X1_heat_j37 (gk : Nat → Nat) (x0 : Option Nat) (x1 : Int) (Q : Int → jj_H → Prop) (E : String → Nat → jj_H → Prop) (h : jj_H) (k : Nat) : Prop :=
  fC_X1_heat_j38 gk x0 x1 0 Q E h k
def fC_X1_heat (gk : Nat → Nat) (x0 : Option Nat) (x1 : Int) (Q : Int → jj_H → Prop) (E : String → Nat → jj_H → Prop) (h : jj_H) (k : Nat) : Prop :=
  jp_gr h x0 1 0 (fun g10 =>
  jp_gr h g10 2 0 (fun g11 =>
  jq_J2_isEmpty g11 (fun r14 h12 k13 =>
  jj_r r14 ∧ (¬ r14 = 0 → (
    fC_X1_heat_j37 gk x0 x1 Q E h12 k13)) ∧
  (r14 = 0 → (
    jp_gr h12 x0 1 0 (fun g15 =>
    jp_is h12 g15 2 ∧ fC_X2_aim gk g15 (fun r17 h18 =>
    jp_is h18 r17 3 ∧ fC_X5_last gk r17 (fun r20 h21 =>
    fC_X1_isBetween gk (jj_i2l x1) 0 (jj_i2l r20) (fun r23 h24 =>
    jj_r r23 ∧ (r23 = 0 → (
      fC_X1_heat_j37 gk x0 x1 Q E h24 k13)) ∧
    (¬ r23 = 0 → (
      fC_X1_heat_j38 gk x0 x1 1 Q E h24 k13))) E h21 0) E h18 0) E h12 0)))) h k))
theorem sC_X1_heat_j38 {X : jj_X} {N : Option jj_AV → jj_H → Prop} {XN : String → Nat → jj_H → Prop} (F : jj_F X RX1 cX1_heat 2) (M : jj_M X (some (.int)) 18 739 N XN) (O : jj_no X) (J : jj_GJ X.1 X.2.2.1) (hi : X.2.2.2.2.2.2.2.2.2.1.name = yX1_heat.name) {Q : Int → jj_H → Prop} {E : String → Nat → jj_H → Prop} (hQ : ∀ r h, Q r h → N (some (.inl r)) h) (hE : ∀ e q h, E e q h → XN e q h) (x0 : Option Nat) (x1 : Int) (y0 : Int) : ∀ (h : jj_H) (k : Nat), fC_X1_heat_j38 (jj_gk X.1) x0 x1 y0 Q E h k → jj_J X 2 38 [(0, .inr (.inr (.inl x0))), (1, .inl x1)] [.inl y0] h k := by
  intro h k w
  unfold fC_X1_heat_j38 at w
  obtain ⟨c1, hk9, w⟩ := w
  refine jr_callS (pc := 38) (As := [_]) F M (lw_S q2782 q2783 q120 q2784) dX1_heat_38 hC_X1_checkIndex.2 rfl (Nat.le_of_ble_eq_true rfl) (Nat.le_of_ble_eq_true rfl) (Nat.le_of_ble_eq_true rfl) hk9 (cC_X1_checkIndex J w) (fun v9 h3 q9 => ?_) (fun E9 q9 h9 w9 => jr_out F M O (hE _ _ _ w9))
  obtain ⟨rfl, w⟩ := q9
  refine jr_aload_n (pc := 41) F (j := 0) dX1_heat_41 rfl ?_
  obtain ⟨hi9, c4, hk9, w⟩ := w
  refine jr_cV (pc := 42) (As := []) (ci := 1) F M (lw_V q659 q661 qs1 q120 q662) dX1_heat_42 hC_X1_view rfl (Nat.le_of_ble_eq_true rfl) (Nat.le_of_ble_eq_true rfl) (Nat.le_of_ble_eq_true rfl) rfl hi9 hk9 (cC_X1_view J w) (fun v9 h6 q9 => ?_) (fun E9 q9 h9 w9 => jr_out F M O (hE _ _ _ w9))
  obtain ⟨r5, rfl, w⟩ := q9
  refine jr_iload_n (pc := 45) F (j := 1) dX1_heat_45 rfl ?_
  obtain ⟨hi9, w⟩ := w
  refine jr_cV (pc := 46) (As := [_]) (ci := 8) F M (lw_V q1669 q1670 q1671 q177 q1672) dX1_heat_46 hC_X10_heat rfl (Nat.le_of_ble_eq_true rfl) (Nat.le_of_ble_eq_true rfl) (Nat.le_of_ble_eq_true rfl) rfl hi9 (Nat.zero_le _) (cC_X10_heat J w) (fun v9 h9 q9 => ?_) (fun E9 q9 h9 w9 => jr_out F M O (hE _ _ _ w9))
  obtain ⟨r8, rfl, w⟩ := q9
  exact jr_iret (pc := 49) F M dX1_heat_49 (hQ _ _ w)

theorem sC_X1_heat_j37 {X : jj_X} {N : Option jj_AV → jj_H → Prop} {XN : String → Nat → jj_H → Prop} (F : jj_F X RX1 cX1_heat 2) (M : jj_M X (some (.int)) 18 739 N XN) (O : jj_no X) (J : jj_GJ X.1 X.2.2.1) (hi : X.2.2.2.2.2.2.2.2.2.1.name = yX1_heat.name) {Q : Int → jj_H → Prop} {E : String → Nat → jj_H → Prop} (hQ : ∀ r h, Q r h → N (some (.inl r)) h) (hE : ∀ e q h, E e q h → XN e q h) (x0 : Option Nat) (x1 : Int) : ∀ (h : jj_H) (k : Nat), fC_X1_heat_j37 (jj_gk X.1) x0 x1 Q E h k → jj_J X 2 37 [(0, .inr (.inr (.inl x0))), (1, .inl x1)] [] h k := by
  intro h k w
  unfold fC_X1_heat_j37 at w
  refine jr_iconst (pc := 37) F dX1_heat_37 ?_
  exact sC_X1_heat_j38 F M O J hi hQ hE _ _ _ _ _ w

theorem sC_X1_heat {X : jj_X} {N : Option jj_AV → jj_H → Prop} {XN : String → Nat → jj_H → Prop} (F : jj_F X RX1 cX1_heat 2) (M : jj_M X (some (.int)) 18 739 N XN) (O : jj_no X) (J : jj_GJ X.1 X.2.2.1) (hi : X.2.2.2.2.2.2.2.2.2.1.name = yX1_heat.name) {Q : Int → jj_H → Prop} {E : String → Nat → jj_H → Prop} (hQ : ∀ r h, Q r h → N (some (.inl r)) h) (hE : ∀ e q h, E e q h → XN e q h) (x0 : Option Nat) (x1 : Int) : ∀ (h : jj_H) (k : Nat), fC_X1_heat (jj_gk X.1) x0 x1 Q E h k → jj_J X 2 0 [(0, .inr (.inr (.inl x0))), (1, .inl x1)] [] h k := by
  intro h k w
  unfold fC_X1_heat at w
  refine jr_aload_n (pc := 0) F (j := 0) dX1_heat_0 rfl ?_
  refine jr_gr (pc := 1) (ci := 1) (f := 0) F rfl in_X1 (Nat.le_of_ble_eq_true rfl) q625 dX1_heat_1 w (fun g10 w => ?_)
  refine jr_grN (pc := 4) (ci := 2) (f := 0) F rfl in_X2 (Nat.le_of_ble_eq_true rfl) q591 dX1_heat_4 w (fun g11 w => ?_)
  refine jr_jV (pc := 7) (As := []) (ci := 14) F M (lw_V q655 q656 q657 q124 q658) dX1_heat_7 hj_J2_isEmpty rfl (Nat.le_of_ble_eq_true rfl) (Nat.le_of_ble_eq_true rfl) (Nat.le_of_ble_eq_true rfl) rfl (jK_J2_isEmpty J _ _ _ _ w) (fun v9 h12 k13 q9 => ?_)
  obtain ⟨r14, rfl, w⟩ := q9
  obtain ⟨hx9, w1, w2⟩ := w
  refine jr_if_ne (pc := 10) (tgt := 37) F hx9 dX1_heat_10 rfl (fun c9 => ?_) (fun c9 => ?_)
  · have w := w1 c9
    exact sC_X1_heat_j37 F M O J hi hQ hE _ _ _ _ w
  · have w := w2 c9
    refine jr_iload_n (pc := 13) F (j := 1) dX1_heat_13 rfl ?_
    refine jr_i2l (pc := 14) F dX1_heat_14 ?_
    refine jr_lconst (pc := 15) F (x := 0) dX1_heat_15 (by decide +kernel) ?_
    refine jr_aload_n (pc := 16) F (j := 0) dX1_heat_16 rfl ?_
    refine jr_gr (pc := 17) (ci := 1) (f := 0) F rfl in_X1 (Nat.le_of_ble_eq_true rfl) q625 dX1_heat_17 w (fun g15 w => ?_)
    obtain ⟨hi9, w⟩ := w
    refine jr_cV (pc := 20) (As := []) (ci := 2) F M (lw_V q1651 q696 q697 q121 q698) dX1_heat_20 hC_X2_aim rfl (Nat.le_of_ble_eq_true rfl) (Nat.le_of_ble_eq_true rfl) (Nat.le_of_ble_eq_true rfl) rfl hi9 (Nat.zero_le _) (cC_X2_aim J w) (fun v9 h18 q9 => ?_) (fun E9 q9 h9 w9 => jr_out F M O (hE _ _ _ w9))
    obtain ⟨r17, rfl, w⟩ := q9
    obtain ⟨hi9, w⟩ := w
    refine jr_cV (pc := 23) (As := []) (ci := 3) F M (lw_V q2821 q1661 q1662 q149 q1663) dX1_heat_23 hC_X5_last rfl (Nat.le_of_ble_eq_true rfl) (Nat.le_of_ble_eq_true rfl) (Nat.le_of_ble_eq_true rfl) rfl hi9 (Nat.zero_le _) (cC_X5_last J w) (fun v9 h21 q9 => ?_) (fun E9 q9 h9 w9 => jr_out F M O (hE _ _ _ w9))
    obtain ⟨r20, rfl, w⟩ := q9
    refine jr_i2l (pc := 26) F dX1_heat_26 ?_
    refine jr_callS (pc := 27) (As := [_, _, _]) F M (lw_S q2630 q1678 q120 q1679) dX1_heat_27 hC_X1_isBetween.2 rfl (Nat.le_of_ble_eq_true rfl) (Nat.le_of_ble_eq_true rfl) (Nat.le_of_ble_eq_true rfl) (Nat.zero_le _) (cC_X1_isBetween J w) (fun v9 h24 q9 => ?_) (fun E9 q9 h9 w9 => jr_out F M O (hE _ _ _ w9))
    obtain ⟨r23, rfl, w⟩ := q9
    obtain ⟨hx9, w1, w2⟩ := w
    refine jr_if_eq (pc := 30) (tgt := 37) F hx9 dX1_heat_30 rfl (fun c9 => ?_) (fun c9 => ?_)
    · have w := w1 c9
      exact sC_X1_heat_j37 F M O J hi hQ hE _ _ _ _ w
    · have w := w2 c9
      refine jr_iconst (pc := 33) F dX1_heat_33 ?_
      refine jr_goto (pc := 34) (tgt := 38) F dX1_heat_34 rfl ?_
      exact sC_X1_heat_j38 F M O J hi hQ hE _ _ _ _ _ w

theorem cC_X1_heat {G : jj_G} {l : Launch} (J : jj_GJ G l) {x0 : Option Nat} {x1 : Int} {Q : Int → jj_H → Prop} {E : String → Nat → jj_H → Prop} {h : jj_H} {k : Nat} (w : fC_X1_heat (jj_gk G) x0 x1 Q E h k) : jj_Ct G l yX1_heat (ws_ yX1_heat cX1_heat 2 (some (.int))) 18 739 [.inr (.inr (.inl x0)), .inl x1] h k (jc_i Q) E := by
  refine jj_Ct.of (jK_gs J).1 (by decide +kernel) (Nat.le_of_ble_eq_true rfl) rfl (fun X hG hl F M O hnm => ?_)
  subst hG; subst hl
  exact sC_X1_heat F M O J hnm (fun r h q => ⟨r, rfl, q⟩) (fun _ _ _ q => q) _ _ _ _ w
theorem hC_X1_heat : yX1_heat.cls = RX1 ∧ yX1_heat.cls ≠ "java/lang/invoke/MethodHandle" ∧ yX1_heat.cls ≠ "java/lang/invoke/VarHandle" ∧ (parseMethodDescriptor yX1_heat.desc).map (fun d => d.parameters.length) = some 1 := by decide +kernel
/-! X1_checkPage(I)V -/
def fC_X1_checkPage_j40 (gk : Nat → Nat) (y0 : Int) (Q : jj_H → Prop) (E : String → Nat → jj_H → Prop) (h : jj_H) (k : Nat) : Prop :=
  ∃ c1, c1 ≤ k ∧ fC_X1_checkIndex gk y0 (fun h3 =>
  Q h3) E h c1
def fC_X1_checkPage_j39 (gk : Nat → Nat) (Q : jj_H → Prop) (E : String → Nat → jj_H → Prop) (h : jj_H) (k : Nat) : Prop :=
  fC_X1_checkPage_j40 gk 0 Q E h k
def fC_X1_checkPage (gk : Nat → Nat) (x0 : Option Nat) (x1 : Int) (Q : jj_H → Prop) (E : String → Nat → jj_H → Prop) (h : jj_H) (k : Nat) : Prop :=
  jp_gr h x0 1 0 (fun g4 =>
  jp_gr h g4 2 0 (fun g5 =>
  jq_J2_isEmpty g5 (fun r8 h6 k7 =>
  jj_r r8 ∧ (¬ r8 = 0 → (
    fC_X1_checkPage_j39 gk Q E h6 k7)) ∧
  (r8 = 0 → (
    jp_gr h6 x0 1 0 (fun g9 =>
    jp_is h6 g9 2 ∧ fC_X2_aim gk g9 (fun r11 h12 =>
    jp_is h12 r11 3 ∧ fC_X5_pageCount gk r11 (fun r14 h15 =>
    fC_X1_isBetween gk (jj_i2l x1) 0 (jj_i2l (r14 - 1)) (fun r17 h18 =>
    jj_r r17 ∧ (r17 = 0 → (
      fC_X1_checkPage_j39 gk Q E h18 k7)) ∧
    (¬ r17 = 0 → (
      fC_X1_checkPage_j40 gk 1 Q E h18 k7))) E h15 0) E h12 0) E h6 0)))) h k))
theorem sC_X1_checkPage_j40 {X : jj_X} {N : Option jj_AV → jj_H → Prop} {XN : String → Nat → jj_H → Prop} (F : jj_F X RX1 cX1_checkPage 2) (M : jj_M X (none) 16 680 N XN) (O : jj_no X) (J : jj_GJ X.1 X.2.2.1) (hi : X.2.2.2.2.2.2.2.2.2.1.name = yX1_checkPage.name) {Q : jj_H → Prop} {E : String → Nat → jj_H → Prop} (hQ : ∀ h, Q h → N none h) (hE : ∀ e q h, E e q h → XN e q h) (y0 : Int) : ∀ (h : jj_H) (k : Nat), fC_X1_checkPage_j40 (jj_gk X.1) y0 Q E h k → jj_J X 2 40 [] [.inl y0] h k := by
  intro h k w
  unfold fC_X1_checkPage_j40 at w
  obtain ⟨c1, hk9, w⟩ := w
  refine jr_callS (pc := 40) (As := [_]) F M (lw_S q2782 q2783 q120 q2784) dX1_checkPage_40 hC_X1_checkIndex.2 rfl (Nat.le_of_ble_eq_true rfl) (Nat.le_of_ble_eq_true rfl) (Nat.le_of_ble_eq_true rfl) hk9 (cC_X1_checkIndex J w) (fun v9 h3 q9 => ?_) (fun E9 q9 h9 w9 => jr_out F M O (hE _ _ _ w9))
  obtain ⟨rfl, w⟩ := q9
  exact jr_vret (pc := 43) F M dX1_checkPage_43 (hQ _ w)

theorem sC_X1_checkPage_j39 {X : jj_X} {N : Option jj_AV → jj_H → Prop} {XN : String → Nat → jj_H → Prop} (F : jj_F X RX1 cX1_checkPage 2) (M : jj_M X (none) 16 680 N XN) (O : jj_no X) (J : jj_GJ X.1 X.2.2.1) (hi : X.2.2.2.2.2.2.2.2.2.1.name = yX1_checkPage.name) {Q : jj_H → Prop} {E : String → Nat → jj_H → Prop} (hQ : ∀ h, Q h → N none h) (hE : ∀ e q h, E e q h → XN e q h) : ∀ (h : jj_H) (k : Nat), fC_X1_checkPage_j39 (jj_gk X.1) Q E h k → jj_J X 2 39 [] [] h k := by
  intro h k w
  unfold fC_X1_checkPage_j39 at w
  refine jr_iconst (pc := 39) F dX1_checkPage_39 ?_
  exact sC_X1_checkPage_j40 F M O J hi hQ hE _ _ _ w

theorem sC_X1_checkPage {X : jj_X} {N : Option jj_AV → jj_H → Prop} {XN : String → Nat → jj_H → Prop} (F : jj_F X RX1 cX1_checkPage 2) (M : jj_M X (none) 16 680 N XN) (O : jj_no X) (J : jj_GJ X.1 X.2.2.1) (hi : X.2.2.2.2.2.2.2.2.2.1.name = yX1_checkPage.name) {Q : jj_H → Prop} {E : String → Nat → jj_H → Prop} (hQ : ∀ h, Q h → N none h) (hE : ∀ e q h, E e q h → XN e q h) (x0 : Option Nat) (x1 : Int) : ∀ (h : jj_H) (k : Nat), fC_X1_checkPage (jj_gk X.1) x0 x1 Q E h k → jj_J X 2 0 [(0, .inr (.inr (.inl x0))), (1, .inl x1)] [] h k := by
  intro h k w
  unfold fC_X1_checkPage at w
  refine jr_aload_n (pc := 0) F (j := 0) dX1_checkPage_0 rfl ?_
  refine jr_gr (pc := 1) (ci := 1) (f := 0) F rfl in_X1 (Nat.le_of_ble_eq_true rfl) q625 dX1_checkPage_1 w (fun g4 w => ?_)
  refine jr_grN (pc := 4) (ci := 2) (f := 0) F rfl in_X2 (Nat.le_of_ble_eq_true rfl) q591 dX1_checkPage_4 w (fun g5 w => ?_)
  refine jr_jV (pc := 7) (As := []) (ci := 14) F M (lw_V q655 q656 q657 q124 q658) dX1_checkPage_7 hj_J2_isEmpty rfl (Nat.le_of_ble_eq_true rfl) (Nat.le_of_ble_eq_true rfl) (Nat.le_of_ble_eq_true rfl) rfl (jK_J2_isEmpty J _ _ _ _ w) (fun v9 h6 k7 q9 => ?_)
  obtain ⟨r8, rfl, w⟩ := q9
  obtain ⟨hx9, w1, w2⟩ := w
  refine jr_if_ne (pc := 10) (tgt := 39) F hx9 dX1_checkPage_10 rfl (fun c9 => ?_) (fun c9 => ?_)
  · have w := w1 c9
    refine jj_J.sub [] rfl ?_
    exact sC_X1_checkPage_j39 F M O J hi hQ hE _ _ w
  · have w := w2 c9
    refine jr_iload_n (pc := 13) F (j := 1) dX1_checkPage_13 rfl ?_
    refine jr_i2l (pc := 14) F dX1_checkPage_14 ?_
    refine jr_lconst (pc := 15) F (x := 0) dX1_checkPage_15 (by decide +kernel) ?_
    refine jr_aload_n (pc := 16) F (j := 0) dX1_checkPage_16 rfl ?_
    refine jr_gr (pc := 17) (ci := 1) (f := 0) F rfl in_X1 (Nat.le_of_ble_eq_true rfl) q625 dX1_checkPage_17 w (fun g9 w => ?_)
    obtain ⟨hi9, w⟩ := w
    refine jr_cV (pc := 20) (As := []) (ci := 2) F M (lw_V q1651 q696 q697 q121 q698) dX1_checkPage_20 hC_X2_aim rfl (Nat.le_of_ble_eq_true rfl) (Nat.le_of_ble_eq_true rfl) (Nat.le_of_ble_eq_true rfl) rfl hi9 (Nat.zero_le _) (cC_X2_aim J w) (fun v9 h12 q9 => ?_) (fun E9 q9 h9 w9 => jr_out F M O (hE _ _ _ w9))
    obtain ⟨r11, rfl, w⟩ := q9
    obtain ⟨hi9, w⟩ := w
    refine jr_cV (pc := 23) (As := []) (ci := 3) F M (lw_V q1652 q1653 q1654 q149 q1655) dX1_checkPage_23 hC_X5_pageCount rfl (Nat.le_of_ble_eq_true rfl) (Nat.le_of_ble_eq_true rfl) (Nat.le_of_ble_eq_true rfl) rfl hi9 (Nat.zero_le _) (cC_X5_pageCount J w) (fun v9 h15 q9 => ?_) (fun E9 q9 h9 w9 => jr_out F M O (hE _ _ _ w9))
    obtain ⟨r14, rfl, w⟩ := q9
    refine jr_iconst (pc := 26) F dX1_checkPage_26 ?_
    refine jr_isub (pc := 27) F dX1_checkPage_27 ?_
    refine jr_i2l (pc := 28) F dX1_checkPage_28 ?_
    refine jr_callS (pc := 29) (As := [_, _, _]) F M (lw_S q2630 q1678 q120 q1679) dX1_checkPage_29 hC_X1_isBetween.2 rfl (Nat.le_of_ble_eq_true rfl) (Nat.le_of_ble_eq_true rfl) (Nat.le_of_ble_eq_true rfl) (Nat.zero_le _) (cC_X1_isBetween J w) (fun v9 h18 q9 => ?_) (fun E9 q9 h9 w9 => jr_out F M O (hE _ _ _ w9))
    obtain ⟨r17, rfl, w⟩ := q9
    obtain ⟨hx9, w1, w2⟩ := w
    refine jr_if_eq (pc := 32) (tgt := 39) F hx9 dX1_checkPage_32 rfl (fun c9 => ?_) (fun c9 => ?_)
    · have w := w1 c9
      refine jj_J.sub [] rfl ?_
      exact sC_X1_checkPage_j39 F M O J hi hQ hE _ _ w
    · have w := w2 c9
      refine jr_iconst (pc := 35) F dX1_checkPage_35 ?_
      refine jr_goto (pc := 36) (tgt := 40) F dX1_checkPage_36 rfl ?_
      refine jj_J.sub [] rfl ?_
      exact sC_X1_checkPage_j40 F M O J hi hQ hE _ _ _ w

theorem cC_X1_checkPage {G : jj_G} {l : Launch} (J : jj_GJ G l) {x0 : Option Nat} {x1 : Int} {Q : jj_H → Prop} {E : String → Nat → jj_H → Prop} {h : jj_H} {k : Nat} (w : fC_X1_checkPage (jj_gk G) x0 x1 Q E h k) : jj_Ct G l yX1_checkPage (ws_ yX1_checkPage cX1_checkPage 2 (none)) 16 680 [.inr (.inr (.inl x0)), .inl x1] h k (jc_v Q) E := by
  refine jj_Ct.of (jK_gs J).1 (by decide +kernel) (Nat.le_of_ble_eq_true rfl) rfl (fun X hG hl F M O hnm => ?_)
  subst hG; subst hl
  exact sC_X1_checkPage F M O J hnm (fun h q => ⟨rfl, q⟩) (fun _ _ _ q => q) _ _ _ _ w
theorem hC_X1_checkPage : yX1_checkPage.cls = RX1 ∧ yX1_checkPage.cls ≠ "java/lang/invoke/MethodHandle" ∧ yX1_checkPage.cls ≠ "java/lang/invoke/VarHandle" ∧ (parseMethodDescriptor yX1_checkPage.desc).map (fun d => d.parameters.length) = some 1 := by decide +kernel
/-! X1_marginGroups(I)I -/
def fC_X1_marginGroups_l25 (gk : Nat → Nat) (x0 : Option Nat) (x2 : Option Nat) (x3 : Option Nat) (Q : Int → jj_H → Prop) (E : String → Nat → jj_H → Prop) : Nat → Int → jj_H → Nat → Prop
  | 0, _, _, _ => False
  | n + 1, x4, h, k =>
  jp_gr h x0 1 0 (fun g1 =>
  jp_is h g1 2 ∧ fC_X2_aim gk g1 (fun r3 h4 =>
  jp_gi h4 r3 3 3 (fun g5 =>
  jj_r x4 ∧ jj_r g5 ∧ (g5 ≤ x4 → (
    jq_J42_size x2 (fun r8 h6 k7 =>
    Q r8 h6) h4 k)) ∧
  (¬ g5 ≤ x4 → (
    jp_al h4 x3 0 x4 (fun g9 =>
    jj_r g9 ∧ (g9 = (-1) → (
      ∀ v10, v10 = x4 + 1 →
      fC_X1_marginGroups_l25 gk x0 x2 x3 Q E n v10 h4 k)) ∧
    (¬ g9 = (-1) → (
      jp_al h4 x3 0 x4 (fun g11 =>
      jq_J17_valueOf gk g11 (fun r14 h12 k13 =>
      jq_J42_add x2 r14 (fun r17 h15 k16 =>
      ∀ v18, v18 = x4 + 1 →
      fC_X1_marginGroups_l25 gk x0 x2 x3 Q E n v18 h15 k16) h12 k13) h4 k)))))))) E h 0)
def fC_X1_marginGroups (gk : Nat → Nat) (x0 : Option Nat) (x1 : Int) (Q : Int → jj_H → Prop) (E : String → Nat → jj_H → Prop) (h : jj_H) (k : Nat) : Prop :=
  jp_is h x0 1 ∧ ∃ c19, c19 ≤ k ∧ fC_X1_checkPage gk x0 x1 (fun h21 =>
  jp_nw h21 (k - c19) 22 1 df_J42 (fun a22 h23 k24 =>
  jq_J42_init (some a22) (fun h25 k26 =>
  jp_is h25 x0 1 ∧ ∃ c27, c27 ≤ k26 ∧ fC_X1_view gk x0 (fun r28 h29 =>
  jp_is h29 r28 8 ∧ ∃ c30, c30 ≤ (k26 - c27) ∧ fC_X10_margin gk r28 x1 (fun r31 h32 =>
  ∃ n9, fC_X1_marginGroups_l25 gk x0 (some a22) r31 Q E n9 0 h32 ((k26 - c27) - c30)) E h29 c30) E h25 c27) h23 k24)) E h c19
theorem sC_X1_marginGroups_l25 {X : jj_X} {N : Option jj_AV → jj_H → Prop} {XN : String → Nat → jj_H → Prop} (F : jj_F X RX1 cX1_marginGroups 5) (M : jj_M X (some (.int)) 18 739 N XN) (O : jj_no X) (J : jj_GJ X.1 X.2.2.1) (hi : X.2.2.2.2.2.2.2.2.2.1.name = yX1_marginGroups.name) {Q : Int → jj_H → Prop} {E : String → Nat → jj_H → Prop} (hQ : ∀ r h, Q r h → N (some (.inl r)) h) (hE : ∀ e q h, E e q h → XN e q h) (x0 : Option Nat) (x2 : Option Nat) (x3 : Option Nat) : ∀ (n : Nat) (x4 : Int) (h : jj_H) (k : Nat), fC_X1_marginGroups_l25 (jj_gk X.1) x0 x2 x3 Q E n x4 h k → jj_J X 5 25 [(0, .inr (.inr (.inl x0))), (2, .inr (.inr (.inl x2))), (3, .inr (.inr (.inl x3))), (4, .inl x4)] [] h k := by
  intro n
  induction n with
  | zero =>
    intro x4 h k w
    exact (show False from w).elim
  | succ n ih =>
    intro x4 h k w
    rw [fC_X1_marginGroups_l25] at w
    refine jr_iload (pc := 25) F (j := 3) dX1_marginGroups_25 rfl ?_
    refine jr_aload_n (pc := 27) F (j := 0) dX1_marginGroups_27 rfl ?_
    refine jr_gr (pc := 28) (ci := 1) (f := 0) F rfl in_X1 (Nat.le_of_ble_eq_true rfl) q625 dX1_marginGroups_28 w (fun g1 w => ?_)
    obtain ⟨hi9, w⟩ := w
    refine jr_cV (pc := 31) (As := []) (ci := 2) F M (lw_V q1651 q696 q697 q121 q698) dX1_marginGroups_31 hC_X2_aim rfl (Nat.le_of_ble_eq_true rfl) (Nat.le_of_ble_eq_true rfl) (Nat.le_of_ble_eq_true rfl) rfl hi9 (Nat.zero_le _) (cC_X2_aim J w) (fun v9 h4 q9 => ?_) (fun E9 q9 h9 w9 => jr_out F M O (hE _ _ _ w9))
    obtain ⟨r3, rfl, w⟩ := q9
    refine jr_giN (pc := 34) (ci := 3) (f := 3) F rfl in_X5 (Nat.le_of_ble_eq_true rfl) q1870 dX1_marginGroups_34 w (fun g5 w => ?_)
    obtain ⟨hx9, hy9, w1, w2⟩ := w
    refine jr_icmp_ge (pc := 37) (tgt := 66) F hx9 hy9 dX1_marginGroups_37 rfl (fun c9 => ?_) (fun c9 => ?_)
    · have w := w1 c9
      refine jr_aload_n (pc := 66) F (j := 1) dX1_marginGroups_66 rfl ?_
      refine jr_jV (pc := 67) (As := []) (ci := 22) F M (lw_V q3076 q1811 q3784 q170 q1812) dX1_marginGroups_67 hj_J42_size rfl (Nat.le_of_ble_eq_true rfl) (Nat.le_of_ble_eq_true rfl) (Nat.le_of_ble_eq_true rfl) rfl (jK_J42_size J _ _ _ _ w) (fun v9 h6 k7 q9 => ?_)
      obtain ⟨r8, rfl, w⟩ := q9
      exact jr_iret (pc := 70) F M dX1_marginGroups_70 (hQ _ _ w)
    · have w := w2 c9
      refine jr_aload_n (pc := 40) F (j := 2) dX1_marginGroups_40 rfl ?_
      refine jr_iload (pc := 41) F (j := 3) dX1_marginGroups_41 rfl ?_
      refine jr_iald (pc := 43) F dX1_marginGroups_43 w (fun g9 w => ?_)
      refine jr_iconst (pc := 44) F dX1_marginGroups_44 ?_
      obtain ⟨hx9, w1, w2⟩ := w
      refine jr_icmp_eq (pc := 45) (tgt := 60) F hx9 ⟨by decide, by decide⟩ dX1_marginGroups_45 rfl (fun c9 => ?_) (fun c9 => ?_)
      · have w := w1 c9
        have w := w _ rfl
        refine jr_iinc (pc := 60) F (j := 3) (vs' := [(4, .inl _), (0, .inr (.inr (.inl _))), (2, .inr (.inr (.inl _))), (3, .inr (.inr (.inl _)))]) dX1_marginGroups_60 rfl rfl (Nat.le_of_ble_eq_true rfl) rfl ?_
        refine jr_goto (pc := 63) (tgt := 25) F dX1_marginGroups_63 rfl ?_
        refine jj_J.sub [1, 2, 3, 0] rfl ?_
        exact ih _ _ _ w
      · have w := w2 c9
        refine jr_aload_n (pc := 48) F (j := 1) dX1_marginGroups_48 rfl ?_
        refine jr_aload_n (pc := 49) F (j := 2) dX1_marginGroups_49 rfl ?_
        refine jr_iload (pc := 50) F (j := 3) dX1_marginGroups_50 rfl ?_
        refine jr_iald (pc := 52) F dX1_marginGroups_52 w (fun g11 w => ?_)
        refine jr_jS (pc := 53) (As := [_]) F M (lw_S q3074 q893 q140 q894) dX1_marginGroups_53 hj_J17_valueOf.2 rfl (Nat.le_of_ble_eq_true rfl) (Nat.le_of_ble_eq_true rfl) (Nat.le_of_ble_eq_true rfl) (jK_J17_valueOf J _ _ _ _ w) (fun v9 h12 k13 q9 => ?_)
        obtain ⟨r14, rfl, w⟩ := q9
        refine jr_jV (pc := 56) (As := [_]) (ci := 22) F M (lw_V q3075 q2198 q3783 q170 q2199) dX1_marginGroups_56 hj_J42_add rfl (Nat.le_of_ble_eq_true rfl) (Nat.le_of_ble_eq_true rfl) (Nat.le_of_ble_eq_true rfl) rfl (jK_J42_add J _ _ _ _ _ w) (fun v9 h15 k16 q9 => ?_)
        obtain ⟨r17, rfl, w⟩ := q9
        refine jr_pop (pc := 59) F dX1_marginGroups_59 rfl ?_
        have w := w _ rfl
        refine jr_iinc (pc := 60) F (j := 3) (vs' := [(4, .inl _), (0, .inr (.inr (.inl _))), (2, .inr (.inr (.inl _))), (3, .inr (.inr (.inl _)))]) dX1_marginGroups_60 rfl rfl (Nat.le_of_ble_eq_true rfl) rfl ?_
        refine jr_goto (pc := 63) (tgt := 25) F dX1_marginGroups_63 rfl ?_
        refine jj_J.sub [1, 2, 3, 0] rfl ?_
        exact ih _ _ _ w

theorem sC_X1_marginGroups {X : jj_X} {N : Option jj_AV → jj_H → Prop} {XN : String → Nat → jj_H → Prop} (F : jj_F X RX1 cX1_marginGroups 5) (M : jj_M X (some (.int)) 18 739 N XN) (O : jj_no X) (J : jj_GJ X.1 X.2.2.1) (hi : X.2.2.2.2.2.2.2.2.2.1.name = yX1_marginGroups.name) {Q : Int → jj_H → Prop} {E : String → Nat → jj_H → Prop} (hQ : ∀ r h, Q r h → N (some (.inl r)) h) (hE : ∀ e q h, E e q h → XN e q h) (x0 : Option Nat) (x1 : Int) : ∀ (h : jj_H) (k : Nat), fC_X1_marginGroups (jj_gk X.1) x0 x1 Q E h k → jj_J X 5 0 [(0, .inr (.inr (.inl x0))), (1, .inl x1)] [] h k := by
  intro h k w
  unfold fC_X1_marginGroups at w
  refine jr_aload_n (pc := 0) F (j := 0) dX1_marginGroups_0 rfl ?_
  refine jr_iload_n (pc := 1) F (j := 1) dX1_marginGroups_1 rfl ?_
  obtain ⟨hi9, c19, hk9, w⟩ := w
  refine jr_cV (pc := 2) (As := [_]) (ci := 1) F M (lw_V q3029 q3031 qs45 q120 q3032) dX1_marginGroups_2 hC_X1_checkPage rfl (Nat.le_of_ble_eq_true rfl) (Nat.le_of_ble_eq_true rfl) (Nat.le_of_ble_eq_true rfl) rfl hi9 hk9 (cC_X1_checkPage J w) (fun v9 h21 q9 => ?_) (fun E9 q9 h9 w9 => jr_out F M O (hE _ _ _ w9))
  obtain ⟨rfl, w⟩ := q9
  refine jr_new (pc := 5) (ci := 22) F rfl in_J42 tyJ42_ok q3033 q3034 q170 dfo_J42 rfl ⟨by decide, by decide⟩ dX1_marginGroups_5 w (fun a22 h23 k24 w => ?_)
  refine jr_dup (pc := 8) F dX1_marginGroups_8 rfl ?_
  refine jr_jI (pc := 9) (As := []) F M q3035 q3036 q170 q3037 dX1_marginGroups_9 rfl hj_J42_init.2 rfl (Nat.le_of_ble_eq_true rfl) (Nat.le_of_ble_eq_true rfl) (Nat.le_of_ble_eq_true rfl) (jK_J42_init J _ _ _ _ w) (fun v9 h25 k26 q9 => ?_)
  obtain ⟨rfl, w⟩ := q9
  refine jr_astore_n (pc := 12) F (vs' := [(2, .inr (.inr (.inl _))), (0, .inr (.inr (.inl _))), (1, .inl _)]) dX1_marginGroups_12 (Nat.le_of_ble_eq_true rfl) rfl ?_
  refine jr_aload_n (pc := 13) F (j := 1) dX1_marginGroups_13 rfl ?_
  obtain ⟨hi9, c27, hk9, w⟩ := w
  refine jr_cV (pc := 14) (As := []) (ci := 1) F M (lw_V q659 q661 qs1 q120 q662) dX1_marginGroups_14 hC_X1_view rfl (Nat.le_of_ble_eq_true rfl) (Nat.le_of_ble_eq_true rfl) (Nat.le_of_ble_eq_true rfl) rfl hi9 hk9 (cC_X1_view J w) (fun v9 h29 q9 => ?_) (fun E9 q9 h9 w9 => jr_out F M O (hE _ _ _ w9))
  obtain ⟨r28, rfl, w⟩ := q9
  refine jr_iload_n (pc := 17) F (j := 2) dX1_marginGroups_17 rfl ?_
  obtain ⟨hi9, c30, hk9, w⟩ := w
  refine jr_cV (pc := 18) (As := [_]) (ci := 8) F M (lw_V q1684 q1685 q1686 q177 q1687) dX1_marginGroups_18 hC_X10_margin rfl (Nat.le_of_ble_eq_true rfl) (Nat.le_of_ble_eq_true rfl) (Nat.le_of_ble_eq_true rfl) rfl hi9 hk9 (cC_X10_margin J w) (fun v9 h32 q9 => ?_) (fun E9 q9 h9 w9 => jr_out F M O (hE _ _ _ w9))
  obtain ⟨r31, rfl, w⟩ := q9
  refine jr_astore_n (pc := 21) F (vs' := [(3, .inr (.inr (.inl _))), (2, .inr (.inr (.inl _))), (0, .inr (.inr (.inl _))), (1, .inl _)]) dX1_marginGroups_21 (Nat.le_of_ble_eq_true rfl) rfl ?_
  refine jr_iconst (pc := 22) F dX1_marginGroups_22 ?_
  refine jr_istore (pc := 23) F (vs' := [(4, .inl _), (3, .inr (.inr (.inl _))), (2, .inr (.inr (.inl _))), (0, .inr (.inr (.inl _))), (1, .inl _)]) dX1_marginGroups_23 (Nat.le_of_ble_eq_true rfl) rfl ?_
  refine jj_J.sub [3, 2, 1, 0] rfl ?_
  obtain ⟨n9, w⟩ := w
  exact sC_X1_marginGroups_l25 F M O J hi hQ hE _ _ _ n9 _ _ _ w

theorem cC_X1_marginGroups {G : jj_G} {l : Launch} (J : jj_GJ G l) {x0 : Option Nat} {x1 : Int} {Q : Int → jj_H → Prop} {E : String → Nat → jj_H → Prop} {h : jj_H} {k : Nat} (w : fC_X1_marginGroups (jj_gk G) x0 x1 Q E h k) : jj_Ct G l yX1_marginGroups (ws_ yX1_marginGroups cX1_marginGroups 5 (some (.int))) 18 739 [.inr (.inr (.inl x0)), .inl x1] h k (jc_i Q) E := by
  refine jj_Ct.of (jK_gs J).1 (by decide +kernel) (Nat.le_of_ble_eq_true rfl) rfl (fun X hG hl F M O hnm => ?_)
  subst hG; subst hl
  exact sC_X1_marginGroups F M O J hnm (fun r h q => ⟨r, rfl, q⟩) (fun _ _ _ q => q) _ _ _ _ w
theorem hC_X1_marginGroups : yX1_marginGroups.cls = RX1 ∧ yX1_marginGroups.cls ≠ "java/lang/invoke/MethodHandle" ∧ yX1_marginGroups.cls ≠ "java/lang/invoke/VarHandle" ∧ (parseMethodDescriptor yX1_marginGroups.desc).map (fun d => d.parameters.length) = some 1 := by decide +kernel
/-! X1_marginRow(II)I -/
def fC_X1_marginRow (gk : Nat → Nat) (x0 : Option Nat) (x1 : Int) (x2 : Int) (Q : Int → jj_H → Prop) (E : String → Nat → jj_H → Prop) (h : jj_H) (k : Nat) : Prop :=
  jp_is h x0 1 ∧ ∃ c1, c1 ≤ k ∧ fC_X1_checkPage gk x0 x1 (fun h3 =>
  jp_gr h3 x0 1 0 (fun g4 =>
  jp_is h3 g4 2 ∧ fC_X2_aim gk g4 (fun r6 h7 =>
  jp_gi h7 r6 3 3 (fun g8 =>
  fC_X1_isBetween gk (jj_i2l x2) 0 (jj_i2l (g8 - 1)) (fun r10 h11 =>
  ∃ c12, c12 ≤ (k - c1) ∧ fC_X1_checkIndex gk r10 (fun h14 =>
  jp_is h14 x0 1 ∧ ∃ c15, c15 ≤ ((k - c1) - c12) ∧ fC_X1_view gk x0 (fun r16 h17 =>
  jp_is h17 r16 8 ∧ ∃ c18, c18 ≤ (((k - c1) - c12) - c15) ∧ fC_X10_margin gk r16 x1 (fun r19 h20 =>
  jp_al h20 r19 0 x2 (fun g21 =>
  Q g21 h20)) E h17 c18) E h14 c15) E h11 c12) E h7 0)) E h3 0)) E h c1
theorem sC_X1_marginRow {X : jj_X} {N : Option jj_AV → jj_H → Prop} {XN : String → Nat → jj_H → Prop} (F : jj_F X RX1 cX1_marginRow 3) (M : jj_M X (some (.int)) 18 739 N XN) (O : jj_no X) (J : jj_GJ X.1 X.2.2.1) (hi : X.2.2.2.2.2.2.2.2.2.1.name = yX1_marginRow.name) {Q : Int → jj_H → Prop} {E : String → Nat → jj_H → Prop} (hQ : ∀ r h, Q r h → N (some (.inl r)) h) (hE : ∀ e q h, E e q h → XN e q h) (x0 : Option Nat) (x1 : Int) (x2 : Int) : ∀ (h : jj_H) (k : Nat), fC_X1_marginRow (jj_gk X.1) x0 x1 x2 Q E h k → jj_J X 3 0 [(0, .inr (.inr (.inl x0))), (1, .inl x1), (2, .inl x2)] [] h k := by
  intro h k w
  unfold fC_X1_marginRow at w
  refine jr_aload_n (pc := 0) F (j := 0) dX1_marginRow_0 rfl ?_
  refine jr_iload_n (pc := 1) F (j := 1) dX1_marginRow_1 rfl ?_
  obtain ⟨hi9, c1, hk9, w⟩ := w
  refine jr_cV (pc := 2) (As := [_]) (ci := 1) F M (lw_V q3029 q3031 qs45 q120 q3032) dX1_marginRow_2 hC_X1_checkPage rfl (Nat.le_of_ble_eq_true rfl) (Nat.le_of_ble_eq_true rfl) (Nat.le_of_ble_eq_true rfl) rfl hi9 hk9 (cC_X1_checkPage J w) (fun v9 h3 q9 => ?_) (fun E9 q9 h9 w9 => jr_out F M O (hE _ _ _ w9))
  obtain ⟨rfl, w⟩ := q9
  refine jr_iload_n (pc := 5) F (j := 2) dX1_marginRow_5 rfl ?_
  refine jr_i2l (pc := 6) F dX1_marginRow_6 ?_
  refine jr_lconst (pc := 7) F (x := 0) dX1_marginRow_7 (by decide +kernel) ?_
  refine jr_aload_n (pc := 8) F (j := 0) dX1_marginRow_8 rfl ?_
  refine jr_gr (pc := 9) (ci := 1) (f := 0) F rfl in_X1 (Nat.le_of_ble_eq_true rfl) q625 dX1_marginRow_9 w (fun g4 w => ?_)
  obtain ⟨hi9, w⟩ := w
  refine jr_cV (pc := 12) (As := []) (ci := 2) F M (lw_V q1651 q696 q697 q121 q698) dX1_marginRow_12 hC_X2_aim rfl (Nat.le_of_ble_eq_true rfl) (Nat.le_of_ble_eq_true rfl) (Nat.le_of_ble_eq_true rfl) rfl hi9 (Nat.zero_le _) (cC_X2_aim J w) (fun v9 h7 q9 => ?_) (fun E9 q9 h9 w9 => jr_out F M O (hE _ _ _ w9))
  obtain ⟨r6, rfl, w⟩ := q9
  refine jr_giN (pc := 15) (ci := 3) (f := 3) F rfl in_X5 (Nat.le_of_ble_eq_true rfl) q1870 dX1_marginRow_15 w (fun g8 w => ?_)
  refine jr_iconst (pc := 18) F dX1_marginRow_18 ?_
  refine jr_isub (pc := 19) F dX1_marginRow_19 ?_
  refine jr_i2l (pc := 20) F dX1_marginRow_20 ?_
  refine jr_callS (pc := 21) (As := [_, _, _]) F M (lw_S q2630 q1678 q120 q1679) dX1_marginRow_21 hC_X1_isBetween.2 rfl (Nat.le_of_ble_eq_true rfl) (Nat.le_of_ble_eq_true rfl) (Nat.le_of_ble_eq_true rfl) (Nat.zero_le _) (cC_X1_isBetween J w) (fun v9 h11 q9 => ?_) (fun E9 q9 h9 w9 => jr_out F M O (hE _ _ _ w9))
  obtain ⟨r10, rfl, w⟩ := q9
  obtain ⟨c12, hk9, w⟩ := w
  refine jr_callS (pc := 24) (As := [_]) F M (lw_S q2782 q2783 q120 q2784) dX1_marginRow_24 hC_X1_checkIndex.2 rfl (Nat.le_of_ble_eq_true rfl) (Nat.le_of_ble_eq_true rfl) (Nat.le_of_ble_eq_true rfl) hk9 (cC_X1_checkIndex J w) (fun v9 h14 q9 => ?_) (fun E9 q9 h9 w9 => jr_out F M O (hE _ _ _ w9))
  obtain ⟨rfl, w⟩ := q9
  refine jr_aload_n (pc := 27) F (j := 0) dX1_marginRow_27 rfl ?_
  obtain ⟨hi9, c15, hk9, w⟩ := w
  refine jr_cV (pc := 28) (As := []) (ci := 1) F M (lw_V q659 q661 qs1 q120 q662) dX1_marginRow_28 hC_X1_view rfl (Nat.le_of_ble_eq_true rfl) (Nat.le_of_ble_eq_true rfl) (Nat.le_of_ble_eq_true rfl) rfl hi9 hk9 (cC_X1_view J w) (fun v9 h17 q9 => ?_) (fun E9 q9 h9 w9 => jr_out F M O (hE _ _ _ w9))
  obtain ⟨r16, rfl, w⟩ := q9
  refine jr_iload_n (pc := 31) F (j := 1) dX1_marginRow_31 rfl ?_
  obtain ⟨hi9, c18, hk9, w⟩ := w
  refine jr_cV (pc := 32) (As := [_]) (ci := 8) F M (lw_V q1684 q1685 q1686 q177 q1687) dX1_marginRow_32 hC_X10_margin rfl (Nat.le_of_ble_eq_true rfl) (Nat.le_of_ble_eq_true rfl) (Nat.le_of_ble_eq_true rfl) rfl hi9 hk9 (cC_X10_margin J w) (fun v9 h20 q9 => ?_) (fun E9 q9 h9 w9 => jr_out F M O (hE _ _ _ w9))
  obtain ⟨r19, rfl, w⟩ := q9
  refine jr_iload_n (pc := 35) F (j := 2) dX1_marginRow_35 rfl ?_
  refine jr_iald (pc := 36) F dX1_marginRow_36 w (fun g21 w => ?_)
  exact jr_iret (pc := 37) F M dX1_marginRow_37 (hQ _ _ w)

theorem cC_X1_marginRow {G : jj_G} {l : Launch} (J : jj_GJ G l) {x0 : Option Nat} {x1 : Int} {x2 : Int} {Q : Int → jj_H → Prop} {E : String → Nat → jj_H → Prop} {h : jj_H} {k : Nat} (w : fC_X1_marginRow (jj_gk G) x0 x1 x2 Q E h k) : jj_Ct G l yX1_marginRow (ws_ yX1_marginRow cX1_marginRow 3 (some (.int))) 18 739 [.inr (.inr (.inl x0)), .inl x1, .inl x2] h k (jc_i Q) E := by
  refine jj_Ct.of (jK_gs J).1 (by decide +kernel) (Nat.le_of_ble_eq_true rfl) rfl (fun X hG hl F M O hnm => ?_)
  subst hG; subst hl
  exact sC_X1_marginRow F M O J hnm (fun r h q => ⟨r, rfl, q⟩) (fun _ _ _ q => q) _ _ _ _ _ w
theorem hC_X1_marginRow : yX1_marginRow.cls = RX1 ∧ yX1_marginRow.cls ≠ "java/lang/invoke/MethodHandle" ∧ yX1_marginRow.cls ≠ "java/lang/invoke/VarHandle" ∧ (parseMethodDescriptor yX1_marginRow.desc).map (fun d => d.parameters.length) = some 2 := by decide +kernel
/-! X1_write(I)I -/
def fC_X1_write_l199 (gk : Nat → Nat) (x0 : Option Nat) (x4 : Option Nat) (Q : Int → jj_H → Prop) (E : String → Nat → jj_H → Prop) : Nat → jj_H → Nat → Prop
  | 0, _, _ => False
  | n + 1, h, k =>
  jq_J21_hasNext x4 (fun r3 h1 k2 =>
  jj_r r3 ∧ (r3 = 0 → (
    jp_gr h1 x0 1 5 (fun g4 =>
    jq_J8_length g4 (fun r7 h5 k6 =>
    Q r7 h5) h1 k2))) ∧
  (¬ r3 = 0 → (
    jq_J21_next x4 (fun r10 h8 k9 =>
    jp_is h8 r10 25 ∧
    jp_gr h8 x0 1 5 (fun g11 =>
    jq_J8_append_3 g11 32 (fun r14 h12 k13 =>
    jq_J8_append r14 r10 (fun r17 h15 k16 =>
    fC_X1_write_l199 gk x0 x4 Q E n h15 k16) h12 k13) h8 k9)) h1 k2))) h k
def fC_X1_write_j190 (gk : Nat → Nat) (x0 : Option Nat) (x3 : Option Nat) (Q : Int → jj_H → Prop) (E : String → Nat → jj_H → Prop) (h : jj_H) (k : Nat) : Prop :=
  jp_gr h x3 4 3 (fun g18 =>
  jq_J2_iterator g18 (fun r21 h19 k20 =>
  ∃ n9, fC_X1_write_l199 gk x0 r21 Q E n9 h19 k20) h k)
def fC_X1_write_j170 (gk : Nat → Nat) (x0 : Option Nat) (x3 : Option Nat) (Q : Int → jj_H → Prop) (E : String → Nat → jj_H → Prop) (h : jj_H) (k : Nat) : Prop :=
  jp_gr h x3 4 3 (fun g22 =>
  jq_J2_isEmpty g22 (fun r25 h23 k24 =>
  jj_r r25 ∧ (¬ r25 = 0 → (
    fC_X1_write_j190 gk x0 x3 Q E h23 k24)) ∧
  (r25 = 0 → (
    jp_gr h23 x0 1 5 (fun g26 =>
    jq_J8_append_3 g26 58 (fun r29 h27 k28 =>
    fC_X1_write_j190 gk x0 x3 Q E h27 k28) h23 k24)))) h k)
def fC_X1_write_l118 (gk : Nat → Nat) (x0 : Option Nat) (x2 : Option Nat) (x3 : Option Nat) (Q : Int → jj_H → Prop) (E : String → Nat → jj_H → Prop) : Nat → Int → jj_H → Nat → Prop
  | 0, _, _, _ => False
  | n + 1, x4, h, k =>
  jj_r x4 ∧ (x4 = (-1) → (
    fC_X1_write_j170 gk x0 x3 Q E h k)) ∧
  (¬ x4 = (-1) → (
    jp_gi h x2 7 4 (fun g30 =>
    jj_r x4 ∧ jj_r g30 ∧ (g30 < x4 → (
      fC_X1_write_j170 gk x0 x3 Q E h k)) ∧
    (¬ g30 < x4 → (
      jp_gr h x0 1 5 (fun g31 =>
      jq_J8_append_3 g31 32 (fun r34 h32 k33 =>
      jp_gr h32 x0 1 0 (fun g35 =>
      jp_is h32 g35 2 ∧ fC_X2_aim gk g35 (fun r37 h38 =>
      jp_gr h38 r37 3 0 (fun g39 =>
      jq_J2_get g39 x4 (fun r42 h40 k41 =>
      jp_is h40 r42 25 ∧
      jq_J8_append r34 r42 (fun r45 h43 k44 =>
      ∀ v46, v46 = x4 + 1 →
      fC_X1_write_l118 gk x0 x2 x3 Q E n v46 h43 k44) h40 k41) h38 k33)) E h32 0)) h k))))))
def fC_X1_write_l16 (gk : Nat → Nat) (x0 : Option Nat) (x2 : Option Nat) (Q : Int → jj_H → Prop) (E : String → Nat → jj_H → Prop) : Nat → Int → jj_H → Nat → Prop
  | 0, _, _, _ => False
  | n + 1, x3, h, k =>
  jp_gr h x0 1 0 (fun g47 =>
  jp_gr h g47 2 2 (fun g48 =>
  jq_J2_size g48 (fun r51 h49 k50 =>
  jj_r x3 ∧ jj_r r51 ∧ (r51 ≤ x3 → (
    jp_gr h49 x0 1 0 (fun g52 =>
    jp_gr h49 g52 2 1 (fun g53 =>
    jp_gi h49 x2 7 5 (fun g54 =>
    jq_J2_get g53 g54 (fun r57 h55 k56 =>
    jp_is h55 r57 4 ∧
    jp_gr h55 x0 1 5 (fun g58 =>
    jq_X9_values gk (fun r61 h59 k60 =>
    jp_gi h59 r57 4 1 (fun g62 =>
    jp_rl h59 r61 5 g62 (fun g63 =>
    jq_word g63 (fun r64 h65 k66 =>
    jq_J8_append g58 r64 (fun r69 h67 k68 =>
    jp_gi h67 x2 7 3 (fun g70 =>
    ∃ n9, fC_X1_write_l118 gk x0 x2 r57 Q E n9 g70 h67 k68)) h65 k66) h59 k60))) h55 k56)) h49 k50))))) ∧
  (¬ r51 ≤ x3 → (
    jp_gi h49 x2 7 2 (fun g71 =>
    jj_r (jj_and (jj_shr g71 x3) 1) ∧ (¬ (jj_and (jj_shr g71 x3) 1) = 1 → (
      ∀ v72, v72 = x3 + 1 →
      fC_X1_write_l16 gk x0 x2 Q E n v72 h49 k50)) ∧
    ((jj_and (jj_shr g71 x3) 1) = 1 → (
      jp_gr h49 x0 1 5 (fun g73 =>
      jp_gr h49 x0 1 0 (fun g74 =>
      jp_gr h49 g74 2 2 (fun g75 =>
      jq_J2_get g75 x3 (fun r78 h76 k77 =>
      jp_is h76 r78 25 ∧
      jq_J8_append g73 r78 (fun r81 h79 k80 =>
      jq_J8_append_3 r81 32 (fun r84 h82 k83 =>
      ∀ v85, v85 = x3 + 1 →
      fC_X1_write_l16 gk x0 x2 Q E n v85 h82 k83) h79 k80) h76 k77) h49 k50))))))))) h k))
def fC_X1_write (gk : Nat → Nat) (x0 : Option Nat) (x1 : Int) (Q : Int → jj_H → Prop) (E : String → Nat → jj_H → Prop) (h : jj_H) (k : Nat) : Prop :=
  jp_is h x0 1 ∧ ∃ c86, c86 ≤ k ∧ fC_X1_groupAt gk x0 x1 (fun r87 h88 =>
  jp_gr h88 x0 1 5 (fun g89 =>
  jq_J8_setLength g89 0 (fun h90 k91 =>
  ∃ n9, fC_X1_write_l16 gk x0 r87 Q E n9 0 h90 k91) h88 (k - c86))) E h c86
theorem sC_X1_write_l199 {X : jj_X} {N : Option jj_AV → jj_H → Prop} {XN : String → Nat → jj_H → Prop} (F : jj_F X RX1 cX1_write 6) (M : jj_M X (some (.int)) 19 760 N XN) (O : jj_no X) (J : jj_GJ X.1 X.2.2.1) (hi : X.2.2.2.2.2.2.2.2.2.1.name = yX1_write.name) {Q : Int → jj_H → Prop} {E : String → Nat → jj_H → Prop} (hQ : ∀ r h, Q r h → N (some (.inl r)) h) (hE : ∀ e q h, E e q h → XN e q h) (x0 : Option Nat) (x4 : Option Nat) : ∀ (n : Nat) (h : jj_H) (k : Nat), fC_X1_write_l199 (jj_gk X.1) x0 x4 Q E n h k → jj_J X 6 199 [(0, .inr (.inr (.inl x0))), (4, .inr (.inr (.inl x4)))] [] h k := by
  intro n
  induction n with
  | zero =>
    intro  h k w
    exact (show False from w).elim
  | succ n ih =>
    intro  h k w
    rw [fC_X1_write_l199] at w
    refine jr_aload (pc := 199) F (j := 1) dX1_write_199 rfl ?_
    refine jr_jF (pc := 201) (As := []) (ci := 15) F M (fw_J21_hasNext q1639) (jK_f_J21_hasNext J) dX1_write_201 (by decide +kernel) rfl (Nat.le_of_ble_eq_true rfl) (Nat.le_of_ble_eq_true rfl) (Nat.le_of_ble_eq_true rfl) rfl (jK_J21_hasNext J _ _ _ _ w) (fun v9 h1 k2 q9 => ?_)
    obtain ⟨r3, rfl, w⟩ := q9
    obtain ⟨hx9, w1, w2⟩ := w
    refine jr_if_eq (pc := 206) (tgt := 239) F hx9 dX1_write_206 rfl (fun c9 => ?_) (fun c9 => ?_)
    · have w := w1 c9
      refine jr_aload_n (pc := 239) F (j := 0) dX1_write_239 rfl ?_
      refine jr_gr (pc := 240) (ci := 1) (f := 5) F rfl in_X1 (Nat.le_of_ble_eq_true rfl) q631 dX1_write_240 w (fun g4 w => ?_)
      refine jr_jV (pc := 243) (As := []) (ci := 26) F M (lw_V q2673 q463 q3781 q130 q464) dX1_write_243 hj_J8_length rfl (Nat.le_of_ble_eq_true rfl) (Nat.le_of_ble_eq_true rfl) (Nat.le_of_ble_eq_true rfl) rfl (jK_J8_length J _ _ _ _ w) (fun v9 h5 k6 q9 => ?_)
      obtain ⟨r7, rfl, w⟩ := q9
      exact jr_iret (pc := 246) F M dX1_write_246 (hQ _ _ w)
    · have w := w2 c9
      refine jr_aload (pc := 209) F (j := 1) dX1_write_209 rfl ?_
      refine jr_jF (pc := 211) (As := []) (ci := 15) F M (fw_J21_next q1641) (jK_f_J21_next J) dX1_write_211 (by decide +kernel) rfl (Nat.le_of_ble_eq_true rfl) (Nat.le_of_ble_eq_true rfl) (Nat.le_of_ble_eq_true rfl) rfl (jK_J21_next J _ _ _ _ w) (fun v9 h8 k9 q9 => ?_)
      obtain ⟨r10, rfl, w⟩ := q9
      obtain ⟨hi9, w⟩ := w
      refine jr_cast (pc := 216) (ci := 25) F rfl q2761 dX1_write_216 hi9 ?_
      refine jr_astore (pc := 219) F (vs' := [(5, .inr (.inr (.inl _))), (0, .inr (.inr (.inl _))), (4, .inr (.inr (.inl _)))]) dX1_write_219 (Nat.le_of_ble_eq_true rfl) rfl ?_
      refine jr_aload_n (pc := 221) F (j := 1) dX1_write_221 rfl ?_
      refine jr_gr (pc := 222) (ci := 1) (f := 5) F rfl in_X1 (Nat.le_of_ble_eq_true rfl) q631 dX1_write_222 w (fun g11 w => ?_)
      refine jr_bipush (pc := 225) F dX1_write_225 (by decide +kernel) ?_
      refine jr_jV (pc := 227) (As := [_]) (ci := 26) F M (lw_V q2671 q2364 q2365 q130 q2366) dX1_write_227 hj_J8_append_3 rfl (Nat.le_of_ble_eq_true rfl) (Nat.le_of_ble_eq_true rfl) (Nat.le_of_ble_eq_true rfl) rfl (jK_J8_append_3 J _ _ _ _ _ w) (fun v9 h12 k13 q9 => ?_)
      obtain ⟨r14, rfl, w⟩ := q9
      refine jr_aload (pc := 230) F (j := 0) dX1_write_230 rfl ?_
      refine jr_jV (pc := 232) (As := [_]) (ci := 26) F M (lw_V q3091 q297 q298 q130 q299) dX1_write_232 hj_J8_append rfl (Nat.le_of_ble_eq_true rfl) (Nat.le_of_ble_eq_true rfl) (Nat.le_of_ble_eq_true rfl) rfl (jK_J8_append J _ _ _ _ _ w) (fun v9 h15 k16 q9 => ?_)
      obtain ⟨r17, rfl, w⟩ := q9
      refine jr_pop (pc := 235) F dX1_write_235 rfl ?_
      refine jr_goto (pc := 236) (tgt := 199) F dX1_write_236 rfl ?_
      refine jj_J.sub [1, 2] rfl ?_
      exact ih _ _ w

theorem sC_X1_write_j190 {X : jj_X} {N : Option jj_AV → jj_H → Prop} {XN : String → Nat → jj_H → Prop} (F : jj_F X RX1 cX1_write 6) (M : jj_M X (some (.int)) 19 760 N XN) (O : jj_no X) (J : jj_GJ X.1 X.2.2.1) (hi : X.2.2.2.2.2.2.2.2.2.1.name = yX1_write.name) {Q : Int → jj_H → Prop} {E : String → Nat → jj_H → Prop} (hQ : ∀ r h, Q r h → N (some (.inl r)) h) (hE : ∀ e q h, E e q h → XN e q h) (x0 : Option Nat) (x3 : Option Nat) : ∀ (h : jj_H) (k : Nat), fC_X1_write_j190 (jj_gk X.1) x0 x3 Q E h k → jj_J X 6 190 [(0, .inr (.inr (.inl x0))), (3, .inr (.inr (.inl x3)))] [] h k := by
  intro h k w
  unfold fC_X1_write_j190 at w
  refine jr_aload_n (pc := 190) F (j := 1) dX1_write_190 rfl ?_
  refine jr_grN (pc := 191) (ci := 4) (f := 3) F rfl in_X6 (Nat.le_of_ble_eq_true rfl) q2306 dX1_write_191 w (fun g18 w => ?_)
  refine jr_jV (pc := 194) (As := []) (ci := 14) F M (lw_V q1615 q1616 q1617 q124 q1618) dX1_write_194 hj_J2_iterator rfl (Nat.le_of_ble_eq_true rfl) (Nat.le_of_ble_eq_true rfl) (Nat.le_of_ble_eq_true rfl) rfl (jK_J2_iterator J _ _ _ _ w) (fun v9 h19 k20 q9 => ?_)
  obtain ⟨r21, rfl, w⟩ := q9
  refine jr_astore (pc := 197) F (vs' := [(4, .inr (.inr (.inl _))), (0, .inr (.inr (.inl _))), (3, .inr (.inr (.inl _)))]) dX1_write_197 (Nat.le_of_ble_eq_true rfl) rfl ?_
  refine jj_J.sub [1, 0] rfl ?_
  obtain ⟨n9, w⟩ := w
  exact sC_X1_write_l199 F M O J hi hQ hE _ _ n9 _ _ w

theorem sC_X1_write_j170 {X : jj_X} {N : Option jj_AV → jj_H → Prop} {XN : String → Nat → jj_H → Prop} (F : jj_F X RX1 cX1_write 6) (M : jj_M X (some (.int)) 19 760 N XN) (O : jj_no X) (J : jj_GJ X.1 X.2.2.1) (hi : X.2.2.2.2.2.2.2.2.2.1.name = yX1_write.name) {Q : Int → jj_H → Prop} {E : String → Nat → jj_H → Prop} (hQ : ∀ r h, Q r h → N (some (.inl r)) h) (hE : ∀ e q h, E e q h → XN e q h) (x0 : Option Nat) (x3 : Option Nat) : ∀ (h : jj_H) (k : Nat), fC_X1_write_j170 (jj_gk X.1) x0 x3 Q E h k → jj_J X 6 170 [(0, .inr (.inr (.inl x0))), (3, .inr (.inr (.inl x3)))] [] h k := by
  intro h k w
  unfold fC_X1_write_j170 at w
  refine jr_aload_n (pc := 170) F (j := 1) dX1_write_170 rfl ?_
  refine jr_grN (pc := 171) (ci := 4) (f := 3) F rfl in_X6 (Nat.le_of_ble_eq_true rfl) q2306 dX1_write_171 w (fun g22 w => ?_)
  refine jr_jV (pc := 174) (As := []) (ci := 14) F M (lw_V q655 q656 q657 q124 q658) dX1_write_174 hj_J2_isEmpty rfl (Nat.le_of_ble_eq_true rfl) (Nat.le_of_ble_eq_true rfl) (Nat.le_of_ble_eq_true rfl) rfl (jK_J2_isEmpty J _ _ _ _ w) (fun v9 h23 k24 q9 => ?_)
  obtain ⟨r25, rfl, w⟩ := q9
  obtain ⟨hx9, w1, w2⟩ := w
  refine jr_if_ne (pc := 177) (tgt := 190) F hx9 dX1_write_177 rfl (fun c9 => ?_) (fun c9 => ?_)
  · have w := w1 c9
    exact sC_X1_write_j190 F M O J hi hQ hE _ _ _ _ w
  · have w := w2 c9
    refine jr_aload_n (pc := 180) F (j := 0) dX1_write_180 rfl ?_
    refine jr_gr (pc := 181) (ci := 1) (f := 5) F rfl in_X1 (Nat.le_of_ble_eq_true rfl) q631 dX1_write_181 w (fun g26 w => ?_)
    refine jr_bipush (pc := 184) F dX1_write_184 (by decide +kernel) ?_
    refine jr_jV (pc := 186) (As := [_]) (ci := 26) F M (lw_V q2671 q2364 q2365 q130 q2366) dX1_write_186 hj_J8_append_3 rfl (Nat.le_of_ble_eq_true rfl) (Nat.le_of_ble_eq_true rfl) (Nat.le_of_ble_eq_true rfl) rfl (jK_J8_append_3 J _ _ _ _ _ w) (fun v9 h27 k28 q9 => ?_)
    obtain ⟨r29, rfl, w⟩ := q9
    refine jr_pop (pc := 189) F dX1_write_189 rfl ?_
    exact sC_X1_write_j190 F M O J hi hQ hE _ _ _ _ w

theorem sC_X1_write_l118 {X : jj_X} {N : Option jj_AV → jj_H → Prop} {XN : String → Nat → jj_H → Prop} (F : jj_F X RX1 cX1_write 6) (M : jj_M X (some (.int)) 19 760 N XN) (O : jj_no X) (J : jj_GJ X.1 X.2.2.1) (hi : X.2.2.2.2.2.2.2.2.2.1.name = yX1_write.name) {Q : Int → jj_H → Prop} {E : String → Nat → jj_H → Prop} (hQ : ∀ r h, Q r h → N (some (.inl r)) h) (hE : ∀ e q h, E e q h → XN e q h) (x0 : Option Nat) (x2 : Option Nat) (x3 : Option Nat) : ∀ (n : Nat) (x4 : Int) (h : jj_H) (k : Nat), fC_X1_write_l118 (jj_gk X.1) x0 x2 x3 Q E n x4 h k → jj_J X 6 118 [(0, .inr (.inr (.inl x0))), (2, .inr (.inr (.inl x2))), (3, .inr (.inr (.inl x3))), (4, .inl x4)] [] h k := by
  intro n
  induction n with
  | zero =>
    intro x4 h k w
    exact (show False from w).elim
  | succ n ih =>
    intro x4 h k w
    rw [fC_X1_write_l118] at w
    refine jr_iload (pc := 118) F (j := 3) dX1_write_118 rfl ?_
    refine jr_iconst (pc := 120) F dX1_write_120 ?_
    obtain ⟨hx9, w1, w2⟩ := w
    refine jr_icmp_eq (pc := 121) (tgt := 170) F hx9 ⟨by decide, by decide⟩ dX1_write_121 rfl (fun c9 => ?_) (fun c9 => ?_)
    · have w := w1 c9
      refine jj_J.sub [0, 2] rfl ?_
      exact sC_X1_write_j170 F M O J hi hQ hE _ _ _ _ w
    · have w := w2 c9
      refine jr_iload (pc := 124) F (j := 3) dX1_write_124 rfl ?_
      refine jr_aload_n (pc := 126) F (j := 1) dX1_write_126 rfl ?_
      refine jr_giN (pc := 127) (ci := 7) (f := 4) F rfl in_X13 (Nat.le_of_ble_eq_true rfl) q802 dX1_write_127 w (fun g30 w => ?_)
      obtain ⟨hx9, hy9, w1, w2⟩ := w
      refine jr_icmp_gt (pc := 130) (tgt := 170) F hx9 hy9 dX1_write_130 rfl (fun c9 => ?_) (fun c9 => ?_)
      · have w := w1 c9
        refine jj_J.sub [0, 2] rfl ?_
        exact sC_X1_write_j170 F M O J hi hQ hE _ _ _ _ w
      · have w := w2 c9
        refine jr_aload_n (pc := 133) F (j := 0) dX1_write_133 rfl ?_
        refine jr_gr (pc := 134) (ci := 1) (f := 5) F rfl in_X1 (Nat.le_of_ble_eq_true rfl) q631 dX1_write_134 w (fun g31 w => ?_)
        refine jr_bipush (pc := 137) F dX1_write_137 (by decide +kernel) ?_
        refine jr_jV (pc := 139) (As := [_]) (ci := 26) F M (lw_V q2671 q2364 q2365 q130 q2366) dX1_write_139 hj_J8_append_3 rfl (Nat.le_of_ble_eq_true rfl) (Nat.le_of_ble_eq_true rfl) (Nat.le_of_ble_eq_true rfl) rfl (jK_J8_append_3 J _ _ _ _ _ w) (fun v9 h32 k33 q9 => ?_)
        obtain ⟨r34, rfl, w⟩ := q9
        refine jr_aload_n (pc := 142) F (j := 0) dX1_write_142 rfl ?_
        refine jr_gr (pc := 143) (ci := 1) (f := 0) F rfl in_X1 (Nat.le_of_ble_eq_true rfl) q625 dX1_write_143 w (fun g35 w => ?_)
        obtain ⟨hi9, w⟩ := w
        refine jr_cV (pc := 146) (As := []) (ci := 2) F M (lw_V q1651 q696 q697 q121 q698) dX1_write_146 hC_X2_aim rfl (Nat.le_of_ble_eq_true rfl) (Nat.le_of_ble_eq_true rfl) (Nat.le_of_ble_eq_true rfl) rfl hi9 (Nat.zero_le _) (cC_X2_aim J w) (fun v9 h38 q9 => ?_) (fun E9 q9 h9 w9 => jr_out F M O (hE _ _ _ w9))
        obtain ⟨r37, rfl, w⟩ := q9
        refine jr_grN (pc := 149) (ci := 3) (f := 0) F rfl in_X5 (Nat.le_of_ble_eq_true rfl) q1863 dX1_write_149 w (fun g39 w => ?_)
        refine jr_iload (pc := 152) F (j := 3) dX1_write_152 rfl ?_
        refine jr_jV (pc := 154) (As := [_]) (ci := 14) F M (lw_V q1613 q681 q682 q124 q683) dX1_write_154 hj_J2_get rfl (Nat.le_of_ble_eq_true rfl) (Nat.le_of_ble_eq_true rfl) (Nat.le_of_ble_eq_true rfl) rfl (jK_J2_get J _ _ _ _ _ w) (fun v9 h40 k41 q9 => ?_)
        obtain ⟨r42, rfl, w⟩ := q9
        obtain ⟨hi9, w⟩ := w
        refine jr_cast (pc := 157) (ci := 25) F rfl q2761 dX1_write_157 hi9 ?_
        refine jr_jV (pc := 160) (As := [_]) (ci := 26) F M (lw_V q3091 q297 q298 q130 q299) dX1_write_160 hj_J8_append rfl (Nat.le_of_ble_eq_true rfl) (Nat.le_of_ble_eq_true rfl) (Nat.le_of_ble_eq_true rfl) rfl (jK_J8_append J _ _ _ _ _ w) (fun v9 h43 k44 q9 => ?_)
        obtain ⟨r45, rfl, w⟩ := q9
        refine jr_pop (pc := 163) F dX1_write_163 rfl ?_
        have w := w _ rfl
        refine jr_iinc (pc := 164) F (j := 3) (vs' := [(4, .inl _), (0, .inr (.inr (.inl _))), (2, .inr (.inr (.inl _))), (3, .inr (.inr (.inl _)))]) dX1_write_164 rfl rfl (Nat.le_of_ble_eq_true rfl) rfl ?_
        refine jr_goto (pc := 167) (tgt := 118) F dX1_write_167 rfl ?_
        refine jj_J.sub [1, 2, 3, 0] rfl ?_
        exact ih _ _ _ w

theorem sC_X1_write_l16 {X : jj_X} {N : Option jj_AV → jj_H → Prop} {XN : String → Nat → jj_H → Prop} (F : jj_F X RX1 cX1_write 6) (M : jj_M X (some (.int)) 19 760 N XN) (O : jj_no X) (J : jj_GJ X.1 X.2.2.1) (hi : X.2.2.2.2.2.2.2.2.2.1.name = yX1_write.name) {Q : Int → jj_H → Prop} {E : String → Nat → jj_H → Prop} (hQ : ∀ r h, Q r h → N (some (.inl r)) h) (hE : ∀ e q h, E e q h → XN e q h) (x0 : Option Nat) (x2 : Option Nat) : ∀ (n : Nat) (x3 : Int) (h : jj_H) (k : Nat), fC_X1_write_l16 (jj_gk X.1) x0 x2 Q E n x3 h k → jj_J X 6 16 [(0, .inr (.inr (.inl x0))), (2, .inr (.inr (.inl x2))), (3, .inl x3)] [] h k := by
  intro n
  induction n with
  | zero =>
    intro x3 h k w
    exact (show False from w).elim
  | succ n ih =>
    intro x3 h k w
    rw [fC_X1_write_l16] at w
    refine jr_iload_n (pc := 16) F (j := 2) dX1_write_16 rfl ?_
    refine jr_aload_n (pc := 17) F (j := 0) dX1_write_17 rfl ?_
    refine jr_gr (pc := 18) (ci := 1) (f := 0) F rfl in_X1 (Nat.le_of_ble_eq_true rfl) q625 dX1_write_18 w (fun g47 w => ?_)
    refine jr_grN (pc := 21) (ci := 2) (f := 2) F rfl in_X2 (Nat.le_of_ble_eq_true rfl) q599 dX1_write_21 w (fun g48 w => ?_)
    refine jr_jV (pc := 24) (As := []) (ci := 14) F M (lw_V q1646 q676 q677 q124 q678) dX1_write_24 hj_J2_size rfl (Nat.le_of_ble_eq_true rfl) (Nat.le_of_ble_eq_true rfl) (Nat.le_of_ble_eq_true rfl) rfl (jK_J2_size J _ _ _ _ w) (fun v9 h49 k50 q9 => ?_)
    obtain ⟨r51, rfl, w⟩ := q9
    obtain ⟨hx9, hy9, w1, w2⟩ := w
    refine jr_icmp_ge (pc := 27) (tgt := 75) F hx9 hy9 dX1_write_27 rfl (fun c9 => ?_) (fun c9 => ?_)
    · have w := w1 c9
      refine jr_aload_n (pc := 75) F (j := 0) dX1_write_75 rfl ?_
      refine jr_gr (pc := 76) (ci := 1) (f := 0) F rfl in_X1 (Nat.le_of_ble_eq_true rfl) q625 dX1_write_76 w (fun g52 w => ?_)
      refine jr_grN (pc := 79) (ci := 2) (f := 1) F rfl in_X2 (Nat.le_of_ble_eq_true rfl) q596 dX1_write_79 w (fun g53 w => ?_)
      refine jr_aload_n (pc := 82) F (j := 1) dX1_write_82 rfl ?_
      refine jr_giN (pc := 83) (ci := 7) (f := 5) F rfl in_X13 (Nat.le_of_ble_eq_true rfl) q805 dX1_write_83 w (fun g54 w => ?_)
      refine jr_jV (pc := 86) (As := [_]) (ci := 14) F M (lw_V q1613 q681 q682 q124 q683) dX1_write_86 hj_J2_get rfl (Nat.le_of_ble_eq_true rfl) (Nat.le_of_ble_eq_true rfl) (Nat.le_of_ble_eq_true rfl) rfl (jK_J2_get J _ _ _ _ _ w) (fun v9 h55 k56 q9 => ?_)
      obtain ⟨r57, rfl, w⟩ := q9
      obtain ⟨hi9, w⟩ := w
      refine jr_cast (pc := 89) (ci := 4) F rfl q2875 dX1_write_89 hi9 ?_
      refine jr_astore_n (pc := 92) F (vs' := [(3, .inr (.inr (.inl _))), (0, .inr (.inr (.inl _))), (2, .inr (.inr (.inl _)))]) dX1_write_92 (Nat.le_of_ble_eq_true rfl) rfl ?_
      refine jr_aload_n (pc := 93) F (j := 1) dX1_write_93 rfl ?_
      refine jr_gr (pc := 94) (ci := 1) (f := 5) F rfl in_X1 (Nat.le_of_ble_eq_true rfl) q631 dX1_write_94 w (fun g58 w => ?_)
      refine jr_jS (pc := 97) (As := []) F M (lw_S q3092 q2531 q176 q2532) dX1_write_97 hj_X9_values.2 rfl (Nat.le_of_ble_eq_true rfl) (Nat.le_of_ble_eq_true rfl) (Nat.le_of_ble_eq_true rfl) (jK_X9_values J _ _ _ w) (fun v9 h59 k60 q9 => ?_)
      obtain ⟨r61, rfl, w⟩ := q9
      refine jr_aload_n (pc := 100) F (j := 0) dX1_write_100 rfl ?_
      refine jr_giN (pc := 101) (ci := 4) (f := 1) F rfl in_X6 (Nat.le_of_ble_eq_true rfl) q2299 dX1_write_101 w (fun g62 w => ?_)
      refine jr_aald (pc := 104) F ⟨9, _, fun _ => rfl⟩ dX1_write_104 w (fun g63 w => ?_)
      refine jK_word J X _ _ _ 105 _ _ _ _ _ _ _ _ rfl F q3855 dX1_write_105 w (fun r64 h65 k66 w => ?_)
      refine jr_jV (pc := 108) (As := [_]) (ci := 26) F M (lw_V q3091 q297 q298 q130 q299) dX1_write_108 hj_J8_append rfl (Nat.le_of_ble_eq_true rfl) (Nat.le_of_ble_eq_true rfl) (Nat.le_of_ble_eq_true rfl) rfl (jK_J8_append J _ _ _ _ _ w) (fun v9 h67 k68 q9 => ?_)
      obtain ⟨r69, rfl, w⟩ := q9
      refine jr_pop (pc := 111) F dX1_write_111 rfl ?_
      refine jr_aload_n (pc := 112) F (j := 2) dX1_write_112 rfl ?_
      refine jr_giN (pc := 113) (ci := 7) (f := 3) F rfl in_X13 (Nat.le_of_ble_eq_true rfl) q800 dX1_write_113 w (fun g70 w => ?_)
      refine jr_istore (pc := 116) F (vs' := [(4, .inl _), (3, .inr (.inr (.inl _))), (0, .inr (.inr (.inl _))), (2, .inr (.inr (.inl _)))]) dX1_write_116 (Nat.le_of_ble_eq_true rfl) rfl ?_
      refine jj_J.sub [2, 3, 1, 0] rfl ?_
      obtain ⟨n9, w⟩ := w
      exact sC_X1_write_l118 F M O J hi hQ hE _ _ _ n9 _ _ _ w
    · have w := w2 c9
      refine jr_aload_n (pc := 30) F (j := 1) dX1_write_30 rfl ?_
      refine jr_giN (pc := 31) (ci := 7) (f := 2) F rfl in_X13 (Nat.le_of_ble_eq_true rfl) q796 dX1_write_31 w (fun g71 w => ?_)
      refine jr_iload_n (pc := 34) F (j := 2) dX1_write_34 rfl ?_
      refine jr_ishr (pc := 35) F dX1_write_35 ?_
      refine jr_iconst (pc := 36) F dX1_write_36 ?_
      refine jr_iand (pc := 37) F dX1_write_37 ?_
      refine jr_iconst (pc := 38) F dX1_write_38 ?_
      obtain ⟨hx9, w1, w2⟩ := w
      refine jr_icmp_ne (pc := 39) (tgt := 69) F hx9 ⟨by decide, by decide⟩ dX1_write_39 rfl (fun c9 => ?_) (fun c9 => ?_)
      · have w := w1 c9
        have w := w _ rfl
        refine jr_iinc (pc := 69) F (j := 2) (vs' := [(3, .inl _), (0, .inr (.inr (.inl _))), (2, .inr (.inr (.inl _)))]) dX1_write_69 rfl rfl (Nat.le_of_ble_eq_true rfl) rfl ?_
        refine jr_goto (pc := 72) (tgt := 16) F dX1_write_72 rfl ?_
        refine jj_J.sub [1, 2, 0] rfl ?_
        exact ih _ _ _ w
      · have w := w2 c9
        refine jr_aload_n (pc := 42) F (j := 0) dX1_write_42 rfl ?_
        refine jr_gr (pc := 43) (ci := 1) (f := 5) F rfl in_X1 (Nat.le_of_ble_eq_true rfl) q631 dX1_write_43 w (fun g73 w => ?_)
        refine jr_aload_n (pc := 46) F (j := 0) dX1_write_46 rfl ?_
        refine jr_gr (pc := 47) (ci := 1) (f := 0) F rfl in_X1 (Nat.le_of_ble_eq_true rfl) q625 dX1_write_47 w (fun g74 w => ?_)
        refine jr_grN (pc := 50) (ci := 2) (f := 2) F rfl in_X2 (Nat.le_of_ble_eq_true rfl) q599 dX1_write_50 w (fun g75 w => ?_)
        refine jr_iload_n (pc := 53) F (j := 2) dX1_write_53 rfl ?_
        refine jr_jV (pc := 54) (As := [_]) (ci := 14) F M (lw_V q1613 q681 q682 q124 q683) dX1_write_54 hj_J2_get rfl (Nat.le_of_ble_eq_true rfl) (Nat.le_of_ble_eq_true rfl) (Nat.le_of_ble_eq_true rfl) rfl (jK_J2_get J _ _ _ _ _ w) (fun v9 h76 k77 q9 => ?_)
        obtain ⟨r78, rfl, w⟩ := q9
        obtain ⟨hi9, w⟩ := w
        refine jr_cast (pc := 57) (ci := 25) F rfl q2761 dX1_write_57 hi9 ?_
        refine jr_jV (pc := 60) (As := [_]) (ci := 26) F M (lw_V q3091 q297 q298 q130 q299) dX1_write_60 hj_J8_append rfl (Nat.le_of_ble_eq_true rfl) (Nat.le_of_ble_eq_true rfl) (Nat.le_of_ble_eq_true rfl) rfl (jK_J8_append J _ _ _ _ _ w) (fun v9 h79 k80 q9 => ?_)
        obtain ⟨r81, rfl, w⟩ := q9
        refine jr_bipush (pc := 63) F dX1_write_63 (by decide +kernel) ?_
        refine jr_jV (pc := 65) (As := [_]) (ci := 26) F M (lw_V q2671 q2364 q2365 q130 q2366) dX1_write_65 hj_J8_append_3 rfl (Nat.le_of_ble_eq_true rfl) (Nat.le_of_ble_eq_true rfl) (Nat.le_of_ble_eq_true rfl) rfl (jK_J8_append_3 J _ _ _ _ _ w) (fun v9 h82 k83 q9 => ?_)
        obtain ⟨r84, rfl, w⟩ := q9
        refine jr_pop (pc := 68) F dX1_write_68 rfl ?_
        have w := w _ rfl
        refine jr_iinc (pc := 69) F (j := 2) (vs' := [(3, .inl _), (0, .inr (.inr (.inl _))), (2, .inr (.inr (.inl _)))]) dX1_write_69 rfl rfl (Nat.le_of_ble_eq_true rfl) rfl ?_
        refine jr_goto (pc := 72) (tgt := 16) F dX1_write_72 rfl ?_
        refine jj_J.sub [1, 2, 0] rfl ?_
        exact ih _ _ _ w

theorem sC_X1_write {X : jj_X} {N : Option jj_AV → jj_H → Prop} {XN : String → Nat → jj_H → Prop} (F : jj_F X RX1 cX1_write 6) (M : jj_M X (some (.int)) 19 760 N XN) (O : jj_no X) (J : jj_GJ X.1 X.2.2.1) (hi : X.2.2.2.2.2.2.2.2.2.1.name = yX1_write.name) {Q : Int → jj_H → Prop} {E : String → Nat → jj_H → Prop} (hQ : ∀ r h, Q r h → N (some (.inl r)) h) (hE : ∀ e q h, E e q h → XN e q h) (x0 : Option Nat) (x1 : Int) : ∀ (h : jj_H) (k : Nat), fC_X1_write (jj_gk X.1) x0 x1 Q E h k → jj_J X 6 0 [(0, .inr (.inr (.inl x0))), (1, .inl x1)] [] h k := by
  intro h k w
  unfold fC_X1_write at w
  refine jr_aload_n (pc := 0) F (j := 0) dX1_write_0 rfl ?_
  refine jr_iload_n (pc := 1) F (j := 1) dX1_write_1 rfl ?_
  obtain ⟨hi9, c86, hk9, w⟩ := w
  refine jr_cV (pc := 2) (As := [_]) (ci := 1) F M (lw_V q3009 q3011 qs44 q120 q3012) dX1_write_2 hC_X1_groupAt rfl (Nat.le_of_ble_eq_true rfl) (Nat.le_of_ble_eq_true rfl) (Nat.le_of_ble_eq_true rfl) rfl hi9 hk9 (cC_X1_groupAt J w) (fun v9 h88 q9 => ?_) (fun E9 q9 h9 w9 => jr_out F M O (hE _ _ _ w9))
  obtain ⟨r87, rfl, w⟩ := q9
  refine jr_astore_n (pc := 5) F (vs' := [(2, .inr (.inr (.inl _))), (0, .inr (.inr (.inl _))), (1, .inl _)]) dX1_write_5 (Nat.le_of_ble_eq_true rfl) rfl ?_
  refine jr_aload_n (pc := 6) F (j := 1) dX1_write_6 rfl ?_
  refine jr_gr (pc := 7) (ci := 1) (f := 5) F rfl in_X1 (Nat.le_of_ble_eq_true rfl) q631 dX1_write_7 w (fun g89 w => ?_)
  refine jr_iconst (pc := 10) F dX1_write_10 ?_
  refine jr_jV (pc := 11) (As := [_]) (ci := 26) F M (lw_V q2677 q2678 q2679 q130 q2680) dX1_write_11 hj_J8_setLength rfl (Nat.le_of_ble_eq_true rfl) (Nat.le_of_ble_eq_true rfl) (Nat.le_of_ble_eq_true rfl) rfl (jK_J8_setLength J _ _ _ _ _ w) (fun v9 h90 k91 q9 => ?_)
  obtain ⟨rfl, w⟩ := q9
  refine jr_iconst (pc := 14) F dX1_write_14 ?_
  refine jr_istore_n (pc := 15) F (vs' := [(3, .inl _), (2, .inr (.inr (.inl _))), (0, .inr (.inr (.inl _))), (1, .inl _)]) dX1_write_15 (Nat.le_of_ble_eq_true rfl) rfl ?_
  refine jj_J.sub [2, 1, 0] rfl ?_
  obtain ⟨n9, w⟩ := w
  exact sC_X1_write_l16 F M O J hi hQ hE _ _ n9 _ _ _ w

theorem cC_X1_write {G : jj_G} {l : Launch} (J : jj_GJ G l) {x0 : Option Nat} {x1 : Int} {Q : Int → jj_H → Prop} {E : String → Nat → jj_H → Prop} {h : jj_H} {k : Nat} (w : fC_X1_write (jj_gk G) x0 x1 Q E h k) : jj_Ct G l yX1_write (ws_ yX1_write cX1_write 6 (some (.int))) 19 760 [.inr (.inr (.inl x0)), .inl x1] h k (jc_i Q) E := by
  refine jj_Ct.of (jK_gs J).1 (by decide +kernel) (Nat.le_of_ble_eq_true rfl) rfl (fun X hG hl F M O hnm => ?_)
  subst hG; subst hl
  exact sC_X1_write F M O J hnm (fun r h q => ⟨r, rfl, q⟩) (fun _ _ _ q => q) _ _ _ _ w
theorem hC_X1_write : yX1_write.cls = RX1 ∧ yX1_write.cls ≠ "java/lang/invoke/MethodHandle" ∧ yX1_write.cls ≠ "java/lang/invoke/VarHandle" ∧ (parseMethodDescriptor yX1_write.desc).map (fun d => d.parameters.length) = some 1 := by decide +kernel
/-! X1_outputByte(I)I -/
def fC_X1_outputByte_j9 (gk : Nat → Nat) (x0 : Option Nat) (x1 : Int) (y0 : Int) (Q : Int → jj_H → Prop) (E : String → Nat → jj_H → Prop) (h : jj_H) (k : Nat) : Prop :=
  ∃ c1, c1 ≤ k ∧ fC_X1_checkIndex gk y0 (fun h3 =>
  jp_gr h3 x0 1 5 (fun g4 =>
  jq_J8_length g4 (fun r7 h5 k6 =>
  jj_r x1 ∧ jj_r r7 ∧ (r7 ≤ x1 → (
    Q (-1) h5)) ∧
  (¬ r7 ≤ x1 → (
    jp_gr h5 x0 1 5 (fun g8 =>
    jq_J8_charAt g8 x1 (fun r11 h9 k10 =>
    Q r11 h9) h5 k6)))) h3 (k - c1))) E h c1
def fC_X1_outputByte (gk : Nat → Nat) (x0 : Option Nat) (x1 : Int) (Q : Int → jj_H → Prop) (E : String → Nat → jj_H → Prop) (h : jj_H) (k : Nat) : Prop :=
  jj_r x1 ∧ (x1 < 0 → (
    fC_X1_outputByte_j9 gk x0 x1 0 Q E h k)) ∧
  (¬ x1 < 0 → (
    fC_X1_outputByte_j9 gk x0 x1 1 Q E h k))
theorem sC_X1_outputByte_j9 {X : jj_X} {N : Option jj_AV → jj_H → Prop} {XN : String → Nat → jj_H → Prop} (F : jj_F X RX1 cX1_outputByte 2) (M : jj_M X (some (.int)) 13 621 N XN) (O : jj_no X) (J : jj_GJ X.1 X.2.2.1) (hi : X.2.2.2.2.2.2.2.2.2.1.name = yX1_outputByte.name) {Q : Int → jj_H → Prop} {E : String → Nat → jj_H → Prop} (hQ : ∀ r h, Q r h → N (some (.inl r)) h) (hE : ∀ e q h, E e q h → XN e q h) (x0 : Option Nat) (x1 : Int) (y0 : Int) : ∀ (h : jj_H) (k : Nat), fC_X1_outputByte_j9 (jj_gk X.1) x0 x1 y0 Q E h k → jj_J X 2 9 [(0, .inr (.inr (.inl x0))), (1, .inl x1)] [.inl y0] h k := by
  intro h k w
  unfold fC_X1_outputByte_j9 at w
  obtain ⟨c1, hk9, w⟩ := w
  refine jr_callS (pc := 9) (As := [_]) F M (lw_S q2782 q2783 q120 q2784) dX1_outputByte_9 hC_X1_checkIndex.2 rfl (Nat.le_of_ble_eq_true rfl) (Nat.le_of_ble_eq_true rfl) (Nat.le_of_ble_eq_true rfl) hk9 (cC_X1_checkIndex J w) (fun v9 h3 q9 => ?_) (fun E9 q9 h9 w9 => jr_out F M O (hE _ _ _ w9))
  obtain ⟨rfl, w⟩ := q9
  refine jr_iload_n (pc := 12) F (j := 1) dX1_outputByte_12 rfl ?_
  refine jr_aload_n (pc := 13) F (j := 0) dX1_outputByte_13 rfl ?_
  refine jr_gr (pc := 14) (ci := 1) (f := 5) F rfl in_X1 (Nat.le_of_ble_eq_true rfl) q631 dX1_outputByte_14 w (fun g4 w => ?_)
  refine jr_jV (pc := 17) (As := []) (ci := 26) F M (lw_V q2673 q463 q3781 q130 q464) dX1_outputByte_17 hj_J8_length rfl (Nat.le_of_ble_eq_true rfl) (Nat.le_of_ble_eq_true rfl) (Nat.le_of_ble_eq_true rfl) rfl (jK_J8_length J _ _ _ _ w) (fun v9 h5 k6 q9 => ?_)
  obtain ⟨r7, rfl, w⟩ := q9
  obtain ⟨hx9, hy9, w1, w2⟩ := w
  refine jr_icmp_ge (pc := 20) (tgt := 34) F hx9 hy9 dX1_outputByte_20 rfl (fun c9 => ?_) (fun c9 => ?_)
  · have w := w1 c9
    refine jr_iconst (pc := 34) F dX1_outputByte_34 ?_
    exact jr_iret (pc := 35) F M dX1_outputByte_35 (hQ _ _ w)
  · have w := w2 c9
    refine jr_aload_n (pc := 23) F (j := 0) dX1_outputByte_23 rfl ?_
    refine jr_gr (pc := 24) (ci := 1) (f := 5) F rfl in_X1 (Nat.le_of_ble_eq_true rfl) q631 dX1_outputByte_24 w (fun g8 w => ?_)
    refine jr_iload_n (pc := 27) F (j := 1) dX1_outputByte_27 rfl ?_
    refine jr_jV (pc := 28) (As := [_]) (ci := 26) F M (lw_V q3100 q3101 q3102 q130 q3103) dX1_outputByte_28 hj_J8_charAt rfl (Nat.le_of_ble_eq_true rfl) (Nat.le_of_ble_eq_true rfl) (Nat.le_of_ble_eq_true rfl) rfl (jK_J8_charAt J _ _ _ _ _ w) (fun v9 h9 k10 q9 => ?_)
    obtain ⟨r11, rfl, w⟩ := q9
    refine jr_goto (pc := 31) (tgt := 35) F dX1_outputByte_31 rfl ?_
    exact jr_iret (pc := 35) F M dX1_outputByte_35 (hQ _ _ w)

theorem sC_X1_outputByte {X : jj_X} {N : Option jj_AV → jj_H → Prop} {XN : String → Nat → jj_H → Prop} (F : jj_F X RX1 cX1_outputByte 2) (M : jj_M X (some (.int)) 13 621 N XN) (O : jj_no X) (J : jj_GJ X.1 X.2.2.1) (hi : X.2.2.2.2.2.2.2.2.2.1.name = yX1_outputByte.name) {Q : Int → jj_H → Prop} {E : String → Nat → jj_H → Prop} (hQ : ∀ r h, Q r h → N (some (.inl r)) h) (hE : ∀ e q h, E e q h → XN e q h) (x0 : Option Nat) (x1 : Int) : ∀ (h : jj_H) (k : Nat), fC_X1_outputByte (jj_gk X.1) x0 x1 Q E h k → jj_J X 2 0 [(0, .inr (.inr (.inl x0))), (1, .inl x1)] [] h k := by
  intro h k w
  unfold fC_X1_outputByte at w
  refine jr_iload_n (pc := 0) F (j := 1) dX1_outputByte_0 rfl ?_
  obtain ⟨hx9, w1, w2⟩ := w
  refine jr_if_lt (pc := 1) (tgt := 8) F hx9 dX1_outputByte_1 rfl (fun c9 => ?_) (fun c9 => ?_)
  · have w := w1 c9
    refine jr_iconst (pc := 8) F dX1_outputByte_8 ?_
    exact sC_X1_outputByte_j9 F M O J hi hQ hE _ _ _ _ _ w
  · have w := w2 c9
    refine jr_iconst (pc := 4) F dX1_outputByte_4 ?_
    refine jr_goto (pc := 5) (tgt := 9) F dX1_outputByte_5 rfl ?_
    exact sC_X1_outputByte_j9 F M O J hi hQ hE _ _ _ _ _ w

theorem cC_X1_outputByte {G : jj_G} {l : Launch} (J : jj_GJ G l) {x0 : Option Nat} {x1 : Int} {Q : Int → jj_H → Prop} {E : String → Nat → jj_H → Prop} {h : jj_H} {k : Nat} (w : fC_X1_outputByte (jj_gk G) x0 x1 Q E h k) : jj_Ct G l yX1_outputByte (ws_ yX1_outputByte cX1_outputByte 2 (some (.int))) 13 621 [.inr (.inr (.inl x0)), .inl x1] h k (jc_i Q) E := by
  refine jj_Ct.of (jK_gs J).1 (by decide +kernel) (Nat.le_of_ble_eq_true rfl) rfl (fun X hG hl F M O hnm => ?_)
  subst hG; subst hl
  exact sC_X1_outputByte F M O J hnm (fun r h q => ⟨r, rfl, q⟩) (fun _ _ _ q => q) _ _ _ _ w
theorem hC_X1_outputByte : yX1_outputByte.cls = RX1 ∧ yX1_outputByte.cls ≠ "java/lang/invoke/MethodHandle" ∧ yX1_outputByte.cls ≠ "java/lang/invoke/VarHandle" ∧ (parseMethodDescriptor yX1_outputByte.desc).map (fun d => d.parameters.length) = some 1 := by decide +kernel
/-! X1_save(I)V -/
def fC_X1_save (gk : Nat → Nat) (x0 : Option Nat) (x1 : Int) (Q : jj_H → Prop) (E : String → Nat → jj_H → Prop) (h : jj_H) (k : Nat) : Prop :=
  fC_X1_isBetween gk (jj_i2l x1) 0 1 (fun r2 h3 =>
  ∃ c4, c4 ≤ k ∧ fC_X1_checkArgument gk r2 (fun h6 =>
  jp_gr h6 x0 1 2 (fun g7 =>
  jp_gr h6 x0 1 0 (fun g8 =>
  jp_is h6 g8 2 ∧ ∃ c9, c9 ≤ (k - c4) ∧ fC_X2_copy gk g8 (fun r10 h11 =>
  jp_rs h11 g7 1 2 x1 r10 (fun h12 =>
  Q h12)) E h6 c9))) E h3 c4) E h 0
theorem sC_X1_save {X : jj_X} {N : Option jj_AV → jj_H → Prop} {XN : String → Nat → jj_H → Prop} (F : jj_F X RX1 cX1_save 2) (M : jj_M X (none) 17 709 N XN) (O : jj_no X) (J : jj_GJ X.1 X.2.2.1) (hi : X.2.2.2.2.2.2.2.2.2.1.name = yX1_save.name) {Q : jj_H → Prop} {E : String → Nat → jj_H → Prop} (hQ : ∀ h, Q h → N none h) (hE : ∀ e q h, E e q h → XN e q h) (x0 : Option Nat) (x1 : Int) : ∀ (h : jj_H) (k : Nat), fC_X1_save (jj_gk X.1) x0 x1 Q E h k → jj_J X 2 0 [(0, .inr (.inr (.inl x0))), (1, .inl x1)] [] h k := by
  intro h k w
  unfold fC_X1_save at w
  refine jr_iload_n (pc := 0) F (j := 1) dX1_save_0 rfl ?_
  refine jr_i2l (pc := 1) F dX1_save_1 ?_
  refine jr_lconst (pc := 2) F (x := 0) dX1_save_2 (by decide +kernel) ?_
  refine jr_lconst (pc := 3) F (x := 1) dX1_save_3 (by decide +kernel) ?_
  refine jr_callS (pc := 4) (As := [_, _, _]) F M (lw_S q2630 q1678 q120 q1679) dX1_save_4 hC_X1_isBetween.2 rfl (Nat.le_of_ble_eq_true rfl) (Nat.le_of_ble_eq_true rfl) (Nat.le_of_ble_eq_true rfl) (Nat.zero_le _) (cC_X1_isBetween J w) (fun v9 h3 q9 => ?_) (fun E9 q9 h9 w9 => jr_out F M O (hE _ _ _ w9))
  obtain ⟨r2, rfl, w⟩ := q9
  obtain ⟨c4, hk9, w⟩ := w
  refine jr_callS (pc := 7) (As := [_]) F M (lw_S q2631 q2632 q120 q2633) dX1_save_7 hC_X1_checkArgument.2 rfl (Nat.le_of_ble_eq_true rfl) (Nat.le_of_ble_eq_true rfl) (Nat.le_of_ble_eq_true rfl) hk9 (cC_X1_checkArgument J w) (fun v9 h6 q9 => ?_) (fun E9 q9 h9 w9 => jr_out F M O (hE _ _ _ w9))
  obtain ⟨rfl, w⟩ := q9
  refine jr_aload_n (pc := 10) F (j := 0) dX1_save_10 rfl ?_
  refine jr_gr (pc := 11) (ci := 1) (f := 2) F rfl in_X1 (Nat.le_of_ble_eq_true rfl) q627 dX1_save_11 w (fun g7 w => ?_)
  refine jr_iload_n (pc := 14) F (j := 1) dX1_save_14 rfl ?_
  refine jr_aload_n (pc := 15) F (j := 0) dX1_save_15 rfl ?_
  refine jr_gr (pc := 16) (ci := 1) (f := 0) F rfl in_X1 (Nat.le_of_ble_eq_true rfl) q625 dX1_save_16 w (fun g8 w => ?_)
  obtain ⟨hi9, c9, hk9, w⟩ := w
  refine jr_cV (pc := 19) (As := []) (ci := 2) F M (lw_V q1838 q1839 q1840 q121 q1841) dX1_save_19 hC_X2_copy rfl (Nat.le_of_ble_eq_true rfl) (Nat.le_of_ble_eq_true rfl) (Nat.le_of_ble_eq_true rfl) rfl hi9 hk9 (cC_X2_copy J w) (fun v9 h11 q9 => ?_) (fun E9 q9 h9 w9 => jr_out F M O (hE _ _ _ w9))
  obtain ⟨r10, rfl, w⟩ := q9
  refine jr_aast (pc := 22) F ⟨5, fun _ => rfl⟩ rfl (Or.inl rfl) dX1_save_22 w (fun h12 w => ?_)
  exact jr_vret (pc := 23) F M dX1_save_23 (hQ _ w)

theorem cC_X1_save {G : jj_G} {l : Launch} (J : jj_GJ G l) {x0 : Option Nat} {x1 : Int} {Q : jj_H → Prop} {E : String → Nat → jj_H → Prop} {h : jj_H} {k : Nat} (w : fC_X1_save (jj_gk G) x0 x1 Q E h k) : jj_Ct G l yX1_save (ws_ yX1_save cX1_save 2 (none)) 17 709 [.inr (.inr (.inl x0)), .inl x1] h k (jc_v Q) E := by
  refine jj_Ct.of (jK_gs J).1 (by decide +kernel) (Nat.le_of_ble_eq_true rfl) rfl (fun X hG hl F M O hnm => ?_)
  subst hG; subst hl
  exact sC_X1_save F M O J hnm (fun h q => ⟨rfl, q⟩) (fun _ _ _ q => q) _ _ _ _ w
theorem hC_X1_save : yX1_save.cls = RX1 ∧ yX1_save.cls ≠ "java/lang/invoke/MethodHandle" ∧ yX1_save.cls ≠ "java/lang/invoke/VarHandle" ∧ (parseMethodDescriptor yX1_save.desc).map (fun d => d.parameters.length) = some 1 := by decide +kernel
/-! X1_restore(I)V -/
def fC_X1_restore_j24 (gk : Nat → Nat) (x0 : Option Nat) (x1 : Int) (y0 : Int) (Q : jj_H → Prop) (E : String → Nat → jj_H → Prop) (h : jj_H) (k : Nat) : Prop :=
  ∃ c1, c1 ≤ k ∧ fC_X1_checkState gk y0 (fun h3 =>
  jp_gr h3 x0 1 2 (fun g4 =>
  jp_rl h3 g4 1 x1 (fun g5 =>
  jp_is h3 g5 2 ∧ ∃ c6, c6 ≤ (k - c1) ∧ fC_X2_copy gk g5 (fun r7 h8 =>
  jp_pr h8 x0 1 0 r7 (fun h9 =>
  jp_pr h9 x0 1 1 none (fun h10 =>
  Q h10))) E h3 c6))) E h c1
def fC_X1_restore (gk : Nat → Nat) (x0 : Option Nat) (x1 : Int) (Q : jj_H → Prop) (E : String → Nat → jj_H → Prop) (h : jj_H) (k : Nat) : Prop :=
  fC_X1_isBetween gk (jj_i2l x1) 0 1 (fun r12 h13 =>
  ∃ c14, c14 ≤ k ∧ fC_X1_checkArgument gk r12 (fun h16 =>
  jp_gr h16 x0 1 2 (fun g17 =>
  jp_rl h16 g17 1 x1 (fun g18 =>
  (g18 = none → (
    fC_X1_restore_j24 gk x0 x1 0 Q E h16 (k - c14))) ∧
  (¬ g18 = none → (
    fC_X1_restore_j24 gk x0 x1 1 Q E h16 (k - c14)))))) E h13 c14) E h 0
theorem sC_X1_restore_j24 {X : jj_X} {N : Option jj_AV → jj_H → Prop} {XN : String → Nat → jj_H → Prop} (F : jj_F X RX1 cX1_restore 2) (M : jj_M X (none) 17 709 N XN) (O : jj_no X) (J : jj_GJ X.1 X.2.2.1) (hi : X.2.2.2.2.2.2.2.2.2.1.name = yX1_restore.name) {Q : jj_H → Prop} {E : String → Nat → jj_H → Prop} (hQ : ∀ h, Q h → N none h) (hE : ∀ e q h, E e q h → XN e q h) (x0 : Option Nat) (x1 : Int) (y0 : Int) : ∀ (h : jj_H) (k : Nat), fC_X1_restore_j24 (jj_gk X.1) x0 x1 y0 Q E h k → jj_J X 2 24 [(0, .inr (.inr (.inl x0))), (1, .inl x1)] [.inl y0] h k := by
  intro h k w
  unfold fC_X1_restore_j24 at w
  obtain ⟨c1, hk9, w⟩ := w
  refine jr_callS (pc := 24) (As := [_]) F M (lw_S q2604 q2605 q120 q2606) dX1_restore_24 hC_X1_checkState.2 rfl (Nat.le_of_ble_eq_true rfl) (Nat.le_of_ble_eq_true rfl) (Nat.le_of_ble_eq_true rfl) hk9 (cC_X1_checkState J w) (fun v9 h3 q9 => ?_) (fun E9 q9 h9 w9 => jr_out F M O (hE _ _ _ w9))
  obtain ⟨rfl, w⟩ := q9
  refine jr_aload_n (pc := 27) F (j := 0) dX1_restore_27 rfl ?_
  refine jr_aload_n (pc := 28) F (j := 0) dX1_restore_28 rfl ?_
  refine jr_gr (pc := 29) (ci := 1) (f := 2) F rfl in_X1 (Nat.le_of_ble_eq_true rfl) q627 dX1_restore_29 w (fun g4 w => ?_)
  refine jr_iload_n (pc := 32) F (j := 1) dX1_restore_32 rfl ?_
  refine jr_aald (pc := 33) F ⟨5, _, fun _ => rfl⟩ dX1_restore_33 w (fun g5 w => ?_)
  obtain ⟨hi9, c6, hk9, w⟩ := w
  refine jr_cV (pc := 34) (As := []) (ci := 2) F M (lw_V q1838 q1839 q1840 q121 q1841) dX1_restore_34 hC_X2_copy rfl (Nat.le_of_ble_eq_true rfl) (Nat.le_of_ble_eq_true rfl) (Nat.le_of_ble_eq_true rfl) rfl hi9 hk9 (cC_X2_copy J w) (fun v9 h8 q9 => ?_) (fun E9 q9 h9 w9 => jr_out F M O (hE _ _ _ w9))
  obtain ⟨r7, rfl, w⟩ := q9
  refine jr_pr (pc := 37) (ci := 1) (f := 0) F rfl in_X1 tyX1_ok nmX1 (Nat.le_of_ble_eq_true rfl) rfl rfl q625 dX1_restore_37 w (fun h9 w => ?_)
  refine jr_aload_n (pc := 40) F (j := 0) dX1_restore_40 rfl ?_
  refine jr_null (pc := 41) F dX1_restore_41 ?_
  refine jr_pr (pc := 42) (ci := 1) (f := 1) F rfl in_X1 tyX1_ok nmX1 (Nat.le_of_ble_eq_true rfl) rfl rfl q626 dX1_restore_42 w (fun h10 w => ?_)
  exact jr_vret (pc := 45) F M dX1_restore_45 (hQ _ w)

theorem sC_X1_restore {X : jj_X} {N : Option jj_AV → jj_H → Prop} {XN : String → Nat → jj_H → Prop} (F : jj_F X RX1 cX1_restore 2) (M : jj_M X (none) 17 709 N XN) (O : jj_no X) (J : jj_GJ X.1 X.2.2.1) (hi : X.2.2.2.2.2.2.2.2.2.1.name = yX1_restore.name) {Q : jj_H → Prop} {E : String → Nat → jj_H → Prop} (hQ : ∀ h, Q h → N none h) (hE : ∀ e q h, E e q h → XN e q h) (x0 : Option Nat) (x1 : Int) : ∀ (h : jj_H) (k : Nat), fC_X1_restore (jj_gk X.1) x0 x1 Q E h k → jj_J X 2 0 [(0, .inr (.inr (.inl x0))), (1, .inl x1)] [] h k := by
  intro h k w
  unfold fC_X1_restore at w
  refine jr_iload_n (pc := 0) F (j := 1) dX1_restore_0 rfl ?_
  refine jr_i2l (pc := 1) F dX1_restore_1 ?_
  refine jr_lconst (pc := 2) F (x := 0) dX1_restore_2 (by decide +kernel) ?_
  refine jr_lconst (pc := 3) F (x := 1) dX1_restore_3 (by decide +kernel) ?_
  refine jr_callS (pc := 4) (As := [_, _, _]) F M (lw_S q2630 q1678 q120 q1679) dX1_restore_4 hC_X1_isBetween.2 rfl (Nat.le_of_ble_eq_true rfl) (Nat.le_of_ble_eq_true rfl) (Nat.le_of_ble_eq_true rfl) (Nat.zero_le _) (cC_X1_isBetween J w) (fun v9 h13 q9 => ?_) (fun E9 q9 h9 w9 => jr_out F M O (hE _ _ _ w9))
  obtain ⟨r12, rfl, w⟩ := q9
  obtain ⟨c14, hk9, w⟩ := w
  refine jr_callS (pc := 7) (As := [_]) F M (lw_S q2631 q2632 q120 q2633) dX1_restore_7 hC_X1_checkArgument.2 rfl (Nat.le_of_ble_eq_true rfl) (Nat.le_of_ble_eq_true rfl) (Nat.le_of_ble_eq_true rfl) hk9 (cC_X1_checkArgument J w) (fun v9 h16 q9 => ?_) (fun E9 q9 h9 w9 => jr_out F M O (hE _ _ _ w9))
  obtain ⟨rfl, w⟩ := q9
  refine jr_aload_n (pc := 10) F (j := 0) dX1_restore_10 rfl ?_
  refine jr_gr (pc := 11) (ci := 1) (f := 2) F rfl in_X1 (Nat.le_of_ble_eq_true rfl) q627 dX1_restore_11 w (fun g17 w => ?_)
  refine jr_iload_n (pc := 14) F (j := 1) dX1_restore_14 rfl ?_
  refine jr_aald (pc := 15) F ⟨5, _, fun _ => rfl⟩ dX1_restore_15 w (fun g18 w => ?_)
  obtain ⟨w1, w2⟩ := w
  refine jr_ifnull (pc := 16) (tgt := 23) F dX1_restore_16 rfl (fun c9 => ?_) (fun c9 => ?_)
  · have w := w1 c9
    refine jr_iconst (pc := 23) F dX1_restore_23 ?_
    exact sC_X1_restore_j24 F M O J hi hQ hE _ _ _ _ _ w
  · have w := w2 c9
    refine jr_iconst (pc := 19) F dX1_restore_19 ?_
    refine jr_goto (pc := 20) (tgt := 24) F dX1_restore_20 rfl ?_
    exact sC_X1_restore_j24 F M O J hi hQ hE _ _ _ _ _ w

theorem cC_X1_restore {G : jj_G} {l : Launch} (J : jj_GJ G l) {x0 : Option Nat} {x1 : Int} {Q : jj_H → Prop} {E : String → Nat → jj_H → Prop} {h : jj_H} {k : Nat} (w : fC_X1_restore (jj_gk G) x0 x1 Q E h k) : jj_Ct G l yX1_restore (ws_ yX1_restore cX1_restore 2 (none)) 17 709 [.inr (.inr (.inl x0)), .inl x1] h k (jc_v Q) E := by
  refine jj_Ct.of (jK_gs J).1 (by decide +kernel) (Nat.le_of_ble_eq_true rfl) rfl (fun X hG hl F M O hnm => ?_)
  subst hG; subst hl
  exact sC_X1_restore F M O J hnm (fun h q => ⟨rfl, q⟩) (fun _ _ _ q => q) _ _ _ _ w
theorem hC_X1_restore : yX1_restore.cls = RX1 ∧ yX1_restore.cls ≠ "java/lang/invoke/MethodHandle" ∧ yX1_restore.cls ≠ "java/lang/invoke/VarHandle" ∧ (parseMethodDescriptor yX1_restore.desc).map (fun d => d.parameters.length) = some 1 := by decide +kernel
/-! X15_compare_2(LNoteImporter$Group;LNoteImporter$Group;)I -/
def fC_X15_compare_2 (gk : Nat → Nat) (x0 : Option Nat) (x1 : Option Nat) (x2 : Option Nat) (Q : Int → jj_H → Prop) (E : String → Nat → jj_H → Prop) (h : jj_H) (k : Nat) : Prop :=
  jp_gr h x0 9 0 (fun g1 =>
  jp_gr h g1 3 4 (fun g2 =>
  jp_gi h x1 7 3 (fun g3 =>
  jp_al h g2 0 g3 (fun g4 =>
  jp_gr h x0 9 0 (fun g5 =>
  jp_gr h g5 3 4 (fun g6 =>
  jp_gi h x2 7 3 (fun g7 =>
  jp_al h g6 0 g7 (fun g8 =>
  ∀ v9, v9 = g4 - g8 →
  jj_r v9 ∧ (v9 = 0 → (
    jp_gi h x1 7 0 (fun g10 =>
    jp_gi h x2 7 0 (fun g11 =>
    Q (g10 - g11) h)))) ∧
  (¬ v9 = 0 → (
    Q v9 h))))))))))
theorem sC_X15_compare_2 {X : jj_X} {N : Option jj_AV → jj_H → Prop} {XN : String → Nat → jj_H → Prop} (F : jj_F X RX15 cX15_compare_2 4) (M : jj_M X (some (.int)) 0 0 N XN) (O : jj_no X) (J : jj_GJ X.1 X.2.2.1) (hi : X.2.2.2.2.2.2.2.2.2.1.name = yX15_compare_2.name) {Q : Int → jj_H → Prop} {E : String → Nat → jj_H → Prop} (hQ : ∀ r h, Q r h → N (some (.inl r)) h) (hE : ∀ e q h, E e q h → XN e q h) (x0 : Option Nat) (x1 : Option Nat) (x2 : Option Nat) : ∀ (h : jj_H) (k : Nat), fC_X15_compare_2 (jj_gk X.1) x0 x1 x2 Q E h k → jj_J X 4 0 [(0, .inr (.inr (.inl x0))), (1, .inr (.inr (.inl x1))), (2, .inr (.inr (.inl x2)))] [] h k := by
  intro h k w
  unfold fC_X15_compare_2 at w
  refine jr_aload_n (pc := 0) F (j := 0) dX15_compare_2_0 rfl ?_
  refine jr_gr (pc := 1) (ci := 9) (f := 0) F rfl in_X15 (Nat.le_of_ble_eq_true rfl) q1696 dX15_compare_2_1 w (fun g1 w => ?_)
  refine jr_grN (pc := 4) (ci := 3) (f := 4) F rfl in_X5 (Nat.le_of_ble_eq_true rfl) q1872 dX15_compare_2_4 w (fun g2 w => ?_)
  refine jr_aload_n (pc := 7) F (j := 1) dX15_compare_2_7 rfl ?_
  refine jr_giN (pc := 8) (ci := 7) (f := 3) F rfl in_X13 (Nat.le_of_ble_eq_true rfl) q798 dX15_compare_2_8 w (fun g3 w => ?_)
  refine jr_iald (pc := 11) F dX15_compare_2_11 w (fun g4 w => ?_)
  refine jr_aload_n (pc := 12) F (j := 0) dX15_compare_2_12 rfl ?_
  refine jr_gr (pc := 13) (ci := 9) (f := 0) F rfl in_X15 (Nat.le_of_ble_eq_true rfl) q1696 dX15_compare_2_13 w (fun g5 w => ?_)
  refine jr_grN (pc := 16) (ci := 3) (f := 4) F rfl in_X5 (Nat.le_of_ble_eq_true rfl) q1872 dX15_compare_2_16 w (fun g6 w => ?_)
  refine jr_aload_n (pc := 19) F (j := 2) dX15_compare_2_19 rfl ?_
  refine jr_giN (pc := 20) (ci := 7) (f := 3) F rfl in_X13 (Nat.le_of_ble_eq_true rfl) q798 dX15_compare_2_20 w (fun g7 w => ?_)
  refine jr_iald (pc := 23) F dX15_compare_2_23 w (fun g8 w => ?_)
  refine jr_isub (pc := 24) F dX15_compare_2_24 ?_
  have w := w _ rfl
  refine jr_istore_n (pc := 25) F (vs' := [(3, .inl _), (0, .inr (.inr (.inl _))), (1, .inr (.inr (.inl _))), (2, .inr (.inr (.inl _)))]) dX15_compare_2_25 (Nat.le_of_ble_eq_true rfl) rfl ?_
  refine jr_iload_n (pc := 26) F (j := 0) dX15_compare_2_26 rfl ?_
  obtain ⟨hx9, w1, w2⟩ := w
  refine jr_if_eq (pc := 27) (tgt := 34) F hx9 dX15_compare_2_27 rfl (fun c9 => ?_) (fun c9 => ?_)
  · have w := w1 c9
    refine jr_aload_n (pc := 34) F (j := 2) dX15_compare_2_34 rfl ?_
    refine jr_giN (pc := 35) (ci := 7) (f := 0) F rfl in_X13 (Nat.le_of_ble_eq_true rfl) q790 dX15_compare_2_35 w (fun g10 w => ?_)
    refine jr_aload_n (pc := 38) F (j := 3) dX15_compare_2_38 rfl ?_
    refine jr_giN (pc := 39) (ci := 7) (f := 0) F rfl in_X13 (Nat.le_of_ble_eq_true rfl) q790 dX15_compare_2_39 w (fun g11 w => ?_)
    refine jr_isub (pc := 42) F dX15_compare_2_42 ?_
    exact jr_iret (pc := 43) F M dX15_compare_2_43 (hQ _ _ w)
  · have w := w2 c9
    refine jr_iload_n (pc := 30) F (j := 0) dX15_compare_2_30 rfl ?_
    refine jr_goto (pc := 31) (tgt := 43) F dX15_compare_2_31 rfl ?_
    exact jr_iret (pc := 43) F M dX15_compare_2_43 (hQ _ _ w)

theorem cC_X15_compare_2 {G : jj_G} {l : Launch} (J : jj_GJ G l) {x0 : Option Nat} {x1 : Option Nat} {x2 : Option Nat} {Q : Int → jj_H → Prop} {E : String → Nat → jj_H → Prop} {h : jj_H} {k : Nat} (w : fC_X15_compare_2 (jj_gk G) x0 x1 x2 Q E h k) : jj_Ct G l yX15_compare_2 (ws_ yX15_compare_2 cX15_compare_2 4 (some (.int))) 0 0 [.inr (.inr (.inl x0)), .inr (.inr (.inl x1)), .inr (.inr (.inl x2))] h k (jc_i Q) E := by
  refine jj_Ct.of (jK_gs J).1 (by decide +kernel) (Nat.le_of_ble_eq_true rfl) rfl (fun X hG hl F M O hnm => ?_)
  subst hG; subst hl
  exact sC_X15_compare_2 F M O J hnm (fun r h q => ⟨r, rfl, q⟩) (fun _ _ _ q => q) _ _ _ _ _ w
theorem hC_X15_compare_2 : yX15_compare_2.cls = RX15 ∧ yX15_compare_2.cls ≠ "java/lang/invoke/MethodHandle" ∧ yX15_compare_2.cls ≠ "java/lang/invoke/VarHandle" ∧ (parseMethodDescriptor yX15_compare_2.desc).map (fun d => d.parameters.length) = some 2 := by decide +kernel
