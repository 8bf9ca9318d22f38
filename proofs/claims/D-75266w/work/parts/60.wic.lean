set_option maxRecDepth 100000
/-! J17_compare(II)I -/
def fC_J17_compare (gk : Nat → Nat) (x0 : Int) (x1 : Int) (Q : Int → jj_H → Prop) (E : String → Nat → jj_H → Prop) (h : jj_H) (k : Nat) : Prop :=
  jj_r x0 ∧ jj_r x1 ∧ (x1 ≤ x0 → (
    jj_r x0 ∧ jj_r x1 ∧ (¬ x0 = x1 → (
      Q 1 h)) ∧
    (x0 = x1 → (
      Q 0 h)))) ∧
  (¬ x1 ≤ x0 → (
    Q (-1) h))
theorem sC_J17_compare {X : jj_X} {N : Option jj_AV → jj_H → Prop} {XN : String → Nat → jj_H → Prop} (F : jj_F X RJ17 cJ17_compare 2) (M : jj_M X (some (.int)) 0 0 N XN) (O : jj_no X) (J : jx_G X.1 X.2.2.1) (hi : X.2.2.2.2.2.2.2.2.2.1.name = yJ17_compare.name) {Q : Int → jj_H → Prop} {E : String → Nat → jj_H → Prop} (hQ : ∀ r h, Q r h → N (some (.inl r)) h) (hE : ∀ e q h, E e q h → XN e q h) (x0 : Int) (x1 : Int) : ∀ (h : jj_H) (k : Nat), fC_J17_compare (jj_gk X.1) x0 x1 Q E h k → jj_J X 2 0 [(0, .inl x0), (1, .inl x1)] [] h k := by
  intro h k w
  unfold fC_J17_compare at w
  refine jr_iload_n (pc := 0) F (j := 0) dJ17_compare_0 rfl ?_
  refine jr_iload_n (pc := 1) F (j := 1) dJ17_compare_1 rfl ?_
  obtain ⟨hx9, hy9, w1, w2⟩ := w
  refine jr_icmp_ge (pc := 2) (tgt := 9) F hx9 hy9 dJ17_compare_2 rfl (fun c9 => ?_) (fun c9 => ?_)
  · have w := w1 c9
    refine jr_iload_n (pc := 9) F (j := 0) dJ17_compare_9 rfl ?_
    refine jr_iload_n (pc := 10) F (j := 1) dJ17_compare_10 rfl ?_
    obtain ⟨hx9, hy9, w1, w2⟩ := w
    refine jr_icmp_ne (pc := 11) (tgt := 18) F hx9 hy9 dJ17_compare_11 rfl (fun c9 => ?_) (fun c9 => ?_)
    · have w := w1 c9
      refine jr_iconst (pc := 18) F dJ17_compare_18 ?_
      exact jr_iret (pc := 19) F M dJ17_compare_19 (hQ _ _ w)
    · have w := w2 c9
      refine jr_iconst (pc := 14) F dJ17_compare_14 ?_
      refine jr_goto (pc := 15) (tgt := 19) F dJ17_compare_15 rfl ?_
      exact jr_iret (pc := 19) F M dJ17_compare_19 (hQ _ _ w)
  · have w := w2 c9
    refine jr_iconst (pc := 5) F dJ17_compare_5 ?_
    refine jr_goto (pc := 6) (tgt := 19) F dJ17_compare_6 rfl ?_
    exact jr_iret (pc := 19) F M dJ17_compare_19 (hQ _ _ w)

theorem cC_J17_compare {G : jj_G} {l : Launch} (J : jx_G G l) {x0 : Int} {x1 : Int} {Q : Int → jj_H → Prop} {E : String → Nat → jj_H → Prop} {h : jj_H} {k : Nat} (w : fC_J17_compare (jj_gk G) x0 x1 Q E h k) : jj_Ct G l yJ17_compare (ws_ yJ17_compare cJ17_compare 2 (some (.int))) 0 0 [.inl x0, .inl x1] h k (jc_i Q) E := by
  refine jj_Ct.of J.1 (by decide +kernel) (Nat.le_of_ble_eq_true rfl) rfl (fun X hG hl F M O hnm => ?_)
  subst hG; subst hl
  exact sC_J17_compare F M O J hnm (fun r h q => ⟨r, rfl, q⟩) (fun _ _ _ q => q) _ _ _ _ w
theorem hC_J17_compare : yJ17_compare.cls = RJ17 ∧ yJ17_compare.cls ≠ "java/lang/invoke/MethodHandle" ∧ yJ17_compare.cls ≠ "java/lang/invoke/VarHandle" ∧ (parseMethodDescriptor yJ17_compare.desc).map (fun d => d.parameters.length) = some 2 := by decide +kernel
/-! J17_compareTo_2(Ljava/lang/Integer;)I -/
def fC_J17_compareTo_2 (gk : Nat → Nat) (x0 : Option Nat) (x1 : Option Nat) (Q : Int → jj_H → Prop) (E : String → Nat → jj_H → Prop) (h : jj_H) (k : Nat) : Prop :=
  jp_gk9 h x0 (fun g1 =>
  jp_gk9 h x1 (fun g2 =>
  fC_J17_compare gk g1 g2 (fun r4 h5 =>
  Q r4 h5) E h 0))
theorem sC_J17_compareTo_2 {X : jj_X} {N : Option jj_AV → jj_H → Prop} {XN : String → Nat → jj_H → Prop} (F : jj_F X RJ17 cJ17_compareTo_2 2) (M : jj_M X (some (.int)) 1 21 N XN) (O : jj_no X) (J : jx_G X.1 X.2.2.1) (hi : X.2.2.2.2.2.2.2.2.2.1.name = yJ17_compareTo_2.name) {Q : Int → jj_H → Prop} {E : String → Nat → jj_H → Prop} (hQ : ∀ r h, Q r h → N (some (.inl r)) h) (hE : ∀ e q h, E e q h → XN e q h) (x0 : Option Nat) (x1 : Option Nat) : ∀ (h : jj_H) (k : Nat), fC_J17_compareTo_2 (jj_gk X.1) x0 x1 Q E h k → jj_J X 2 0 [(0, .inr (.inr (.inl x0))), (1, .inr (.inr (.inl x1)))] [] h k := by
  intro h k w
  unfold fC_J17_compareTo_2 at w
  refine jr_aload_n (pc := 0) F (j := 0) dJ17_compareTo_2_0 rfl ?_
  refine jr_gk9 (pc := 1) F J q908 dJ17_compareTo_2_1 w (fun g1 w => ?_)
  refine jr_aload_n (pc := 4) F (j := 1) dJ17_compareTo_2_4 rfl ?_
  refine jr_gk9 (pc := 5) F J q908 dJ17_compareTo_2_5 w (fun g2 w => ?_)
  refine jr_callS (pc := 8) (As := [_, _]) F M (lw_S q1391 q1392 q140 q1393) dJ17_compareTo_2_8 hC_J17_compare.2 rfl (Nat.le_of_ble_eq_true rfl) (Nat.le_of_ble_eq_true rfl) (Nat.le_of_ble_eq_true rfl) (Nat.zero_le _) (cC_J17_compare J w) (fun v9 h5 q9 => ?_) (fun E9 q9 h9 w9 => jr_out F M O (hE _ _ _ w9))
  obtain ⟨r4, rfl, w⟩ := q9
  exact jr_iret (pc := 11) F M dJ17_compareTo_2_11 (hQ _ _ w)

theorem cC_J17_compareTo_2 {G : jj_G} {l : Launch} (J : jx_G G l) {x0 : Option Nat} {x1 : Option Nat} {Q : Int → jj_H → Prop} {E : String → Nat → jj_H → Prop} {h : jj_H} {k : Nat} (w : fC_J17_compareTo_2 (jj_gk G) x0 x1 Q E h k) : jj_Ct G l yJ17_compareTo_2 (ws_ yJ17_compareTo_2 cJ17_compareTo_2 2 (some (.int))) 1 21 [.inr (.inr (.inl x0)), .inr (.inr (.inl x1))] h k (jc_i Q) E := by
  refine jj_Ct.of J.1 (by decide +kernel) (Nat.le_of_ble_eq_true rfl) rfl (fun X hG hl F M O hnm => ?_)
  subst hG; subst hl
  exact sC_J17_compareTo_2 F M O J hnm (fun r h q => ⟨r, rfl, q⟩) (fun _ _ _ q => q) _ _ _ _ w
theorem hC_J17_compareTo_2 : yJ17_compareTo_2.cls = RJ17 ∧ yJ17_compareTo_2.cls ≠ "java/lang/invoke/MethodHandle" ∧ yJ17_compareTo_2.cls ≠ "java/lang/invoke/VarHandle" ∧ (parseMethodDescriptor yJ17_compareTo_2.desc).map (fun d => d.parameters.length) = some 1 := by decide +kernel
/-! J17_compareTo(Ljava/lang/Object;)I -/
def fC_J17_compareTo (gk : Nat → Nat) (x0 : Option Nat) (x1 : Option Nat) (Q : Int → jj_H → Prop) (E : String → Nat → jj_H → Prop) (h : jj_H) (k : Nat) : Prop :=
  jp_is h x1 27 ∧
  jp_is h x0 27 ∧ fC_J17_compareTo_2 gk x0 x1 (fun r2 h3 =>
  Q r2 h3) E h 0
theorem sC_J17_compareTo {X : jj_X} {N : Option jj_AV → jj_H → Prop} {XN : String → Nat → jj_H → Prop} (F : jj_F X RJ17 cJ17_compareTo 2) (M : jj_M X (some (.int)) 2 42 N XN) (O : jj_no X) (J : jx_G X.1 X.2.2.1) (hi : X.2.2.2.2.2.2.2.2.2.1.name = yJ17_compareTo.name) {Q : Int → jj_H → Prop} {E : String → Nat → jj_H → Prop} (hQ : ∀ r h, Q r h → N (some (.inl r)) h) (hE : ∀ e q h, E e q h → XN e q h) (x0 : Option Nat) (x1 : Option Nat) : ∀ (h : jj_H) (k : Nat), fC_J17_compareTo (jj_gk X.1) x0 x1 Q E h k → jj_J X 2 0 [(0, .inr (.inr (.inl x0))), (1, .inr (.inr (.inl x1)))] [] h k := by
  intro h k w
  unfold fC_J17_compareTo at w
  refine jr_aload_n (pc := 0) F (j := 0) dJ17_compareTo_0 rfl ?_
  refine jr_aload_n (pc := 1) F (j := 1) dJ17_compareTo_1 rfl ?_
  obtain ⟨hi9, w⟩ := w
  refine jr_cast (pc := 2) (ci := 27) F rfl q899 dJ17_compareTo_2 hi9 ?_
  obtain ⟨hi9, w⟩ := w
  refine jr_cV (pc := 5) (As := [_]) (ci := 27) F M (lw_V q1387 q1388 q1389 q140 q1390) dJ17_compareTo_5 hC_J17_compareTo_2 rfl (Nat.le_of_ble_eq_true rfl) (Nat.le_of_ble_eq_true rfl) (Nat.le_of_ble_eq_true rfl) rfl hi9 (Nat.zero_le _) (cC_J17_compareTo_2 J w) (fun v9 h3 q9 => ?_) (fun E9 q9 h9 w9 => jr_out F M O (hE _ _ _ w9))
  obtain ⟨r2, rfl, w⟩ := q9
  exact jr_iret (pc := 8) F M dJ17_compareTo_8 (hQ _ _ w)

theorem cC_J17_compareTo {G : jj_G} {l : Launch} (J : jx_G G l) {x0 : Option Nat} {x1 : Option Nat} {Q : Int → jj_H → Prop} {E : String → Nat → jj_H → Prop} {h : jj_H} {k : Nat} (w : fC_J17_compareTo (jj_gk G) x0 x1 Q E h k) : jj_Ct G l yJ17_compareTo (ws_ yJ17_compareTo cJ17_compareTo 2 (some (.int))) 2 42 [.inr (.inr (.inl x0)), .inr (.inr (.inl x1))] h k (jc_i Q) E := by
  refine jj_Ct.of J.1 (by decide +kernel) (Nat.le_of_ble_eq_true rfl) rfl (fun X hG hl F M O hnm => ?_)
  subst hG; subst hl
  exact sC_J17_compareTo F M O J hnm (fun r h q => ⟨r, rfl, q⟩) (fun _ _ _ q => q) _ _ _ _ w
theorem hC_J17_compareTo : yJ17_compareTo.cls = RJ17 ∧ yJ17_compareTo.cls ≠ "java/lang/invoke/MethodHandle" ∧ yJ17_compareTo.cls ≠ "java/lang/invoke/VarHandle" ∧ (parseMethodDescriptor yJ17_compareTo.desc).map (fun d => d.parameters.length) = some 1 := by decide +kernel
