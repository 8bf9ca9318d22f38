set_option maxRecDepth 100000
/-! J17_intValue()I -/
def fC_J17_intValue (gk : Nat → Nat) (x0 : Option Nat) (Q : Int → jj_H → Prop) (E : String → Nat → jj_H → Prop) (h : jj_H) (k : Nat) : Prop :=
  jp_gk9 h x0 (fun g1 =>
  Q g1 h)
theorem sC_J17_intValue {X : jj_X} {N : Option jj_AV → jj_H → Prop} {XN : String → Nat → jj_H → Prop} (F : jj_F X RJ17 cJ17_intValue 1) (M : jj_M X (some (.int)) 0 0 N XN) (O : jj_no X) (J : jx_G X.1 X.2.2.1) (hi : X.2.2.2.2.2.2.2.2.2.1.name = yJ17_intValue.name) {Q : Int → jj_H → Prop} {E : String → Nat → jj_H → Prop} (hQ : ∀ r h, Q r h → N (some (.inl r)) h) (hE : ∀ e q h, E e q h → XN e q h) (x0 : Option Nat) : ∀ (h : jj_H) (k : Nat), fC_J17_intValue (jj_gk X.1) x0 Q E h k → jj_J X 1 0 [(0, .inr (.inr (.inl x0)))] [] h k := by
  intro h k w
  unfold fC_J17_intValue at w
  refine jr_aload_n (pc := 0) F (j := 0) dJ17_intValue_0 rfl ?_
  refine jr_gk9 (pc := 1) F J q908 dJ17_intValue_1 w (fun g1 w => ?_)
  exact jr_iret (pc := 4) F M dJ17_intValue_4 (hQ _ _ w)

theorem cC_J17_intValue {G : jj_G} {l : Launch} (J : jx_G G l) {x0 : Option Nat} {Q : Int → jj_H → Prop} {E : String → Nat → jj_H → Prop} {h : jj_H} {k : Nat} (w : fC_J17_intValue (jj_gk G) x0 Q E h k) : jj_Ct G l yJ17_intValue (ws_ yJ17_intValue cJ17_intValue 1 (some (.int))) 0 0 [.inr (.inr (.inl x0))] h k (jc_i Q) E := by
  refine jj_Ct.of J.1 (by decide +kernel) (Nat.le_of_ble_eq_true rfl) rfl (fun X hG hl F M O hnm => ?_)
  subst hG; subst hl
  exact sC_J17_intValue F M O J hnm (fun r h q => ⟨r, rfl, q⟩) (fun _ _ _ q => q) _ _ _ w
theorem hC_J17_intValue : yJ17_intValue.cls = RJ17 ∧ yJ17_intValue.cls ≠ "java/lang/invoke/MethodHandle" ∧ yJ17_intValue.cls ≠ "java/lang/invoke/VarHandle" ∧ (parseMethodDescriptor yJ17_intValue.desc).map (fun d => d.parameters.length) = some 0 := by decide +kernel
/-! J17_valueOf(I)Ljava/lang/Integer; -/
def fC_J17_valueOf (gk : Nat → Nat) (x0 : Int) (Q : Option Nat → jj_H → Prop) (E : String → Nat → jj_H → Prop) (h : jj_H) (k : Nat) : Prop :=
  jj_r x0 ∧ (x0 < (-128) → (
    False)) ∧
  (¬ x0 < (-128) → (
    jj_r x0 ∧ jj_r (127 : Int) ∧ ((127 : Int) < x0 → (
      False)) ∧
    (¬ (127 : Int) < x0 → (
      jp_rIC gk (some (gk 34)) (x0 + 128) (fun g1 =>
      Q g1 h)))))
theorem sC_J17_valueOf {X : jj_X} {N : Option jj_AV → jj_H → Prop} {XN : String → Nat → jj_H → Prop} (F : jj_F X RJ17 cJ17_valueOf 1) (M : jj_M X (some ((.object "java/lang/Integer"))) 0 0 N XN) (O : jj_no X) (J : jx_G X.1 X.2.2.1) (hi : X.2.2.2.2.2.2.2.2.2.1.name = yJ17_valueOf.name) {Q : Option Nat → jj_H → Prop} {E : String → Nat → jj_H → Prop} (hQ : ∀ r h, Q r h → N (some (.inr (.inr (.inl r)))) h) (hE : ∀ e q h, E e q h → XN e q h) (x0 : Int) : ∀ (h : jj_H) (k : Nat), fC_J17_valueOf (jj_gk X.1) x0 Q E h k → jj_J X 1 0 [(0, .inl x0)] [] h k := by
  intro h k w
  unfold fC_J17_valueOf at w
  refine jr_iload_n (pc := 0) F (j := 0) dJ17_valueOf_0 rfl ?_
  refine jr_bipush (pc := 1) F dJ17_valueOf_1 (by decide +kernel) ?_
  obtain ⟨hx9, w1, w2⟩ := w
  refine jr_icmp_lt (pc := 3) (tgt := 23) F hx9 ⟨by decide, by decide⟩ dJ17_valueOf_3 rfl (fun c9 => ?_) (fun c9 => ?_)
  · have w := w1 c9
    exact (show False from w).elim
  · have w := w2 c9
    refine jr_iload_n (pc := 6) F (j := 0) dJ17_valueOf_6 rfl ?_
    refine jr_gst (pc := 7) F J 5 rfl q895 dJ17_valueOf_7 ?_
    obtain ⟨hx9, hy9, w1, w2⟩ := w
    refine jr_icmp_gt (pc := 10) (tgt := 23) F hx9 hy9 dJ17_valueOf_10 rfl (fun c9 => ?_) (fun c9 => ?_)
    · have w := w1 c9
      exact (show False from w).elim
    · have w := w2 c9
      refine jr_gst (pc := 13) F J 6 rfl q897 dJ17_valueOf_13 ?_
      refine jr_iload_n (pc := 16) F (j := 0) dJ17_valueOf_16 rfl ?_
      refine jr_sipush (pc := 17) F dJ17_valueOf_17 (by decide +kernel) ?_
      refine jr_iadd (pc := 20) F dJ17_valueOf_20 ?_
      refine jr_aaldIC (pc := 21) F J dJ17_valueOf_21 w (fun g1 w => ?_)
      exact jr_aret (pc := 22) F M (Or.inl ⟨_, rfl⟩) dJ17_valueOf_22 (hQ _ _ w)

theorem cC_J17_valueOf {G : jj_G} {l : Launch} (J : jx_G G l) {x0 : Int} {Q : Option Nat → jj_H → Prop} {E : String → Nat → jj_H → Prop} {h : jj_H} {k : Nat} (w : fC_J17_valueOf (jj_gk G) x0 Q E h k) : jj_Ct G l yJ17_valueOf (ws_ yJ17_valueOf cJ17_valueOf 1 (some ((.object "java/lang/Integer")))) 0 0 [.inl x0] h k (jc_r Q) E := by
  refine jj_Ct.of J.1 (by decide +kernel) (Nat.le_of_ble_eq_true rfl) rfl (fun X hG hl F M O hnm => ?_)
  subst hG; subst hl
  exact sC_J17_valueOf F M O J hnm (fun r h q => ⟨r, rfl, q⟩) (fun _ _ _ q => q) _ _ _ w
theorem hC_J17_valueOf : yJ17_valueOf.cls = RJ17 ∧ yJ17_valueOf.cls ≠ "java/lang/invoke/MethodHandle" ∧ yJ17_valueOf.cls ≠ "java/lang/invoke/VarHandle" ∧ (parseMethodDescriptor yJ17_valueOf.desc).map (fun d => d.parameters.length) = some 1 := by decide +kernel
/-! J34_booleanValue()Z -/
def fC_J34_booleanValue (gk : Nat → Nat) (x0 : Option Nat) (Q : Int → jj_H → Prop) (E : String → Nat → jj_H → Prop) (h : jj_H) (k : Nat) : Prop :=
  jp_gk10 h x0 (fun g1 =>
  (g1 = 0 ∨ g1 = 1) ∧ Q g1 h)
theorem sC_J34_booleanValue {X : jj_X} {N : Option jj_AV → jj_H → Prop} {XN : String → Nat → jj_H → Prop} (F : jj_F X RJ34 cJ34_booleanValue 1) (M : jj_M X (some (.boolean)) 0 0 N XN) (O : jj_no X) (J : jx_G X.1 X.2.2.1) (hi : X.2.2.2.2.2.2.2.2.2.1.name = yJ34_booleanValue.name) {Q : Int → jj_H → Prop} {E : String → Nat → jj_H → Prop} (hQ : ∀ r h, Q r h → N (some (.inl r)) h) (hE : ∀ e q h, E e q h → XN e q h) (x0 : Option Nat) : ∀ (h : jj_H) (k : Nat), fC_J34_booleanValue (jj_gk X.1) x0 Q E h k → jj_J X 1 0 [(0, .inr (.inr (.inl x0)))] [] h k := by
  intro h k w
  unfold fC_J34_booleanValue at w
  refine jr_aload_n (pc := 0) F (j := 0) dJ34_booleanValue_0 rfl ?_
  refine jr_gk10 (pc := 1) F J q3851 dJ34_booleanValue_1 w (fun g1 w => ?_)
  exact jr_zret (pc := 4) F M dJ34_booleanValue_4 w.1 (hQ _ _ w.2)

theorem cC_J34_booleanValue {G : jj_G} {l : Launch} (J : jx_G G l) {x0 : Option Nat} {Q : Int → jj_H → Prop} {E : String → Nat → jj_H → Prop} {h : jj_H} {k : Nat} (w : fC_J34_booleanValue (jj_gk G) x0 Q E h k) : jj_Ct G l yJ34_booleanValue (ws_ yJ34_booleanValue cJ34_booleanValue 1 (some (.boolean))) 0 0 [.inr (.inr (.inl x0))] h k (jc_i Q) E := by
  refine jj_Ct.of J.1 (by decide +kernel) (Nat.le_of_ble_eq_true rfl) rfl (fun X hG hl F M O hnm => ?_)
  subst hG; subst hl
  exact sC_J34_booleanValue F M O J hnm (fun r h q => ⟨r, rfl, q⟩) (fun _ _ _ q => q) _ _ _ w
theorem hC_J34_booleanValue : yJ34_booleanValue.cls = RJ34 ∧ yJ34_booleanValue.cls ≠ "java/lang/invoke/MethodHandle" ∧ yJ34_booleanValue.cls ≠ "java/lang/invoke/VarHandle" ∧ (parseMethodDescriptor yJ34_booleanValue.desc).map (fun d => d.parameters.length) = some 0 := by decide +kernel
/-! J34_valueOf(Z)Ljava/lang/Boolean; -/
def fC_J34_valueOf (gk : Nat → Nat) (x0 : Int) (Q : Option Nat → jj_H → Prop) (E : String → Nat → jj_H → Prop) (h : jj_H) (k : Nat) : Prop :=
  jj_r x0 ∧ (x0 = 0 → (
    Q (some (gk 20)) h)) ∧
  (¬ x0 = 0 → (
    Q (some (gk 21)) h))
theorem sC_J34_valueOf {X : jj_X} {N : Option jj_AV → jj_H → Prop} {XN : String → Nat → jj_H → Prop} (F : jj_F X RJ34 cJ34_valueOf 1) (M : jj_M X (some ((.object "java/lang/Boolean"))) 0 0 N XN) (O : jj_no X) (J : jx_G X.1 X.2.2.1) (hi : X.2.2.2.2.2.2.2.2.2.1.name = yJ34_valueOf.name) {Q : Option Nat → jj_H → Prop} {E : String → Nat → jj_H → Prop} (hQ : ∀ r h, Q r h → N (some (.inr (.inr (.inl r)))) h) (hE : ∀ e q h, E e q h → XN e q h) (x0 : Int) : ∀ (h : jj_H) (k : Nat), fC_J34_valueOf (jj_gk X.1) x0 Q E h k → jj_J X 1 0 [(0, .inl x0)] [] h k := by
  intro h k w
  unfold fC_J34_valueOf at w
  refine jr_iload_n (pc := 0) F (j := 0) dJ34_valueOf_0 rfl ?_
  obtain ⟨hx9, w1, w2⟩ := w
  refine jr_if_eq (pc := 1) (tgt := 10) F hx9 dJ34_valueOf_1 rfl (fun c9 => ?_) (fun c9 => ?_)
  · have w := w1 c9
    refine jr_gst (pc := 10) F J 1 rfl q2506 dJ34_valueOf_10 ?_
    exact jr_aret (pc := 13) F M (Or.inl ⟨_, rfl⟩) dJ34_valueOf_13 (hQ _ _ w)
  · have w := w2 c9
    refine jr_gst (pc := 4) F J 2 rfl q2504 dJ34_valueOf_4 ?_
    refine jr_goto (pc := 7) (tgt := 13) F dJ34_valueOf_7 rfl ?_
    exact jr_aret (pc := 13) F M (Or.inl ⟨_, rfl⟩) dJ34_valueOf_13 (hQ _ _ w)

theorem cC_J34_valueOf {G : jj_G} {l : Launch} (J : jx_G G l) {x0 : Int} {Q : Option Nat → jj_H → Prop} {E : String → Nat → jj_H → Prop} {h : jj_H} {k : Nat} (w : fC_J34_valueOf (jj_gk G) x0 Q E h k) : jj_Ct G l yJ34_valueOf (ws_ yJ34_valueOf cJ34_valueOf 1 (some ((.object "java/lang/Boolean")))) 0 0 [.inl x0] h k (jc_r Q) E := by
  refine jj_Ct.of J.1 (by decide +kernel) (Nat.le_of_ble_eq_true rfl) rfl (fun X hG hl F M O hnm => ?_)
  subst hG; subst hl
  exact sC_J34_valueOf F M O J hnm (fun r h q => ⟨r, rfl, q⟩) (fun _ _ _ q => q) _ _ _ w
theorem hC_J34_valueOf : yJ34_valueOf.cls = RJ34 ∧ yJ34_valueOf.cls ≠ "java/lang/invoke/MethodHandle" ∧ yJ34_valueOf.cls ≠ "java/lang/invoke/VarHandle" ∧ (parseMethodDescriptor yJ34_valueOf.desc).map (fun d => d.parameters.length) = some 1 := by decide +kernel
/-! J44_ordinal()I -/
def fC_J44_ordinal (gk : Nat → Nat) (x0 : Option Nat) (Q : Int → jj_H → Prop) (E : String → Nat → jj_H → Prop) (h : jj_H) (k : Nat) : Prop :=
  jp_gk11 h x0 (fun g1 =>
  Q g1 h)
theorem sC_J44_ordinal {X : jj_X} {N : Option jj_AV → jj_H → Prop} {XN : String → Nat → jj_H → Prop} (F : jj_F X RJ44 cJ44_ordinal 1) (M : jj_M X (some (.int)) 0 0 N XN) (O : jj_no X) (J : jx_G X.1 X.2.2.1) (hi : X.2.2.2.2.2.2.2.2.2.1.name = yJ44_ordinal.name) {Q : Int → jj_H → Prop} {E : String → Nat → jj_H → Prop} (hQ : ∀ r h, Q r h → N (some (.inl r)) h) (hE : ∀ e q h, E e q h → XN e q h) (x0 : Option Nat) : ∀ (h : jj_H) (k : Nat), fC_J44_ordinal (jj_gk X.1) x0 Q E h k → jj_J X 1 0 [(0, .inr (.inr (.inl x0)))] [] h k := by
  intro h k w
  unfold fC_J44_ordinal at w
  refine jr_aload_n (pc := 0) F (j := 0) dJ44_ordinal_0 rfl ?_
  refine jr_gk11 (pc := 1) F J q3853 dJ44_ordinal_1 w (fun g1 w => ?_)
  exact jr_iret (pc := 4) F M dJ44_ordinal_4 (hQ _ _ w)

theorem cC_J44_ordinal {G : jj_G} {l : Launch} (J : jx_G G l) {x0 : Option Nat} {Q : Int → jj_H → Prop} {E : String → Nat → jj_H → Prop} {h : jj_H} {k : Nat} (w : fC_J44_ordinal (jj_gk G) x0 Q E h k) : jj_Ct G l yJ44_ordinal (ws_ yJ44_ordinal cJ44_ordinal 1 (some (.int))) 0 0 [.inr (.inr (.inl x0))] h k (jc_i Q) E := by
  refine jj_Ct.of J.1 (by decide +kernel) (Nat.le_of_ble_eq_true rfl) rfl (fun X hG hl F M O hnm => ?_)
  subst hG; subst hl
  exact sC_J44_ordinal F M O J hnm (fun r h q => ⟨r, rfl, q⟩) (fun _ _ _ q => q) _ _ _ w
theorem hC_J44_ordinal : yJ44_ordinal.cls = RJ44 ∧ yJ44_ordinal.cls ≠ "java/lang/invoke/MethodHandle" ∧ yJ44_ordinal.cls ≠ "java/lang/invoke/VarHandle" ∧ (parseMethodDescriptor yJ44_ordinal.desc).map (fun d => d.parameters.length) = some 0 := by decide +kernel
/-! J3_init_3(Ljava/lang/String;Ljava/lang/Throwable;ZZ)V -/
def fC_J3_init_3 (gk : Nat → Nat) (x0 : Option Nat) (x1 : Option Nat) (x2 : Option Nat) (x3 : Int) (x4 : Int) (Q : jj_H → Prop) (E : String → Nat → jj_H → Prop) (h : jj_H) (k : Nat) : Prop :=
  jp_so x0 ∧
  jp_pr h x0 11 0 x0 (fun h1 =>
  ∀ r2 : Option Nat,
  jp_pr h1 x0 11 1 r2 (fun h3 =>
  ∀ r4 : Option Nat,
  jp_pr h3 x0 11 2 r4 (fun h5 =>
  jj_r x4 ∧ (x4 = 0 → (
    jp_pr h5 x0 11 1 none (fun h6 =>
    jp_pr h6 x0 11 3 x1 (fun h7 =>
    jp_pr h7 x0 11 0 x2 (fun h8 =>
    jj_r x3 ∧ (¬ x3 = 0 → (
      Q h8)) ∧
    (x3 = 0 → (
      jp_pr h8 x0 11 2 none (fun h9 =>
      Q h9)))))))) ∧
  (¬ x4 = 0 → (
    False)))))
theorem sC_J3_init_3 {X : jj_X} {N : Option jj_AV → jj_H → Prop} {XN : String → Nat → jj_H → Prop} (F : jj_F X RJ3 cJ3_init_3 5) (M : jj_M X (none) 1 20 N XN) (O : jj_no X) (J : jx_G X.1 X.2.2.1) (hi : X.2.2.2.2.2.2.2.2.2.1.name = yJ3_init_3.name) {Q : jj_H → Prop} {E : String → Nat → jj_H → Prop} (hQ : ∀ h, Q h → N none h) (hE : ∀ e q h, E e q h → XN e q h) (x0 : Option Nat) (x1 : Option Nat) (x2 : Option Nat) (x3 : Int) (x4 : Int) : ∀ (h : jj_H) (k : Nat), fC_J3_init_3 (jj_gk X.1) x0 x1 x2 x3 x4 Q E h k → jj_J X 5 0 [(0, .inr (.inr (.inl x0))), (1, .inr (.inr (.inl x1))), (2, .inr (.inr (.inl x2))), (3, .inl x3), (4, .inl x4)] [] h k := by
  intro h k w
  unfold fC_J3_init_3 at w
  refine jr_aload_n (pc := 0) F (j := 0) dJ3_init_3_0 rfl ?_
  obtain ⟨ha9, w⟩ := w
  refine jr_objInitO (pc := 1) F M q241 q192 q193 ha9 (Nat.le_of_ble_eq_true rfl) (Nat.le_of_ble_eq_true rfl) (Nat.le_of_ble_eq_true rfl) dJ3_init_3_1 ?_
  refine jr_aload_n (pc := 4) F (j := 0) dJ3_init_3_4 rfl ?_
  refine jr_aload_n (pc := 5) F (j := 0) dJ3_init_3_5 rfl ?_
  refine jr_pr (pc := 6) (ci := 11) (f := 0) F rfl in_X7 tyX7_ok nmX7 (Nat.le_of_ble_eq_true rfl) rfl rfl q498 dJ3_init_3_6 w (fun h1 w => ?_)
  refine jr_aload_n (pc := 9) F (j := 0) dJ3_init_3_9 rfl ?_
  refine jr_gstF (pc := 10) F J 1 rfl q242 dJ3_init_3_10 (fun r2 => ?_)
  have w := w r2
  refine jr_pr (pc := 13) (ci := 11) (f := 1) F rfl in_X7 tyX7_ok nmX7 (Nat.le_of_ble_eq_true rfl) rfl rfl q499 dJ3_init_3_13 w (fun h3 w => ?_)
  refine jr_aload_n (pc := 16) F (j := 0) dJ3_init_3_16 rfl ?_
  refine jr_gstF (pc := 17) F J 2 rfl q244 dJ3_init_3_17 (fun r4 => ?_)
  have w := w r4
  refine jr_pr (pc := 20) (ci := 11) (f := 2) F rfl in_X7 tyX7_ok nmX7 (Nat.le_of_ble_eq_true rfl) rfl rfl q500 dJ3_init_3_20 w (fun h5 w => ?_)
  refine jr_iload (pc := 23) F (j := 4) dJ3_init_3_23 rfl ?_
  obtain ⟨hx9, w1, w2⟩ := w
  refine jr_if_eq (pc := 25) (tgt := 36) F hx9 dJ3_init_3_25 rfl (fun c9 => ?_) (fun c9 => ?_)
  · have w := w1 c9
    refine jr_aload_n (pc := 36) F (j := 0) dJ3_init_3_36 rfl ?_
    refine jr_null (pc := 37) F dJ3_init_3_37 ?_
    refine jr_pr (pc := 38) (ci := 11) (f := 1) F rfl in_X7 tyX7_ok nmX7 (Nat.le_of_ble_eq_true rfl) rfl rfl q499 dJ3_init_3_38 w (fun h6 w => ?_)
    refine jr_aload_n (pc := 41) F (j := 0) dJ3_init_3_41 rfl ?_
    refine jr_aload_n (pc := 42) F (j := 1) dJ3_init_3_42 rfl ?_
    refine jr_pr (pc := 43) (ci := 11) (f := 3) F rfl in_X7 tyX7_ok nmX7 (Nat.le_of_ble_eq_true rfl) rfl rfl q497 dJ3_init_3_43 w (fun h7 w => ?_)
    refine jr_aload_n (pc := 46) F (j := 0) dJ3_init_3_46 rfl ?_
    refine jr_aload_n (pc := 47) F (j := 2) dJ3_init_3_47 rfl ?_
    refine jr_pr (pc := 48) (ci := 11) (f := 0) F rfl in_X7 tyX7_ok nmX7 (Nat.le_of_ble_eq_true rfl) rfl rfl q498 dJ3_init_3_48 w (fun h8 w => ?_)
    refine jr_iload_n (pc := 51) F (j := 3) dJ3_init_3_51 rfl ?_
    obtain ⟨hx9, w1, w2⟩ := w
    refine jr_if_ne (pc := 52) (tgt := 60) F hx9 dJ3_init_3_52 rfl (fun c9 => ?_) (fun c9 => ?_)
    · have w := w1 c9
      exact jr_vret (pc := 60) F M dJ3_init_3_60 (hQ _ w)
    · have w := w2 c9
      refine jr_aload_n (pc := 55) F (j := 0) dJ3_init_3_55 rfl ?_
      refine jr_null (pc := 56) F dJ3_init_3_56 ?_
      refine jr_pr (pc := 57) (ci := 11) (f := 2) F rfl in_X7 tyX7_ok nmX7 (Nat.le_of_ble_eq_true rfl) rfl rfl q500 dJ3_init_3_57 w (fun h9 w => ?_)
      exact jr_vret (pc := 60) F M dJ3_init_3_60 (hQ _ w)
  · have w := w2 c9
    refine jr_aload_n (pc := 28) F (j := 0) dJ3_init_3_28 rfl ?_
    exact (show False from w).elim

theorem cC_J3_init_3 {G : jj_G} {l : Launch} (J : jx_G G l) {x0 : Option Nat} {x1 : Option Nat} {x2 : Option Nat} {x3 : Int} {x4 : Int} {Q : jj_H → Prop} {E : String → Nat → jj_H → Prop} {h : jj_H} {k : Nat} (w : fC_J3_init_3 (jj_gk G) x0 x1 x2 x3 x4 Q E h k) : jj_Ct G l yJ3_init_3 (ws_ yJ3_init_3 cJ3_init_3 5 (none)) 1 20 [.inr (.inr (.inl x0)), .inr (.inr (.inl x1)), .inr (.inr (.inl x2)), .inl x3, .inl x4] h k (jc_v Q) E := by
  refine jj_Ct.of J.1 (by decide +kernel) (Nat.le_of_ble_eq_true rfl) rfl (fun X hG hl F M O hnm => ?_)
  subst hG; subst hl
  exact sC_J3_init_3 F M O J hnm (fun h q => ⟨rfl, q⟩) (fun _ _ _ q => q) _ _ _ _ _ _ _ w
theorem hC_J3_init_3 : yJ3_init_3.cls = RJ3 ∧ yJ3_init_3.cls ≠ "java/lang/invoke/MethodHandle" ∧ yJ3_init_3.cls ≠ "java/lang/invoke/VarHandle" ∧ (parseMethodDescriptor yJ3_init_3.desc).map (fun d => d.parameters.length) = some 4 := by decide +kernel
/-! J4_init_3(Ljava/lang/String;Ljava/lang/Throwable;ZZ)V -/
def fC_J4_init_3 (gk : Nat → Nat) (x0 : Option Nat) (x1 : Option Nat) (x2 : Option Nat) (x3 : Int) (x4 : Int) (Q : jj_H → Prop) (E : String → Nat → jj_H → Prop) (h : jj_H) (k : Nat) : Prop :=
  jp_so x0 ∧ fC_J3_init_3 gk x0 x1 x2 x3 x4 (fun h3 =>
  Q h3) E h 0
theorem sC_J4_init_3 {X : jj_X} {N : Option jj_AV → jj_H → Prop} {XN : String → Nat → jj_H → Prop} (F : jj_F X RJ4 cJ4_init_3 5) (M : jj_M X (none) 2 44 N XN) (O : jj_no X) (J : jx_G X.1 X.2.2.1) (hi : X.2.2.2.2.2.2.2.2.2.1.name = yJ4_init_3.name) {Q : jj_H → Prop} {E : String → Nat → jj_H → Prop} (hQ : ∀ h, Q h → N none h) (hE : ∀ e q h, E e q h → XN e q h) (x0 : Option Nat) (x1 : Option Nat) (x2 : Option Nat) (x3 : Int) (x4 : Int) : ∀ (h : jj_H) (k : Nat), fC_J4_init_3 (jj_gk X.1) x0 x1 x2 x3 x4 Q E h k → jj_J X 5 0 [(0, .inr (.inr (.inl x0))), (1, .inr (.inr (.inl x1))), (2, .inr (.inr (.inl x2))), (3, .inl x3), (4, .inl x4)] [] h k := by
  intro h k w
  unfold fC_J4_init_3 at w
  refine jr_aload_n (pc := 0) F (j := 0) dJ4_init_3_0 rfl ?_
  refine jr_aload_n (pc := 1) F (j := 1) dJ4_init_3_1 rfl ?_
  refine jr_aload_n (pc := 2) F (j := 2) dJ4_init_3_2 rfl ?_
  refine jr_iload_n (pc := 3) F (j := 3) dJ4_init_3_3 rfl ?_
  refine jr_iload (pc := 4) F (j := 4) dJ4_init_3_4 rfl ?_
  obtain ⟨hi9, w⟩ := w
  refine jr_cI (pc := 6) (As := [_, _, _, _]) F M q2447 q2448 q125 q2449 dJ4_init_3_6 rfl hC_J3_init_3.2 rfl (Nat.le_of_ble_eq_true rfl) (Nat.le_of_ble_eq_true rfl) (Nat.le_of_ble_eq_true rfl) hi9 (Nat.zero_le _) (cC_J3_init_3 J w) (fun v9 h3 q9 => ?_) (fun E9 q9 h9 w9 => jr_out F M O (hE _ _ _ w9))
  obtain ⟨rfl, w⟩ := q9
  exact jr_vret (pc := 9) F M dJ4_init_3_9 (hQ _ w)

theorem cC_J4_init_3 {G : jj_G} {l : Launch} (J : jx_G G l) {x0 : Option Nat} {x1 : Option Nat} {x2 : Option Nat} {x3 : Int} {x4 : Int} {Q : jj_H → Prop} {E : String → Nat → jj_H → Prop} {h : jj_H} {k : Nat} (w : fC_J4_init_3 (jj_gk G) x0 x1 x2 x3 x4 Q E h k) : jj_Ct G l yJ4_init_3 (ws_ yJ4_init_3 cJ4_init_3 5 (none)) 2 44 [.inr (.inr (.inl x0)), .inr (.inr (.inl x1)), .inr (.inr (.inl x2)), .inl x3, .inl x4] h k (jc_v Q) E := by
  refine jj_Ct.of J.1 (by decide +kernel) (Nat.le_of_ble_eq_true rfl) rfl (fun X hG hl F M O hnm => ?_)
  subst hG; subst hl
  exact sC_J4_init_3 F M O J hnm (fun h q => ⟨rfl, q⟩) (fun _ _ _ q => q) _ _ _ _ _ _ _ w
theorem hC_J4_init_3 : yJ4_init_3.cls = RJ4 ∧ yJ4_init_3.cls ≠ "java/lang/invoke/MethodHandle" ∧ yJ4_init_3.cls ≠ "java/lang/invoke/VarHandle" ∧ (parseMethodDescriptor yJ4_init_3.desc).map (fun d => d.parameters.length) = some 4 := by decide +kernel
/-! J3_init_3(Ljava/lang/String;Ljava/lang/Throwable;ZZ)V -/
def fC_J3_init_3_X8 (gk : Nat → Nat) (x0 : Option Nat) (x1 : Option Nat) (x2 : Option Nat) (x3 : Int) (x4 : Int) (Q : jj_H → Prop) (E : String → Nat → jj_H → Prop) (h : jj_H) (k : Nat) : Prop :=
  jp_so x0 ∧
  jp_pr h x0 12 0 x0 (fun h1 =>
  ∀ r2 : Option Nat,
  jp_pr h1 x0 12 1 r2 (fun h3 =>
  ∀ r4 : Option Nat,
  jp_pr h3 x0 12 2 r4 (fun h5 =>
  jj_r x4 ∧ (x4 = 0 → (
    jp_pr h5 x0 12 1 none (fun h6 =>
    jp_pr h6 x0 12 3 x1 (fun h7 =>
    jp_pr h7 x0 12 0 x2 (fun h8 =>
    jj_r x3 ∧ (¬ x3 = 0 → (
      Q h8)) ∧
    (x3 = 0 → (
      jp_pr h8 x0 12 2 none (fun h9 =>
      Q h9)))))))) ∧
  (¬ x4 = 0 → (
    False)))))
theorem sC_J3_init_3_X8 {X : jj_X} {N : Option jj_AV → jj_H → Prop} {XN : String → Nat → jj_H → Prop} (F : jj_F X RJ3 cJ3_init_3 5) (M : jj_M X (none) 1 20 N XN) (O : jj_no X) (J : jx_G X.1 X.2.2.1) (hi : X.2.2.2.2.2.2.2.2.2.1.name = yJ3_init_3.name) {Q : jj_H → Prop} {E : String → Nat → jj_H → Prop} (hQ : ∀ h, Q h → N none h) (hE : ∀ e q h, E e q h → XN e q h) (x0 : Option Nat) (x1 : Option Nat) (x2 : Option Nat) (x3 : Int) (x4 : Int) : ∀ (h : jj_H) (k : Nat), fC_J3_init_3_X8 (jj_gk X.1) x0 x1 x2 x3 x4 Q E h k → jj_J X 5 0 [(0, .inr (.inr (.inl x0))), (1, .inr (.inr (.inl x1))), (2, .inr (.inr (.inl x2))), (3, .inl x3), (4, .inl x4)] [] h k := by
  intro h k w
  unfold fC_J3_init_3_X8 at w
  refine jr_aload_n (pc := 0) F (j := 0) dJ3_init_3_0 rfl ?_
  obtain ⟨ha9, w⟩ := w
  refine jr_objInitO (pc := 1) F M q241 q192 q193 ha9 (Nat.le_of_ble_eq_true rfl) (Nat.le_of_ble_eq_true rfl) (Nat.le_of_ble_eq_true rfl) dJ3_init_3_1 ?_
  refine jr_aload_n (pc := 4) F (j := 0) dJ3_init_3_4 rfl ?_
  refine jr_aload_n (pc := 5) F (j := 0) dJ3_init_3_5 rfl ?_
  refine jr_pr (pc := 6) (ci := 12) (f := 0) F rfl in_X8 tyX8_ok nmX8 (Nat.le_of_ble_eq_true rfl) rfl rfl q498 dJ3_init_3_6 w (fun h1 w => ?_)
  refine jr_aload_n (pc := 9) F (j := 0) dJ3_init_3_9 rfl ?_
  refine jr_gstF (pc := 10) F J 1 rfl q242 dJ3_init_3_10 (fun r2 => ?_)
  have w := w r2
  refine jr_pr (pc := 13) (ci := 12) (f := 1) F rfl in_X8 tyX8_ok nmX8 (Nat.le_of_ble_eq_true rfl) rfl rfl q499 dJ3_init_3_13 w (fun h3 w => ?_)
  refine jr_aload_n (pc := 16) F (j := 0) dJ3_init_3_16 rfl ?_
  refine jr_gstF (pc := 17) F J 2 rfl q244 dJ3_init_3_17 (fun r4 => ?_)
  have w := w r4
  refine jr_pr (pc := 20) (ci := 12) (f := 2) F rfl in_X8 tyX8_ok nmX8 (Nat.le_of_ble_eq_true rfl) rfl rfl q500 dJ3_init_3_20 w (fun h5 w => ?_)
  refine jr_iload (pc := 23) F (j := 4) dJ3_init_3_23 rfl ?_
  obtain ⟨hx9, w1, w2⟩ := w
  refine jr_if_eq (pc := 25) (tgt := 36) F hx9 dJ3_init_3_25 rfl (fun c9 => ?_) (fun c9 => ?_)
  · have w := w1 c9
    refine jr_aload_n (pc := 36) F (j := 0) dJ3_init_3_36 rfl ?_
    refine jr_null (pc := 37) F dJ3_init_3_37 ?_
    refine jr_pr (pc := 38) (ci := 12) (f := 1) F rfl in_X8 tyX8_ok nmX8 (Nat.le_of_ble_eq_true rfl) rfl rfl q499 dJ3_init_3_38 w (fun h6 w => ?_)
    refine jr_aload_n (pc := 41) F (j := 0) dJ3_init_3_41 rfl ?_
    refine jr_aload_n (pc := 42) F (j := 1) dJ3_init_3_42 rfl ?_
    refine jr_pr (pc := 43) (ci := 12) (f := 3) F rfl in_X8 tyX8_ok nmX8 (Nat.le_of_ble_eq_true rfl) rfl rfl q497 dJ3_init_3_43 w (fun h7 w => ?_)
    refine jr_aload_n (pc := 46) F (j := 0) dJ3_init_3_46 rfl ?_
    refine jr_aload_n (pc := 47) F (j := 2) dJ3_init_3_47 rfl ?_
    refine jr_pr (pc := 48) (ci := 12) (f := 0) F rfl in_X8 tyX8_ok nmX8 (Nat.le_of_ble_eq_true rfl) rfl rfl q498 dJ3_init_3_48 w (fun h8 w => ?_)
    refine jr_iload_n (pc := 51) F (j := 3) dJ3_init_3_51 rfl ?_
    obtain ⟨hx9, w1, w2⟩ := w
    refine jr_if_ne (pc := 52) (tgt := 60) F hx9 dJ3_init_3_52 rfl (fun c9 => ?_) (fun c9 => ?_)
    · have w := w1 c9
      exact jr_vret (pc := 60) F M dJ3_init_3_60 (hQ _ w)
    · have w := w2 c9
      refine jr_aload_n (pc := 55) F (j := 0) dJ3_init_3_55 rfl ?_
      refine jr_null (pc := 56) F dJ3_init_3_56 ?_
      refine jr_pr (pc := 57) (ci := 12) (f := 2) F rfl in_X8 tyX8_ok nmX8 (Nat.le_of_ble_eq_true rfl) rfl rfl q500 dJ3_init_3_57 w (fun h9 w => ?_)
      exact jr_vret (pc := 60) F M dJ3_init_3_60 (hQ _ w)
  · have w := w2 c9
    refine jr_aload_n (pc := 28) F (j := 0) dJ3_init_3_28 rfl ?_
    exact (show False from w).elim

theorem cC_J3_init_3_X8 {G : jj_G} {l : Launch} (J : jx_G G l) {x0 : Option Nat} {x1 : Option Nat} {x2 : Option Nat} {x3 : Int} {x4 : Int} {Q : jj_H → Prop} {E : String → Nat → jj_H → Prop} {h : jj_H} {k : Nat} (w : fC_J3_init_3_X8 (jj_gk G) x0 x1 x2 x3 x4 Q E h k) : jj_Ct G l yJ3_init_3 (ws_ yJ3_init_3 cJ3_init_3 5 (none)) 1 20 [.inr (.inr (.inl x0)), .inr (.inr (.inl x1)), .inr (.inr (.inl x2)), .inl x3, .inl x4] h k (jc_v Q) E := by
  refine jj_Ct.of J.1 (by decide +kernel) (Nat.le_of_ble_eq_true rfl) rfl (fun X hG hl F M O hnm => ?_)
  subst hG; subst hl
  exact sC_J3_init_3_X8 F M O J hnm (fun h q => ⟨rfl, q⟩) (fun _ _ _ q => q) _ _ _ _ _ _ _ w
theorem hC_J3_init_3_X8 : yJ3_init_3.cls = RJ3 ∧ yJ3_init_3.cls ≠ "java/lang/invoke/MethodHandle" ∧ yJ3_init_3.cls ≠ "java/lang/invoke/VarHandle" ∧ (parseMethodDescriptor yJ3_init_3.desc).map (fun d => d.parameters.length) = some 4 := by decide +kernel
/-! J4_init_3(Ljava/lang/String;Ljava/lang/Throwable;ZZ)V -/
def fC_J4_init_3_X8 (gk : Nat → Nat) (x0 : Option Nat) (x1 : Option Nat) (x2 : Option Nat) (x3 : Int) (x4 : Int) (Q : jj_H → Prop) (E : String → Nat → jj_H → Prop) (h : jj_H) (k : Nat) : Prop :=
  jp_so x0 ∧ fC_J3_init_3_X8 gk x0 x1 x2 x3 x4 (fun h3 =>
  Q h3) E h 0
theorem sC_J4_init_3_X8 {X : jj_X} {N : Option jj_AV → jj_H → Prop} {XN : String → Nat → jj_H → Prop} (F : jj_F X RJ4 cJ4_init_3 5) (M : jj_M X (none) 2 44 N XN) (O : jj_no X) (J : jx_G X.1 X.2.2.1) (hi : X.2.2.2.2.2.2.2.2.2.1.name = yJ4_init_3.name) {Q : jj_H → Prop} {E : String → Nat → jj_H → Prop} (hQ : ∀ h, Q h → N none h) (hE : ∀ e q h, E e q h → XN e q h) (x0 : Option Nat) (x1 : Option Nat) (x2 : Option Nat) (x3 : Int) (x4 : Int) : ∀ (h : jj_H) (k : Nat), fC_J4_init_3_X8 (jj_gk X.1) x0 x1 x2 x3 x4 Q E h k → jj_J X 5 0 [(0, .inr (.inr (.inl x0))), (1, .inr (.inr (.inl x1))), (2, .inr (.inr (.inl x2))), (3, .inl x3), (4, .inl x4)] [] h k := by
  intro h k w
  unfold fC_J4_init_3_X8 at w
  refine jr_aload_n (pc := 0) F (j := 0) dJ4_init_3_0 rfl ?_
  refine jr_aload_n (pc := 1) F (j := 1) dJ4_init_3_1 rfl ?_
  refine jr_aload_n (pc := 2) F (j := 2) dJ4_init_3_2 rfl ?_
  refine jr_iload_n (pc := 3) F (j := 3) dJ4_init_3_3 rfl ?_
  refine jr_iload (pc := 4) F (j := 4) dJ4_init_3_4 rfl ?_
  obtain ⟨hi9, w⟩ := w
  refine jr_cI (pc := 6) (As := [_, _, _, _]) F M q2447 q2448 q125 q2449 dJ4_init_3_6 rfl hC_J3_init_3_X8.2 rfl (Nat.le_of_ble_eq_true rfl) (Nat.le_of_ble_eq_true rfl) (Nat.le_of_ble_eq_true rfl) hi9 (Nat.zero_le _) (cC_J3_init_3_X8 J w) (fun v9 h3 q9 => ?_) (fun E9 q9 h9 w9 => jr_out F M O (hE _ _ _ w9))
  obtain ⟨rfl, w⟩ := q9
  exact jr_vret (pc := 9) F M dJ4_init_3_9 (hQ _ w)

theorem cC_J4_init_3_X8 {G : jj_G} {l : Launch} (J : jx_G G l) {x0 : Option Nat} {x1 : Option Nat} {x2 : Option Nat} {x3 : Int} {x4 : Int} {Q : jj_H → Prop} {E : String → Nat → jj_H → Prop} {h : jj_H} {k : Nat} (w : fC_J4_init_3_X8 (jj_gk G) x0 x1 x2 x3 x4 Q E h k) : jj_Ct G l yJ4_init_3 (ws_ yJ4_init_3 cJ4_init_3 5 (none)) 2 44 [.inr (.inr (.inl x0)), .inr (.inr (.inl x1)), .inr (.inr (.inl x2)), .inl x3, .inl x4] h k (jc_v Q) E := by
  refine jj_Ct.of J.1 (by decide +kernel) (Nat.le_of_ble_eq_true rfl) rfl (fun X hG hl F M O hnm => ?_)
  subst hG; subst hl
  exact sC_J4_init_3_X8 F M O J hnm (fun h q => ⟨rfl, q⟩) (fun _ _ _ q => q) _ _ _ _ _ _ _ w
theorem hC_J4_init_3_X8 : yJ4_init_3.cls = RJ4 ∧ yJ4_init_3.cls ≠ "java/lang/invoke/MethodHandle" ∧ yJ4_init_3.cls ≠ "java/lang/invoke/VarHandle" ∧ (parseMethodDescriptor yJ4_init_3.desc).map (fun d => d.parameters.length) = some 4 := by decide +kernel
/-! J3_init_3(Ljava/lang/String;Ljava/lang/Throwable;ZZ)V -/
def fC_J3_init_3_X14 (gk : Nat → Nat) (x0 : Option Nat) (x1 : Option Nat) (x2 : Option Nat) (x3 : Int) (x4 : Int) (Q : jj_H → Prop) (E : String → Nat → jj_H → Prop) (h : jj_H) (k : Nat) : Prop :=
  jp_so x0 ∧
  jp_pr h x0 13 0 x0 (fun h1 =>
  ∀ r2 : Option Nat,
  jp_pr h1 x0 13 1 r2 (fun h3 =>
  ∀ r4 : Option Nat,
  jp_pr h3 x0 13 2 r4 (fun h5 =>
  jj_r x4 ∧ (x4 = 0 → (
    jp_pr h5 x0 13 1 none (fun h6 =>
    jp_pr h6 x0 13 3 x1 (fun h7 =>
    jp_pr h7 x0 13 0 x2 (fun h8 =>
    jj_r x3 ∧ (¬ x3 = 0 → (
      Q h8)) ∧
    (x3 = 0 → (
      jp_pr h8 x0 13 2 none (fun h9 =>
      Q h9)))))))) ∧
  (¬ x4 = 0 → (
    False)))))
theorem sC_J3_init_3_X14 {X : jj_X} {N : Option jj_AV → jj_H → Prop} {XN : String → Nat → jj_H → Prop} (F : jj_F X RJ3 cJ3_init_3 5) (M : jj_M X (none) 1 20 N XN) (O : jj_no X) (J : jx_G X.1 X.2.2.1) (hi : X.2.2.2.2.2.2.2.2.2.1.name = yJ3_init_3.name) {Q : jj_H → Prop} {E : String → Nat → jj_H → Prop} (hQ : ∀ h, Q h → N none h) (hE : ∀ e q h, E e q h → XN e q h) (x0 : Option Nat) (x1 : Option Nat) (x2 : Option Nat) (x3 : Int) (x4 : Int) : ∀ (h : jj_H) (k : Nat), fC_J3_init_3_X14 (jj_gk X.1) x0 x1 x2 x3 x4 Q E h k → jj_J X 5 0 [(0, .inr (.inr (.inl x0))), (1, .inr (.inr (.inl x1))), (2, .inr (.inr (.inl x2))), (3, .inl x3), (4, .inl x4)] [] h k := by
  intro h k w
  unfold fC_J3_init_3_X14 at w
  refine jr_aload_n (pc := 0) F (j := 0) dJ3_init_3_0 rfl ?_
  obtain ⟨ha9, w⟩ := w
  refine jr_objInitO (pc := 1) F M q241 q192 q193 ha9 (Nat.le_of_ble_eq_true rfl) (Nat.le_of_ble_eq_true rfl) (Nat.le_of_ble_eq_true rfl) dJ3_init_3_1 ?_
  refine jr_aload_n (pc := 4) F (j := 0) dJ3_init_3_4 rfl ?_
  refine jr_aload_n (pc := 5) F (j := 0) dJ3_init_3_5 rfl ?_
  refine jr_pr (pc := 6) (ci := 13) (f := 0) F rfl in_X14 tyX14_ok nmX14 (Nat.le_of_ble_eq_true rfl) rfl rfl q498 dJ3_init_3_6 w (fun h1 w => ?_)
  refine jr_aload_n (pc := 9) F (j := 0) dJ3_init_3_9 rfl ?_
  refine jr_gstF (pc := 10) F J 1 rfl q242 dJ3_init_3_10 (fun r2 => ?_)
  have w := w r2
  refine jr_pr (pc := 13) (ci := 13) (f := 1) F rfl in_X14 tyX14_ok nmX14 (Nat.le_of_ble_eq_true rfl) rfl rfl q499 dJ3_init_3_13 w (fun h3 w => ?_)
  refine jr_aload_n (pc := 16) F (j := 0) dJ3_init_3_16 rfl ?_
  refine jr_gstF (pc := 17) F J 2 rfl q244 dJ3_init_3_17 (fun r4 => ?_)
  have w := w r4
  refine jr_pr (pc := 20) (ci := 13) (f := 2) F rfl in_X14 tyX14_ok nmX14 (Nat.le_of_ble_eq_true rfl) rfl rfl q500 dJ3_init_3_20 w (fun h5 w => ?_)
  refine jr_iload (pc := 23) F (j := 4) dJ3_init_3_23 rfl ?_
  obtain ⟨hx9, w1, w2⟩ := w
  refine jr_if_eq (pc := 25) (tgt := 36) F hx9 dJ3_init_3_25 rfl (fun c9 => ?_) (fun c9 => ?_)
  · have w := w1 c9
    refine jr_aload_n (pc := 36) F (j := 0) dJ3_init_3_36 rfl ?_
    refine jr_null (pc := 37) F dJ3_init_3_37 ?_
    refine jr_pr (pc := 38) (ci := 13) (f := 1) F rfl in_X14 tyX14_ok nmX14 (Nat.le_of_ble_eq_true rfl) rfl rfl q499 dJ3_init_3_38 w (fun h6 w => ?_)
    refine jr_aload_n (pc := 41) F (j := 0) dJ3_init_3_41 rfl ?_
    refine jr_aload_n (pc := 42) F (j := 1) dJ3_init_3_42 rfl ?_
    refine jr_pr (pc := 43) (ci := 13) (f := 3) F rfl in_X14 tyX14_ok nmX14 (Nat.le_of_ble_eq_true rfl) rfl rfl q497 dJ3_init_3_43 w (fun h7 w => ?_)
    refine jr_aload_n (pc := 46) F (j := 0) dJ3_init_3_46 rfl ?_
    refine jr_aload_n (pc := 47) F (j := 2) dJ3_init_3_47 rfl ?_
    refine jr_pr (pc := 48) (ci := 13) (f := 0) F rfl in_X14 tyX14_ok nmX14 (Nat.le_of_ble_eq_true rfl) rfl rfl q498 dJ3_init_3_48 w (fun h8 w => ?_)
    refine jr_iload_n (pc := 51) F (j := 3) dJ3_init_3_51 rfl ?_
    obtain ⟨hx9, w1, w2⟩ := w
    refine jr_if_ne (pc := 52) (tgt := 60) F hx9 dJ3_init_3_52 rfl (fun c9 => ?_) (fun c9 => ?_)
    · have w := w1 c9
      exact jr_vret (pc := 60) F M dJ3_init_3_60 (hQ _ w)
    · have w := w2 c9
      refine jr_aload_n (pc := 55) F (j := 0) dJ3_init_3_55 rfl ?_
      refine jr_null (pc := 56) F dJ3_init_3_56 ?_
      refine jr_pr (pc := 57) (ci := 13) (f := 2) F rfl in_X14 tyX14_ok nmX14 (Nat.le_of_ble_eq_true rfl) rfl rfl q500 dJ3_init_3_57 w (fun h9 w => ?_)
      exact jr_vret (pc := 60) F M dJ3_init_3_60 (hQ _ w)
  · have w := w2 c9
    refine jr_aload_n (pc := 28) F (j := 0) dJ3_init_3_28 rfl ?_
    exact (show False from w).elim

theorem cC_J3_init_3_X14 {G : jj_G} {l : Launch} (J : jx_G G l) {x0 : Option Nat} {x1 : Option Nat} {x2 : Option Nat} {x3 : Int} {x4 : Int} {Q : jj_H → Prop} {E : String → Nat → jj_H → Prop} {h : jj_H} {k : Nat} (w : fC_J3_init_3_X14 (jj_gk G) x0 x1 x2 x3 x4 Q E h k) : jj_Ct G l yJ3_init_3 (ws_ yJ3_init_3 cJ3_init_3 5 (none)) 1 20 [.inr (.inr (.inl x0)), .inr (.inr (.inl x1)), .inr (.inr (.inl x2)), .inl x3, .inl x4] h k (jc_v Q) E := by
  refine jj_Ct.of J.1 (by decide +kernel) (Nat.le_of_ble_eq_true rfl) rfl (fun X hG hl F M O hnm => ?_)
  subst hG; subst hl
  exact sC_J3_init_3_X14 F M O J hnm (fun h q => ⟨rfl, q⟩) (fun _ _ _ q => q) _ _ _ _ _ _ _ w
theorem hC_J3_init_3_X14 : yJ3_init_3.cls = RJ3 ∧ yJ3_init_3.cls ≠ "java/lang/invoke/MethodHandle" ∧ yJ3_init_3.cls ≠ "java/lang/invoke/VarHandle" ∧ (parseMethodDescriptor yJ3_init_3.desc).map (fun d => d.parameters.length) = some 4 := by decide +kernel
/-! J4_init_3(Ljava/lang/String;Ljava/lang/Throwable;ZZ)V -/
def fC_J4_init_3_X14 (gk : Nat → Nat) (x0 : Option Nat) (x1 : Option Nat) (x2 : Option Nat) (x3 : Int) (x4 : Int) (Q : jj_H → Prop) (E : String → Nat → jj_H → Prop) (h : jj_H) (k : Nat) : Prop :=
  jp_so x0 ∧ fC_J3_init_3_X14 gk x0 x1 x2 x3 x4 (fun h3 =>
  Q h3) E h 0
theorem sC_J4_init_3_X14 {X : jj_X} {N : Option jj_AV → jj_H → Prop} {XN : String → Nat → jj_H → Prop} (F : jj_F X RJ4 cJ4_init_3 5) (M : jj_M X (none) 2 44 N XN) (O : jj_no X) (J : jx_G X.1 X.2.2.1) (hi : X.2.2.2.2.2.2.2.2.2.1.name = yJ4_init_3.name) {Q : jj_H → Prop} {E : String → Nat → jj_H → Prop} (hQ : ∀ h, Q h → N none h) (hE : ∀ e q h, E e q h → XN e q h) (x0 : Option Nat) (x1 : Option Nat) (x2 : Option Nat) (x3 : Int) (x4 : Int) : ∀ (h : jj_H) (k : Nat), fC_J4_init_3_X14 (jj_gk X.1) x0 x1 x2 x3 x4 Q E h k → jj_J X 5 0 [(0, .inr (.inr (.inl x0))), (1, .inr (.inr (.inl x1))), (2, .inr (.inr (.inl x2))), (3, .inl x3), (4, .inl x4)] [] h k := by
  intro h k w
  unfold fC_J4_init_3_X14 at w
  refine jr_aload_n (pc := 0) F (j := 0) dJ4_init_3_0 rfl ?_
  refine jr_aload_n (pc := 1) F (j := 1) dJ4_init_3_1 rfl ?_
  refine jr_aload_n (pc := 2) F (j := 2) dJ4_init_3_2 rfl ?_
  refine jr_iload_n (pc := 3) F (j := 3) dJ4_init_3_3 rfl ?_
  refine jr_iload (pc := 4) F (j := 4) dJ4_init_3_4 rfl ?_
  obtain ⟨hi9, w⟩ := w
  refine jr_cI (pc := 6) (As := [_, _, _, _]) F M q2447 q2448 q125 q2449 dJ4_init_3_6 rfl hC_J3_init_3_X14.2 rfl (Nat.le_of_ble_eq_true rfl) (Nat.le_of_ble_eq_true rfl) (Nat.le_of_ble_eq_true rfl) hi9 (Nat.zero_le _) (cC_J3_init_3_X14 J w) (fun v9 h3 q9 => ?_) (fun E9 q9 h9 w9 => jr_out F M O (hE _ _ _ w9))
  obtain ⟨rfl, w⟩ := q9
  exact jr_vret (pc := 9) F M dJ4_init_3_9 (hQ _ w)

theorem cC_J4_init_3_X14 {G : jj_G} {l : Launch} (J : jx_G G l) {x0 : Option Nat} {x1 : Option Nat} {x2 : Option Nat} {x3 : Int} {x4 : Int} {Q : jj_H → Prop} {E : String → Nat → jj_H → Prop} {h : jj_H} {k : Nat} (w : fC_J4_init_3_X14 (jj_gk G) x0 x1 x2 x3 x4 Q E h k) : jj_Ct G l yJ4_init_3 (ws_ yJ4_init_3 cJ4_init_3 5 (none)) 2 44 [.inr (.inr (.inl x0)), .inr (.inr (.inl x1)), .inr (.inr (.inl x2)), .inl x3, .inl x4] h k (jc_v Q) E := by
  refine jj_Ct.of J.1 (by decide +kernel) (Nat.le_of_ble_eq_true rfl) rfl (fun X hG hl F M O hnm => ?_)
  subst hG; subst hl
  exact sC_J4_init_3_X14 F M O J hnm (fun h q => ⟨rfl, q⟩) (fun _ _ _ q => q) _ _ _ _ _ _ _ w
theorem hC_J4_init_3_X14 : yJ4_init_3.cls = RJ4 ∧ yJ4_init_3.cls ≠ "java/lang/invoke/MethodHandle" ∧ yJ4_init_3.cls ≠ "java/lang/invoke/VarHandle" ∧ (parseMethodDescriptor yJ4_init_3.desc).map (fun d => d.parameters.length) = some 4 := by decide +kernel
