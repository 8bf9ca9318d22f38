set_option maxRecDepth 100000
/-! J23_colorOf(Ljava/util/TreeMap$Entry;)Z -/
def fC_J23_colorOf (gk : Nat → Nat) (x0 : Option Nat) (Q : Int → jj_H → Prop) (E : String → Nat → jj_H → Prop) (h : jj_H) (k : Nat) : Prop :=
  (¬ x0 = none → (
    jp_gi h x0 24 5 (fun g1 =>
    (g1 = 0 ∨ g1 = 1) ∧ Q g1 h))) ∧
  (x0 = none → (
    Q 1 h))
theorem sC_J23_colorOf {X : jj_X} {N : Option jj_AV → jj_H → Prop} {XN : String → Nat → jj_H → Prop} (F : jj_F X RJ23 cJ23_colorOf 1) (M : jj_M X (some (.boolean)) 0 0 N XN) (O : jj_no X) (J : jx_G X.1 X.2.2.1) (hi : X.2.2.2.2.2.2.2.2.2.1.name = yJ23_colorOf.name) {Q : Int → jj_H → Prop} {E : String → Nat → jj_H → Prop} (hQ : ∀ r h, Q r h → N (some (.inl r)) h) (hE : ∀ e q h, E e q h → XN e q h) (x0 : Option Nat) : ∀ (h : jj_H) (k : Nat), fC_J23_colorOf (jj_gk X.1) x0 Q E h k → jj_J X 1 0 [(0, .inr (.inr (.inl x0)))] [] h k := by
  intro h k w
  unfold fC_J23_colorOf at w
  refine jr_aload_n (pc := 0) F (j := 0) dJ23_colorOf_0 rfl ?_
  obtain ⟨w1, w2⟩ := w
  refine jr_ifnonnull (pc := 1) (tgt := 8) F dJ23_colorOf_1 rfl (fun c9 => ?_) (fun c9 => ?_)
  · have w := w1 c9
    refine jr_aload_n (pc := 8) F (j := 0) dJ23_colorOf_8 rfl ?_
    refine jr_gi (pc := 9) (ci := 24) (f := 5) F rfl in_J43 (Nat.le_of_ble_eq_true rfl) q2244 dJ23_colorOf_9 w (fun g1 w => ?_)
    exact jr_zret (pc := 12) F M dJ23_colorOf_12 w.1 (hQ _ _ w.2)
  · have w := w2 c9
    refine jr_iconst (pc := 4) F dJ23_colorOf_4 ?_
    refine jr_goto (pc := 5) (tgt := 12) F dJ23_colorOf_5 rfl ?_
    exact jr_zret (pc := 12) F M dJ23_colorOf_12 (by decide) (hQ _ _ w)

theorem cC_J23_colorOf {G : jj_G} {l : Launch} (J : jx_G G l) {x0 : Option Nat} {Q : Int → jj_H → Prop} {E : String → Nat → jj_H → Prop} {h : jj_H} {k : Nat} (w : fC_J23_colorOf (jj_gk G) x0 Q E h k) : jj_Ct G l yJ23_colorOf (ws_ yJ23_colorOf cJ23_colorOf 1 (some (.boolean))) 0 0 [.inr (.inr (.inl x0))] h k (jc_i Q) E := by
  refine jj_Ct.of J.1 (by decide +kernel) (Nat.le_of_ble_eq_true rfl) rfl (fun X hG hl F M O hnm => ?_)
  subst hG; subst hl
  exact sC_J23_colorOf F M O J hnm (fun r h q => ⟨r, rfl, q⟩) (fun _ _ _ q => q) _ _ _ w
theorem hC_J23_colorOf : yJ23_colorOf.cls = RJ23 ∧ yJ23_colorOf.cls ≠ "java/lang/invoke/MethodHandle" ∧ yJ23_colorOf.cls ≠ "java/lang/invoke/VarHandle" ∧ (parseMethodDescriptor yJ23_colorOf.desc).map (fun d => d.parameters.length) = some 1 := by decide +kernel
/-! J23_leftOf(Ljava/util/TreeMap$Entry;)Ljava/util/TreeMap$Entry; -/
def fC_J23_leftOf (gk : Nat → Nat) (x0 : Option Nat) (Q : Option Nat → jj_H → Prop) (E : String → Nat → jj_H → Prop) (h : jj_H) (k : Nat) : Prop :=
  (¬ x0 = none → (
    jp_gr h x0 24 2 (fun g1 =>
    Q g1 h))) ∧
  (x0 = none → (
    Q none h))
theorem sC_J23_leftOf {X : jj_X} {N : Option jj_AV → jj_H → Prop} {XN : String → Nat → jj_H → Prop} (F : jj_F X RJ23 cJ23_leftOf 1) (M : jj_M X (some ((.object "java/util/TreeMap$Entry"))) 0 0 N XN) (O : jj_no X) (J : jx_G X.1 X.2.2.1) (hi : X.2.2.2.2.2.2.2.2.2.1.name = yJ23_leftOf.name) {Q : Option Nat → jj_H → Prop} {E : String → Nat → jj_H → Prop} (hQ : ∀ r h, Q r h → N (some (.inr (.inr (.inl r)))) h) (hE : ∀ e q h, E e q h → XN e q h) (x0 : Option Nat) : ∀ (h : jj_H) (k : Nat), fC_J23_leftOf (jj_gk X.1) x0 Q E h k → jj_J X 1 0 [(0, .inr (.inr (.inl x0)))] [] h k := by
  intro h k w
  unfold fC_J23_leftOf at w
  refine jr_aload_n (pc := 0) F (j := 0) dJ23_leftOf_0 rfl ?_
  obtain ⟨w1, w2⟩ := w
  refine jr_ifnonnull (pc := 1) (tgt := 8) F dJ23_leftOf_1 rfl (fun c9 => ?_) (fun c9 => ?_)
  · have w := w1 c9
    refine jr_aload_n (pc := 8) F (j := 0) dJ23_leftOf_8 rfl ?_
    refine jr_gr (pc := 9) (ci := 24) (f := 2) F rfl in_J43 (Nat.le_of_ble_eq_true rfl) q2239 dJ23_leftOf_9 w (fun g1 w => ?_)
    exact jr_aret (pc := 12) F M (Or.inl ⟨_, rfl⟩) dJ23_leftOf_12 (hQ _ _ w)
  · have w := w2 c9
    refine jr_null (pc := 4) F dJ23_leftOf_4 ?_
    refine jr_goto (pc := 5) (tgt := 12) F dJ23_leftOf_5 rfl ?_
    exact jr_aret (pc := 12) F M (Or.inl ⟨_, rfl⟩) dJ23_leftOf_12 (hQ _ _ w)

theorem cC_J23_leftOf {G : jj_G} {l : Launch} (J : jx_G G l) {x0 : Option Nat} {Q : Option Nat → jj_H → Prop} {E : String → Nat → jj_H → Prop} {h : jj_H} {k : Nat} (w : fC_J23_leftOf (jj_gk G) x0 Q E h k) : jj_Ct G l yJ23_leftOf (ws_ yJ23_leftOf cJ23_leftOf 1 (some ((.object "java/util/TreeMap$Entry")))) 0 0 [.inr (.inr (.inl x0))] h k (jc_r Q) E := by
  refine jj_Ct.of J.1 (by decide +kernel) (Nat.le_of_ble_eq_true rfl) rfl (fun X hG hl F M O hnm => ?_)
  subst hG; subst hl
  exact sC_J23_leftOf F M O J hnm (fun r h q => ⟨r, rfl, q⟩) (fun _ _ _ q => q) _ _ _ w
theorem hC_J23_leftOf : yJ23_leftOf.cls = RJ23 ∧ yJ23_leftOf.cls ≠ "java/lang/invoke/MethodHandle" ∧ yJ23_leftOf.cls ≠ "java/lang/invoke/VarHandle" ∧ (parseMethodDescriptor yJ23_leftOf.desc).map (fun d => d.parameters.length) = some 1 := by decide +kernel
/-! J23_parentOf(Ljava/util/TreeMap$Entry;)Ljava/util/TreeMap$Entry; -/
def fC_J23_parentOf (gk : Nat → Nat) (x0 : Option Nat) (Q : Option Nat → jj_H → Prop) (E : String → Nat → jj_H → Prop) (h : jj_H) (k : Nat) : Prop :=
  (¬ x0 = none → (
    jp_gr h x0 24 4 (fun g1 =>
    Q g1 h))) ∧
  (x0 = none → (
    Q none h))
theorem sC_J23_parentOf {X : jj_X} {N : Option jj_AV → jj_H → Prop} {XN : String → Nat → jj_H → Prop} (F : jj_F X RJ23 cJ23_parentOf 1) (M : jj_M X (some ((.object "java/util/TreeMap$Entry"))) 0 0 N XN) (O : jj_no X) (J : jx_G X.1 X.2.2.1) (hi : X.2.2.2.2.2.2.2.2.2.1.name = yJ23_parentOf.name) {Q : Option Nat → jj_H → Prop} {E : String → Nat → jj_H → Prop} (hQ : ∀ r h, Q r h → N (some (.inr (.inr (.inl r)))) h) (hE : ∀ e q h, E e q h → XN e q h) (x0 : Option Nat) : ∀ (h : jj_H) (k : Nat), fC_J23_parentOf (jj_gk X.1) x0 Q E h k → jj_J X 1 0 [(0, .inr (.inr (.inl x0)))] [] h k := by
  intro h k w
  unfold fC_J23_parentOf at w
  refine jr_aload_n (pc := 0) F (j := 0) dJ23_parentOf_0 rfl ?_
  obtain ⟨w1, w2⟩ := w
  refine jr_ifnonnull (pc := 1) (tgt := 8) F dJ23_parentOf_1 rfl (fun c9 => ?_) (fun c9 => ?_)
  · have w := w1 c9
    refine jr_aload_n (pc := 8) F (j := 0) dJ23_parentOf_8 rfl ?_
    refine jr_gr (pc := 9) (ci := 24) (f := 4) F rfl in_J43 (Nat.le_of_ble_eq_true rfl) q2242 dJ23_parentOf_9 w (fun g1 w => ?_)
    exact jr_aret (pc := 12) F M (Or.inl ⟨_, rfl⟩) dJ23_parentOf_12 (hQ _ _ w)
  · have w := w2 c9
    refine jr_null (pc := 4) F dJ23_parentOf_4 ?_
    refine jr_goto (pc := 5) (tgt := 12) F dJ23_parentOf_5 rfl ?_
    exact jr_aret (pc := 12) F M (Or.inl ⟨_, rfl⟩) dJ23_parentOf_12 (hQ _ _ w)

theorem cC_J23_parentOf {G : jj_G} {l : Launch} (J : jx_G G l) {x0 : Option Nat} {Q : Option Nat → jj_H → Prop} {E : String → Nat → jj_H → Prop} {h : jj_H} {k : Nat} (w : fC_J23_parentOf (jj_gk G) x0 Q E h k) : jj_Ct G l yJ23_parentOf (ws_ yJ23_parentOf cJ23_parentOf 1 (some ((.object "java/util/TreeMap$Entry")))) 0 0 [.inr (.inr (.inl x0))] h k (jc_r Q) E := by
  refine jj_Ct.of J.1 (by decide +kernel) (Nat.le_of_ble_eq_true rfl) rfl (fun X hG hl F M O hnm => ?_)
  subst hG; subst hl
  exact sC_J23_parentOf F M O J hnm (fun r h q => ⟨r, rfl, q⟩) (fun _ _ _ q => q) _ _ _ w
theorem hC_J23_parentOf : yJ23_parentOf.cls = RJ23 ∧ yJ23_parentOf.cls ≠ "java/lang/invoke/MethodHandle" ∧ yJ23_parentOf.cls ≠ "java/lang/invoke/VarHandle" ∧ (parseMethodDescriptor yJ23_parentOf.desc).map (fun d => d.parameters.length) = some 1 := by decide +kernel
/-! J23_rightOf(Ljava/util/TreeMap$Entry;)Ljava/util/TreeMap$Entry; -/
def fC_J23_rightOf (gk : Nat → Nat) (x0 : Option Nat) (Q : Option Nat → jj_H → Prop) (E : String → Nat → jj_H → Prop) (h : jj_H) (k : Nat) : Prop :=
  (¬ x0 = none → (
    jp_gr h x0 24 3 (fun g1 =>
    Q g1 h))) ∧
  (x0 = none → (
    Q none h))
theorem sC_J23_rightOf {X : jj_X} {N : Option jj_AV → jj_H → Prop} {XN : String → Nat → jj_H → Prop} (F : jj_F X RJ23 cJ23_rightOf 1) (M : jj_M X (some ((.object "java/util/TreeMap$Entry"))) 0 0 N XN) (O : jj_no X) (J : jx_G X.1 X.2.2.1) (hi : X.2.2.2.2.2.2.2.2.2.1.name = yJ23_rightOf.name) {Q : Option Nat → jj_H → Prop} {E : String → Nat → jj_H → Prop} (hQ : ∀ r h, Q r h → N (some (.inr (.inr (.inl r)))) h) (hE : ∀ e q h, E e q h → XN e q h) (x0 : Option Nat) : ∀ (h : jj_H) (k : Nat), fC_J23_rightOf (jj_gk X.1) x0 Q E h k → jj_J X 1 0 [(0, .inr (.inr (.inl x0)))] [] h k := by
  intro h k w
  unfold fC_J23_rightOf at w
  refine jr_aload_n (pc := 0) F (j := 0) dJ23_rightOf_0 rfl ?_
  obtain ⟨w1, w2⟩ := w
  refine jr_ifnonnull (pc := 1) (tgt := 8) F dJ23_rightOf_1 rfl (fun c9 => ?_) (fun c9 => ?_)
  · have w := w1 c9
    refine jr_aload_n (pc := 8) F (j := 0) dJ23_rightOf_8 rfl ?_
    refine jr_gr (pc := 9) (ci := 24) (f := 3) F rfl in_J43 (Nat.le_of_ble_eq_true rfl) q2240 dJ23_rightOf_9 w (fun g1 w => ?_)
    exact jr_aret (pc := 12) F M (Or.inl ⟨_, rfl⟩) dJ23_rightOf_12 (hQ _ _ w)
  · have w := w2 c9
    refine jr_null (pc := 4) F dJ23_rightOf_4 ?_
    refine jr_goto (pc := 5) (tgt := 12) F dJ23_rightOf_5 rfl ?_
    exact jr_aret (pc := 12) F M (Or.inl ⟨_, rfl⟩) dJ23_rightOf_12 (hQ _ _ w)

theorem cC_J23_rightOf {G : jj_G} {l : Launch} (J : jx_G G l) {x0 : Option Nat} {Q : Option Nat → jj_H → Prop} {E : String → Nat → jj_H → Prop} {h : jj_H} {k : Nat} (w : fC_J23_rightOf (jj_gk G) x0 Q E h k) : jj_Ct G l yJ23_rightOf (ws_ yJ23_rightOf cJ23_rightOf 1 (some ((.object "java/util/TreeMap$Entry")))) 0 0 [.inr (.inr (.inl x0))] h k (jc_r Q) E := by
  refine jj_Ct.of J.1 (by decide +kernel) (Nat.le_of_ble_eq_true rfl) rfl (fun X hG hl F M O hnm => ?_)
  subst hG; subst hl
  exact sC_J23_rightOf F M O J hnm (fun r h q => ⟨r, rfl, q⟩) (fun _ _ _ q => q) _ _ _ w
theorem hC_J23_rightOf : yJ23_rightOf.cls = RJ23 ∧ yJ23_rightOf.cls ≠ "java/lang/invoke/MethodHandle" ∧ yJ23_rightOf.cls ≠ "java/lang/invoke/VarHandle" ∧ (parseMethodDescriptor yJ23_rightOf.desc).map (fun d => d.parameters.length) = some 1 := by decide +kernel
/-! J23_rotateLeft(Ljava/util/TreeMap$Entry;)V -/
def fC_J23_rotateLeft_j85 (gk : Nat → Nat) (x1 : Option Nat) (x2 : Option Nat) (Q : jj_H → Prop) (E : String → Nat → jj_H → Prop) (h : jj_H) (k : Nat) : Prop :=
  jp_pr h x2 24 2 x1 (fun h1 =>
  jp_pr h1 x1 24 4 x2 (fun h2 =>
  Q h2))
def fC_J23_rotateLeft_j32 (gk : Nat → Nat) (x0 : Option Nat) (x1 : Option Nat) (x2 : Option Nat) (Q : jj_H → Prop) (E : String → Nat → jj_H → Prop) (h : jj_H) (k : Nat) : Prop :=
  jp_gr h x1 24 4 (fun g3 =>
  jp_pr h x2 24 4 g3 (fun h4 =>
  jp_gr h4 x1 24 4 (fun g5 =>
  (¬ g5 = none → (
    jp_gr h4 x1 24 4 (fun g6 =>
    jp_gr h4 g6 24 2 (fun g7 =>
    (¬ g7 = x1 → (
      jp_gr h4 x1 24 4 (fun g8 =>
      jp_pr h4 g8 24 3 x2 (fun h9 =>
      fC_J23_rotateLeft_j85 gk x1 x2 Q E h9 k)))) ∧
    (g7 = x1 → (
      jp_gr h4 x1 24 4 (fun g10 =>
      jp_pr h4 g10 24 2 x2 (fun h11 =>
      fC_J23_rotateLeft_j85 gk x1 x2 Q E h11 k)))))))) ∧
  (g5 = none → (
    jp_pr h4 x0 23 3 x2 (fun h12 =>
    fC_J23_rotateLeft_j85 gk x1 x2 Q E h12 k))))))
def fC_J23_rotateLeft (gk : Nat → Nat) (x0 : Option Nat) (x1 : Option Nat) (Q : jj_H → Prop) (E : String → Nat → jj_H → Prop) (h : jj_H) (k : Nat) : Prop :=
  (x1 = none → (
    Q h)) ∧
  (¬ x1 = none → (
    jp_gr h x1 24 3 (fun g13 =>
    jp_gr h g13 24 2 (fun g14 =>
    jp_pr h x1 24 3 g14 (fun h15 =>
    jp_gr h15 g13 24 2 (fun g16 =>
    (g16 = none → (
      fC_J23_rotateLeft_j32 gk x0 x1 g13 Q E h15 k)) ∧
    (¬ g16 = none → (
      jp_gr h15 g13 24 2 (fun g17 =>
      jp_pr h15 g17 24 4 x1 (fun h18 =>
      fC_J23_rotateLeft_j32 gk x0 x1 g13 Q E h18 k))))))))))
theorem sC_J23_rotateLeft_j85 {X : jj_X} {N : Option jj_AV → jj_H → Prop} {XN : String → Nat → jj_H → Prop} (F : jj_F X RJ23 cJ23_rotateLeft 3) (M : jj_M X (none) 0 0 N XN) (O : jj_no X) (J : jx_G X.1 X.2.2.1) (hi : X.2.2.2.2.2.2.2.2.2.1.name = yJ23_rotateLeft.name) {Q : jj_H → Prop} {E : String → Nat → jj_H → Prop} (hQ : ∀ h, Q h → N none h) (hE : ∀ e q h, E e q h → XN e q h) (x1 : Option Nat) (x2 : Option Nat) : ∀ (h : jj_H) (k : Nat), fC_J23_rotateLeft_j85 (jj_gk X.1) x1 x2 Q E h k → jj_J X 3 85 [(1, .inr (.inr (.inl x1))), (2, .inr (.inr (.inl x2)))] [] h k := by
  intro h k w
  unfold fC_J23_rotateLeft_j85 at w
  refine jr_aload_n (pc := 85) F (j := 1) dJ23_rotateLeft_85 rfl ?_
  refine jr_aload_n (pc := 86) F (j := 0) dJ23_rotateLeft_86 rfl ?_
  refine jr_pr (pc := 87) (ci := 24) (f := 2) F rfl in_J43 tyJ43_ok nmJ43 (Nat.le_of_ble_eq_true rfl) rfl rfl q2239 dJ23_rotateLeft_87 w (fun h1 w => ?_)
  refine jr_aload_n (pc := 90) F (j := 0) dJ23_rotateLeft_90 rfl ?_
  refine jr_aload_n (pc := 91) F (j := 1) dJ23_rotateLeft_91 rfl ?_
  refine jr_pr (pc := 92) (ci := 24) (f := 4) F rfl in_J43 tyJ43_ok nmJ43 (Nat.le_of_ble_eq_true rfl) rfl rfl q2242 dJ23_rotateLeft_92 w (fun h2 w => ?_)
  exact jr_vret (pc := 95) F M dJ23_rotateLeft_95 (hQ _ w)

theorem sC_J23_rotateLeft_j32 {X : jj_X} {N : Option jj_AV → jj_H → Prop} {XN : String → Nat → jj_H → Prop} (F : jj_F X RJ23 cJ23_rotateLeft 3) (M : jj_M X (none) 0 0 N XN) (O : jj_no X) (J : jx_G X.1 X.2.2.1) (hi : X.2.2.2.2.2.2.2.2.2.1.name = yJ23_rotateLeft.name) {Q : jj_H → Prop} {E : String → Nat → jj_H → Prop} (hQ : ∀ h, Q h → N none h) (hE : ∀ e q h, E e q h → XN e q h) (x0 : Option Nat) (x1 : Option Nat) (x2 : Option Nat) : ∀ (h : jj_H) (k : Nat), fC_J23_rotateLeft_j32 (jj_gk X.1) x0 x1 x2 Q E h k → jj_J X 3 32 [(0, .inr (.inr (.inl x0))), (1, .inr (.inr (.inl x1))), (2, .inr (.inr (.inl x2)))] [] h k := by
  intro h k w
  unfold fC_J23_rotateLeft_j32 at w
  refine jr_aload_n (pc := 32) F (j := 2) dJ23_rotateLeft_32 rfl ?_
  refine jr_aload_n (pc := 33) F (j := 1) dJ23_rotateLeft_33 rfl ?_
  refine jr_gr (pc := 34) (ci := 24) (f := 4) F rfl in_J43 (Nat.le_of_ble_eq_true rfl) q2242 dJ23_rotateLeft_34 w (fun g3 w => ?_)
  refine jr_pr (pc := 37) (ci := 24) (f := 4) F rfl in_J43 tyJ43_ok nmJ43 (Nat.le_of_ble_eq_true rfl) rfl rfl q2242 dJ23_rotateLeft_37 w (fun h4 w => ?_)
  refine jr_aload_n (pc := 40) F (j := 1) dJ23_rotateLeft_40 rfl ?_
  refine jr_gr (pc := 41) (ci := 24) (f := 4) F rfl in_J43 (Nat.le_of_ble_eq_true rfl) q2242 dJ23_rotateLeft_41 w (fun g5 w => ?_)
  obtain ⟨w1, w2⟩ := w
  refine jr_ifnonnull (pc := 44) (tgt := 55) F dJ23_rotateLeft_44 rfl (fun c9 => ?_) (fun c9 => ?_)
  · have w := w1 c9
    refine jr_aload_n (pc := 55) F (j := 1) dJ23_rotateLeft_55 rfl ?_
    refine jr_gr (pc := 56) (ci := 24) (f := 4) F rfl in_J43 (Nat.le_of_ble_eq_true rfl) q2242 dJ23_rotateLeft_56 w (fun g6 w => ?_)
    refine jr_gr (pc := 59) (ci := 24) (f := 2) F rfl in_J43 (Nat.le_of_ble_eq_true rfl) q2239 dJ23_rotateLeft_59 w (fun g7 w => ?_)
    refine jr_aload_n (pc := 62) F (j := 1) dJ23_rotateLeft_62 rfl ?_
    obtain ⟨w1, w2⟩ := w
    refine jr_acmp_ne (pc := 63) (tgt := 77) F dJ23_rotateLeft_63 rfl (fun c9 => ?_) (fun c9 => ?_)
    · have w := w1 c9
      refine jr_aload_n (pc := 77) F (j := 1) dJ23_rotateLeft_77 rfl ?_
      refine jr_gr (pc := 78) (ci := 24) (f := 4) F rfl in_J43 (Nat.le_of_ble_eq_true rfl) q2242 dJ23_rotateLeft_78 w (fun g8 w => ?_)
      refine jr_aload_n (pc := 81) F (j := 2) dJ23_rotateLeft_81 rfl ?_
      refine jr_pr (pc := 82) (ci := 24) (f := 3) F rfl in_J43 tyJ43_ok nmJ43 (Nat.le_of_ble_eq_true rfl) rfl rfl q2240 dJ23_rotateLeft_82 w (fun h9 w => ?_)
      refine jj_J.sub [1, 2] rfl ?_
      exact sC_J23_rotateLeft_j85 F M O J hi hQ hE _ _ _ _ w
    · have w := w2 c9
      refine jr_aload_n (pc := 66) F (j := 1) dJ23_rotateLeft_66 rfl ?_
      refine jr_gr (pc := 67) (ci := 24) (f := 4) F rfl in_J43 (Nat.le_of_ble_eq_true rfl) q2242 dJ23_rotateLeft_67 w (fun g10 w => ?_)
      refine jr_aload_n (pc := 70) F (j := 2) dJ23_rotateLeft_70 rfl ?_
      refine jr_pr (pc := 71) (ci := 24) (f := 2) F rfl in_J43 tyJ43_ok nmJ43 (Nat.le_of_ble_eq_true rfl) rfl rfl q2239 dJ23_rotateLeft_71 w (fun h11 w => ?_)
      refine jr_goto (pc := 74) (tgt := 85) F dJ23_rotateLeft_74 rfl ?_
      refine jj_J.sub [1, 2] rfl ?_
      exact sC_J23_rotateLeft_j85 F M O J hi hQ hE _ _ _ _ w
  · have w := w2 c9
    refine jr_aload_n (pc := 47) F (j := 0) dJ23_rotateLeft_47 rfl ?_
    refine jr_aload_n (pc := 48) F (j := 2) dJ23_rotateLeft_48 rfl ?_
    refine jr_pr (pc := 49) (ci := 23) (f := 3) F rfl in_J23 tyJ23_ok nmJ23 (Nat.le_of_ble_eq_true rfl) rfl rfl q3044 dJ23_rotateLeft_49 w (fun h12 w => ?_)
    refine jr_goto (pc := 52) (tgt := 85) F dJ23_rotateLeft_52 rfl ?_
    refine jj_J.sub [1, 2] rfl ?_
    exact sC_J23_rotateLeft_j85 F M O J hi hQ hE _ _ _ _ w

theorem sC_J23_rotateLeft {X : jj_X} {N : Option jj_AV → jj_H → Prop} {XN : String → Nat → jj_H → Prop} (F : jj_F X RJ23 cJ23_rotateLeft 3) (M : jj_M X (none) 0 0 N XN) (O : jj_no X) (J : jx_G X.1 X.2.2.1) (hi : X.2.2.2.2.2.2.2.2.2.1.name = yJ23_rotateLeft.name) {Q : jj_H → Prop} {E : String → Nat → jj_H → Prop} (hQ : ∀ h, Q h → N none h) (hE : ∀ e q h, E e q h → XN e q h) (x0 : Option Nat) (x1 : Option Nat) : ∀ (h : jj_H) (k : Nat), fC_J23_rotateLeft (jj_gk X.1) x0 x1 Q E h k → jj_J X 3 0 [(0, .inr (.inr (.inl x0))), (1, .inr (.inr (.inl x1)))] [] h k := by
  intro h k w
  unfold fC_J23_rotateLeft at w
  refine jr_aload_n (pc := 0) F (j := 1) dJ23_rotateLeft_0 rfl ?_
  obtain ⟨w1, w2⟩ := w
  refine jr_ifnull (pc := 1) (tgt := 95) F dJ23_rotateLeft_1 rfl (fun c9 => ?_) (fun c9 => ?_)
  · have w := w1 c9
    exact jr_vret (pc := 95) F M dJ23_rotateLeft_95 (hQ _ w)
  · have w := w2 c9
    refine jr_aload_n (pc := 4) F (j := 1) dJ23_rotateLeft_4 rfl ?_
    refine jr_gr (pc := 5) (ci := 24) (f := 3) F rfl in_J43 (Nat.le_of_ble_eq_true rfl) q2240 dJ23_rotateLeft_5 w (fun g13 w => ?_)
    refine jr_astore_n (pc := 8) F (vs' := [(2, .inr (.inr (.inl _))), (0, .inr (.inr (.inl _))), (1, .inr (.inr (.inl _)))]) dJ23_rotateLeft_8 (Nat.le_of_ble_eq_true rfl) rfl ?_
    refine jr_aload_n (pc := 9) F (j := 2) dJ23_rotateLeft_9 rfl ?_
    refine jr_aload_n (pc := 10) F (j := 0) dJ23_rotateLeft_10 rfl ?_
    refine jr_gr (pc := 11) (ci := 24) (f := 2) F rfl in_J43 (Nat.le_of_ble_eq_true rfl) q2239 dJ23_rotateLeft_11 w (fun g14 w => ?_)
    refine jr_pr (pc := 14) (ci := 24) (f := 3) F rfl in_J43 tyJ43_ok nmJ43 (Nat.le_of_ble_eq_true rfl) rfl rfl q2240 dJ23_rotateLeft_14 w (fun h15 w => ?_)
    refine jr_aload_n (pc := 17) F (j := 0) dJ23_rotateLeft_17 rfl ?_
    refine jr_gr (pc := 18) (ci := 24) (f := 2) F rfl in_J43 (Nat.le_of_ble_eq_true rfl) q2239 dJ23_rotateLeft_18 w (fun g16 w => ?_)
    obtain ⟨w1, w2⟩ := w
    refine jr_ifnull (pc := 21) (tgt := 32) F dJ23_rotateLeft_21 rfl (fun c9 => ?_) (fun c9 => ?_)
    · have w := w1 c9
      refine jj_J.sub [1, 2, 0] rfl ?_
      exact sC_J23_rotateLeft_j32 F M O J hi hQ hE _ _ _ _ _ w
    · have w := w2 c9
      refine jr_aload_n (pc := 24) F (j := 0) dJ23_rotateLeft_24 rfl ?_
      refine jr_gr (pc := 25) (ci := 24) (f := 2) F rfl in_J43 (Nat.le_of_ble_eq_true rfl) q2239 dJ23_rotateLeft_25 w (fun g17 w => ?_)
      refine jr_aload_n (pc := 28) F (j := 2) dJ23_rotateLeft_28 rfl ?_
      refine jr_pr (pc := 29) (ci := 24) (f := 4) F rfl in_J43 tyJ43_ok nmJ43 (Nat.le_of_ble_eq_true rfl) rfl rfl q2242 dJ23_rotateLeft_29 w (fun h18 w => ?_)
      refine jj_J.sub [1, 2, 0] rfl ?_
      exact sC_J23_rotateLeft_j32 F M O J hi hQ hE _ _ _ _ _ w

theorem cC_J23_rotateLeft {G : jj_G} {l : Launch} (J : jx_G G l) {x0 : Option Nat} {x1 : Option Nat} {Q : jj_H → Prop} {E : String → Nat → jj_H → Prop} {h : jj_H} {k : Nat} (w : fC_J23_rotateLeft (jj_gk G) x0 x1 Q E h k) : jj_Ct G l yJ23_rotateLeft (ws_ yJ23_rotateLeft cJ23_rotateLeft 3 (none)) 0 0 [.inr (.inr (.inl x0)), .inr (.inr (.inl x1))] h k (jc_v Q) E := by
  refine jj_Ct.of J.1 (by decide +kernel) (Nat.le_of_ble_eq_true rfl) rfl (fun X hG hl F M O hnm => ?_)
  subst hG; subst hl
  exact sC_J23_rotateLeft F M O J hnm (fun h q => ⟨rfl, q⟩) (fun _ _ _ q => q) _ _ _ _ w
theorem hC_J23_rotateLeft : yJ23_rotateLeft.cls = RJ23 ∧ yJ23_rotateLeft.cls ≠ "java/lang/invoke/MethodHandle" ∧ yJ23_rotateLeft.cls ≠ "java/lang/invoke/VarHandle" ∧ (parseMethodDescriptor yJ23_rotateLeft.desc).map (fun d => d.parameters.length) = some 1 := by decide +kernel
/-! J23_rotateRight(Ljava/util/TreeMap$Entry;)V -/
def fC_J23_rotateRight_j85 (gk : Nat → Nat) (x1 : Option Nat) (x2 : Option Nat) (Q : jj_H → Prop) (E : String → Nat → jj_H → Prop) (h : jj_H) (k : Nat) : Prop :=
  jp_pr h x2 24 3 x1 (fun h1 =>
  jp_pr h1 x1 24 4 x2 (fun h2 =>
  Q h2))
def fC_J23_rotateRight_j32 (gk : Nat → Nat) (x0 : Option Nat) (x1 : Option Nat) (x2 : Option Nat) (Q : jj_H → Prop) (E : String → Nat → jj_H → Prop) (h : jj_H) (k : Nat) : Prop :=
  jp_gr h x1 24 4 (fun g3 =>
  jp_pr h x2 24 4 g3 (fun h4 =>
  jp_gr h4 x1 24 4 (fun g5 =>
  (¬ g5 = none → (
    jp_gr h4 x1 24 4 (fun g6 =>
    jp_gr h4 g6 24 3 (fun g7 =>
    (¬ g7 = x1 → (
      jp_gr h4 x1 24 4 (fun g8 =>
      jp_pr h4 g8 24 2 x2 (fun h9 =>
      fC_J23_rotateRight_j85 gk x1 x2 Q E h9 k)))) ∧
    (g7 = x1 → (
      jp_gr h4 x1 24 4 (fun g10 =>
      jp_pr h4 g10 24 3 x2 (fun h11 =>
      fC_J23_rotateRight_j85 gk x1 x2 Q E h11 k)))))))) ∧
  (g5 = none → (
    jp_pr h4 x0 23 3 x2 (fun h12 =>
    fC_J23_rotateRight_j85 gk x1 x2 Q E h12 k))))))
def fC_J23_rotateRight (gk : Nat → Nat) (x0 : Option Nat) (x1 : Option Nat) (Q : jj_H → Prop) (E : String → Nat → jj_H → Prop) (h : jj_H) (k : Nat) : Prop :=
  (x1 = none → (
    Q h)) ∧
  (¬ x1 = none → (
    jp_gr h x1 24 2 (fun g13 =>
    jp_gr h g13 24 3 (fun g14 =>
    jp_pr h x1 24 2 g14 (fun h15 =>
    jp_gr h15 g13 24 3 (fun g16 =>
    (g16 = none → (
      fC_J23_rotateRight_j32 gk x0 x1 g13 Q E h15 k)) ∧
    (¬ g16 = none → (
      jp_gr h15 g13 24 3 (fun g17 =>
      jp_pr h15 g17 24 4 x1 (fun h18 =>
      fC_J23_rotateRight_j32 gk x0 x1 g13 Q E h18 k))))))))))
theorem sC_J23_rotateRight_j85 {X : jj_X} {N : Option jj_AV → jj_H → Prop} {XN : String → Nat → jj_H → Prop} (F : jj_F X RJ23 cJ23_rotateRight 3) (M : jj_M X (none) 0 0 N XN) (O : jj_no X) (J : jx_G X.1 X.2.2.1) (hi : X.2.2.2.2.2.2.2.2.2.1.name = yJ23_rotateRight.name) {Q : jj_H → Prop} {E : String → Nat → jj_H → Prop} (hQ : ∀ h, Q h → N none h) (hE : ∀ e q h, E e q h → XN e q h) (x1 : Option Nat) (x2 : Option Nat) : ∀ (h : jj_H) (k : Nat), fC_J23_rotateRight_j85 (jj_gk X.1) x1 x2 Q E h k → jj_J X 3 85 [(1, .inr (.inr (.inl x1))), (2, .inr (.inr (.inl x2)))] [] h k := by
  intro h k w
  unfold fC_J23_rotateRight_j85 at w
  refine jr_aload_n (pc := 85) F (j := 1) dJ23_rotateRight_85 rfl ?_
  refine jr_aload_n (pc := 86) F (j := 0) dJ23_rotateRight_86 rfl ?_
  refine jr_pr (pc := 87) (ci := 24) (f := 3) F rfl in_J43 tyJ43_ok nmJ43 (Nat.le_of_ble_eq_true rfl) rfl rfl q2240 dJ23_rotateRight_87 w (fun h1 w => ?_)
  refine jr_aload_n (pc := 90) F (j := 0) dJ23_rotateRight_90 rfl ?_
  refine jr_aload_n (pc := 91) F (j := 1) dJ23_rotateRight_91 rfl ?_
  refine jr_pr (pc := 92) (ci := 24) (f := 4) F rfl in_J43 tyJ43_ok nmJ43 (Nat.le_of_ble_eq_true rfl) rfl rfl q2242 dJ23_rotateRight_92 w (fun h2 w => ?_)
  exact jr_vret (pc := 95) F M dJ23_rotateRight_95 (hQ _ w)

theorem sC_J23_rotateRight_j32 {X : jj_X} {N : Option jj_AV → jj_H → Prop} {XN : String → Nat → jj_H → Prop} (F : jj_F X RJ23 cJ23_rotateRight 3) (M : jj_M X (none) 0 0 N XN) (O : jj_no X) (J : jx_G X.1 X.2.2.1) (hi : X.2.2.2.2.2.2.2.2.2.1.name = yJ23_rotateRight.name) {Q : jj_H → Prop} {E : String → Nat → jj_H → Prop} (hQ : ∀ h, Q h → N none h) (hE : ∀ e q h, E e q h → XN e q h) (x0 : Option Nat) (x1 : Option Nat) (x2 : Option Nat) : ∀ (h : jj_H) (k : Nat), fC_J23_rotateRight_j32 (jj_gk X.1) x0 x1 x2 Q E h k → jj_J X 3 32 [(0, .inr (.inr (.inl x0))), (1, .inr (.inr (.inl x1))), (2, .inr (.inr (.inl x2)))] [] h k := by
  intro h k w
  unfold fC_J23_rotateRight_j32 at w
  refine jr_aload_n (pc := 32) F (j := 2) dJ23_rotateRight_32 rfl ?_
  refine jr_aload_n (pc := 33) F (j := 1) dJ23_rotateRight_33 rfl ?_
  refine jr_gr (pc := 34) (ci := 24) (f := 4) F rfl in_J43 (Nat.le_of_ble_eq_true rfl) q2242 dJ23_rotateRight_34 w (fun g3 w => ?_)
  refine jr_pr (pc := 37) (ci := 24) (f := 4) F rfl in_J43 tyJ43_ok nmJ43 (Nat.le_of_ble_eq_true rfl) rfl rfl q2242 dJ23_rotateRight_37 w (fun h4 w => ?_)
  refine jr_aload_n (pc := 40) F (j := 1) dJ23_rotateRight_40 rfl ?_
  refine jr_gr (pc := 41) (ci := 24) (f := 4) F rfl in_J43 (Nat.le_of_ble_eq_true rfl) q2242 dJ23_rotateRight_41 w (fun g5 w => ?_)
  obtain ⟨w1, w2⟩ := w
  refine jr_ifnonnull (pc := 44) (tgt := 55) F dJ23_rotateRight_44 rfl (fun c9 => ?_) (fun c9 => ?_)
  · have w := w1 c9
    refine jr_aload_n (pc := 55) F (j := 1) dJ23_rotateRight_55 rfl ?_
    refine jr_gr (pc := 56) (ci := 24) (f := 4) F rfl in_J43 (Nat.le_of_ble_eq_true rfl) q2242 dJ23_rotateRight_56 w (fun g6 w => ?_)
    refine jr_gr (pc := 59) (ci := 24) (f := 3) F rfl in_J43 (Nat.le_of_ble_eq_true rfl) q2240 dJ23_rotateRight_59 w (fun g7 w => ?_)
    refine jr_aload_n (pc := 62) F (j := 1) dJ23_rotateRight_62 rfl ?_
    obtain ⟨w1, w2⟩ := w
    refine jr_acmp_ne (pc := 63) (tgt := 77) F dJ23_rotateRight_63 rfl (fun c9 => ?_) (fun c9 => ?_)
    · have w := w1 c9
      refine jr_aload_n (pc := 77) F (j := 1) dJ23_rotateRight_77 rfl ?_
      refine jr_gr (pc := 78) (ci := 24) (f := 4) F rfl in_J43 (Nat.le_of_ble_eq_true rfl) q2242 dJ23_rotateRight_78 w (fun g8 w => ?_)
      refine jr_aload_n (pc := 81) F (j := 2) dJ23_rotateRight_81 rfl ?_
      refine jr_pr (pc := 82) (ci := 24) (f := 2) F rfl in_J43 tyJ43_ok nmJ43 (Nat.le_of_ble_eq_true rfl) rfl rfl q2239 dJ23_rotateRight_82 w (fun h9 w => ?_)
      refine jj_J.sub [1, 2] rfl ?_
      exact sC_J23_rotateRight_j85 F M O J hi hQ hE _ _ _ _ w
    · have w := w2 c9
      refine jr_aload_n (pc := 66) F (j := 1) dJ23_rotateRight_66 rfl ?_
      refine jr_gr (pc := 67) (ci := 24) (f := 4) F rfl in_J43 (Nat.le_of_ble_eq_true rfl) q2242 dJ23_rotateRight_67 w (fun g10 w => ?_)
      refine jr_aload_n (pc := 70) F (j := 2) dJ23_rotateRight_70 rfl ?_
      refine jr_pr (pc := 71) (ci := 24) (f := 3) F rfl in_J43 tyJ43_ok nmJ43 (Nat.le_of_ble_eq_true rfl) rfl rfl q2240 dJ23_rotateRight_71 w (fun h11 w => ?_)
      refine jr_goto (pc := 74) (tgt := 85) F dJ23_rotateRight_74 rfl ?_
      refine jj_J.sub [1, 2] rfl ?_
      exact sC_J23_rotateRight_j85 F M O J hi hQ hE _ _ _ _ w
  · have w := w2 c9
    refine jr_aload_n (pc := 47) F (j := 0) dJ23_rotateRight_47 rfl ?_
    refine jr_aload_n (pc := 48) F (j := 2) dJ23_rotateRight_48 rfl ?_
    refine jr_pr (pc := 49) (ci := 23) (f := 3) F rfl in_J23 tyJ23_ok nmJ23 (Nat.le_of_ble_eq_true rfl) rfl rfl q3044 dJ23_rotateRight_49 w (fun h12 w => ?_)
    refine jr_goto (pc := 52) (tgt := 85) F dJ23_rotateRight_52 rfl ?_
    refine jj_J.sub [1, 2] rfl ?_
    exact sC_J23_rotateRight_j85 F M O J hi hQ hE _ _ _ _ w

theorem sC_J23_rotateRight {X : jj_X} {N : Option jj_AV → jj_H → Prop} {XN : String → Nat → jj_H → Prop} (F : jj_F X RJ23 cJ23_rotateRight 3) (M : jj_M X (none) 0 0 N XN) (O : jj_no X) (J : jx_G X.1 X.2.2.1) (hi : X.2.2.2.2.2.2.2.2.2.1.name = yJ23_rotateRight.name) {Q : jj_H → Prop} {E : String → Nat → jj_H → Prop} (hQ : ∀ h, Q h → N none h) (hE : ∀ e q h, E e q h → XN e q h) (x0 : Option Nat) (x1 : Option Nat) : ∀ (h : jj_H) (k : Nat), fC_J23_rotateRight (jj_gk X.1) x0 x1 Q E h k → jj_J X 3 0 [(0, .inr (.inr (.inl x0))), (1, .inr (.inr (.inl x1)))] [] h k := by
  intro h k w
  unfold fC_J23_rotateRight at w
  refine jr_aload_n (pc := 0) F (j := 1) dJ23_rotateRight_0 rfl ?_
  obtain ⟨w1, w2⟩ := w
  refine jr_ifnull (pc := 1) (tgt := 95) F dJ23_rotateRight_1 rfl (fun c9 => ?_) (fun c9 => ?_)
  · have w := w1 c9
    exact jr_vret (pc := 95) F M dJ23_rotateRight_95 (hQ _ w)
  · have w := w2 c9
    refine jr_aload_n (pc := 4) F (j := 1) dJ23_rotateRight_4 rfl ?_
    refine jr_gr (pc := 5) (ci := 24) (f := 2) F rfl in_J43 (Nat.le_of_ble_eq_true rfl) q2239 dJ23_rotateRight_5 w (fun g13 w => ?_)
    refine jr_astore_n (pc := 8) F (vs' := [(2, .inr (.inr (.inl _))), (0, .inr (.inr (.inl _))), (1, .inr (.inr (.inl _)))]) dJ23_rotateRight_8 (Nat.le_of_ble_eq_true rfl) rfl ?_
    refine jr_aload_n (pc := 9) F (j := 2) dJ23_rotateRight_9 rfl ?_
    refine jr_aload_n (pc := 10) F (j := 0) dJ23_rotateRight_10 rfl ?_
    refine jr_gr (pc := 11) (ci := 24) (f := 3) F rfl in_J43 (Nat.le_of_ble_eq_true rfl) q2240 dJ23_rotateRight_11 w (fun g14 w => ?_)
    refine jr_pr (pc := 14) (ci := 24) (f := 2) F rfl in_J43 tyJ43_ok nmJ43 (Nat.le_of_ble_eq_true rfl) rfl rfl q2239 dJ23_rotateRight_14 w (fun h15 w => ?_)
    refine jr_aload_n (pc := 17) F (j := 0) dJ23_rotateRight_17 rfl ?_
    refine jr_gr (pc := 18) (ci := 24) (f := 3) F rfl in_J43 (Nat.le_of_ble_eq_true rfl) q2240 dJ23_rotateRight_18 w (fun g16 w => ?_)
    obtain ⟨w1, w2⟩ := w
    refine jr_ifnull (pc := 21) (tgt := 32) F dJ23_rotateRight_21 rfl (fun c9 => ?_) (fun c9 => ?_)
    · have w := w1 c9
      refine jj_J.sub [1, 2, 0] rfl ?_
      exact sC_J23_rotateRight_j32 F M O J hi hQ hE _ _ _ _ _ w
    · have w := w2 c9
      refine jr_aload_n (pc := 24) F (j := 0) dJ23_rotateRight_24 rfl ?_
      refine jr_gr (pc := 25) (ci := 24) (f := 3) F rfl in_J43 (Nat.le_of_ble_eq_true rfl) q2240 dJ23_rotateRight_25 w (fun g17 w => ?_)
      refine jr_aload_n (pc := 28) F (j := 2) dJ23_rotateRight_28 rfl ?_
      refine jr_pr (pc := 29) (ci := 24) (f := 4) F rfl in_J43 tyJ43_ok nmJ43 (Nat.le_of_ble_eq_true rfl) rfl rfl q2242 dJ23_rotateRight_29 w (fun h18 w => ?_)
      refine jj_J.sub [1, 2, 0] rfl ?_
      exact sC_J23_rotateRight_j32 F M O J hi hQ hE _ _ _ _ _ w

theorem cC_J23_rotateRight {G : jj_G} {l : Launch} (J : jx_G G l) {x0 : Option Nat} {x1 : Option Nat} {Q : jj_H → Prop} {E : String → Nat → jj_H → Prop} {h : jj_H} {k : Nat} (w : fC_J23_rotateRight (jj_gk G) x0 x1 Q E h k) : jj_Ct G l yJ23_rotateRight (ws_ yJ23_rotateRight cJ23_rotateRight 3 (none)) 0 0 [.inr (.inr (.inl x0)), .inr (.inr (.inl x1))] h k (jc_v Q) E := by
  refine jj_Ct.of J.1 (by decide +kernel) (Nat.le_of_ble_eq_true rfl) rfl (fun X hG hl F M O hnm => ?_)
  subst hG; subst hl
  exact sC_J23_rotateRight F M O J hnm (fun h q => ⟨rfl, q⟩) (fun _ _ _ q => q) _ _ _ _ w
theorem hC_J23_rotateRight : yJ23_rotateRight.cls = RJ23 ∧ yJ23_rotateRight.cls ≠ "java/lang/invoke/MethodHandle" ∧ yJ23_rotateRight.cls ≠ "java/lang/invoke/VarHandle" ∧ (parseMethodDescriptor yJ23_rotateRight.desc).map (fun d => d.parameters.length) = some 1 := by decide +kernel
/-! J23_setColor(Ljava/util/TreeMap$Entry;Z)V -/
def fC_J23_setColor (gk : Nat → Nat) (x0 : Option Nat) (x1 : Int) (Q : jj_H → Prop) (E : String → Nat → jj_H → Prop) (h : jj_H) (k : Nat) : Prop :=
  (x0 = none → (
    Q h)) ∧
  (¬ x0 = none → (
    jp_pz h x0 24 5 x1 (fun h1 =>
    Q h1)))
theorem sC_J23_setColor {X : jj_X} {N : Option jj_AV → jj_H → Prop} {XN : String → Nat → jj_H → Prop} (F : jj_F X RJ23 cJ23_setColor 2) (M : jj_M X (none) 0 0 N XN) (O : jj_no X) (J : jx_G X.1 X.2.2.1) (hi : X.2.2.2.2.2.2.2.2.2.1.name = yJ23_setColor.name) {Q : jj_H → Prop} {E : String → Nat → jj_H → Prop} (hQ : ∀ h, Q h → N none h) (hE : ∀ e q h, E e q h → XN e q h) (x0 : Option Nat) (x1 : Int) : ∀ (h : jj_H) (k : Nat), fC_J23_setColor (jj_gk X.1) x0 x1 Q E h k → jj_J X 2 0 [(0, .inr (.inr (.inl x0))), (1, .inl x1)] [] h k := by
  intro h k w
  unfold fC_J23_setColor at w
  refine jr_aload_n (pc := 0) F (j := 0) dJ23_setColor_0 rfl ?_
  obtain ⟨w1, w2⟩ := w
  refine jr_ifnull (pc := 1) (tgt := 9) F dJ23_setColor_1 rfl (fun c9 => ?_) (fun c9 => ?_)
  · have w := w1 c9
    exact jr_vret (pc := 9) F M dJ23_setColor_9 (hQ _ w)
  · have w := w2 c9
    refine jr_aload_n (pc := 4) F (j := 0) dJ23_setColor_4 rfl ?_
    refine jr_iload_n (pc := 5) F (j := 1) dJ23_setColor_5 rfl ?_
    refine jr_pz (pc := 6) (ci := 24) (f := 5) F rfl in_J43 tyJ43_ok nmJ43 (Nat.le_of_ble_eq_true rfl) rfl rfl q2244 dJ23_setColor_6 w (fun h1 w => ?_)
    exact jr_vret (pc := 9) F M dJ23_setColor_9 (hQ _ w)

theorem cC_J23_setColor {G : jj_G} {l : Launch} (J : jx_G G l) {x0 : Option Nat} {x1 : Int} {Q : jj_H → Prop} {E : String → Nat → jj_H → Prop} {h : jj_H} {k : Nat} (w : fC_J23_setColor (jj_gk G) x0 x1 Q E h k) : jj_Ct G l yJ23_setColor (ws_ yJ23_setColor cJ23_setColor 2 (none)) 0 0 [.inr (.inr (.inl x0)), .inl x1] h k (jc_v Q) E := by
  refine jj_Ct.of J.1 (by decide +kernel) (Nat.le_of_ble_eq_true rfl) rfl (fun X hG hl F M O hnm => ?_)
  subst hG; subst hl
  exact sC_J23_setColor F M O J hnm (fun h q => ⟨rfl, q⟩) (fun _ _ _ q => q) _ _ _ _ w
theorem hC_J23_setColor : yJ23_setColor.cls = RJ23 ∧ yJ23_setColor.cls ≠ "java/lang/invoke/MethodHandle" ∧ yJ23_setColor.cls ≠ "java/lang/invoke/VarHandle" ∧ (parseMethodDescriptor yJ23_setColor.desc).map (fun d => d.parameters.length) = some 2 := by decide +kernel
/-! J23_fixAfterInsertion(Ljava/util/TreeMap$Entry;)V -/
def fC_J23_fixAfterInsertion_j258 (gk : Nat → Nat) (x0 : Option Nat) (Q : jj_H → Prop) (E : String → Nat → jj_H → Prop) (h : jj_H) (k : Nat) : Prop :=
  jp_gr h x0 23 3 (fun g1 =>
  jp_pz h g1 24 5 1 (fun h2 =>
  Q h2))
def fC_J23_fixAfterInsertion_j225 (gk : Nat → Nat) (K5 : Option Nat → jj_H → Nat → Prop) (x0 : Option Nat) (x1 : Option Nat) (Q : jj_H → Prop) (E : String → Nat → jj_H → Prop) (h : jj_H) (k : Nat) : Prop :=
  fC_J23_parentOf gk x1 (fun r4 h5 =>
  fC_J23_setColor gk r4 1 (fun h8 =>
  fC_J23_parentOf gk x1 (fun r10 h11 =>
  fC_J23_parentOf gk r10 (fun r13 h14 =>
  fC_J23_setColor gk r13 0 (fun h17 =>
  fC_J23_parentOf gk x1 (fun r19 h20 =>
  fC_J23_parentOf gk r19 (fun r22 h23 =>
  jp_is h23 x0 23 ∧ fC_J23_rotateLeft gk x0 r22 (fun h26 =>
  K5 x1 h26 k) E h23 0) E h20 0) E h17 0) E h14 0) E h11 0) E h8 0) E h5 0) E h 0
def fC_J23_fixAfterInsertion_j118 (gk : Nat → Nat) (K5 : Option Nat → jj_H → Nat → Prop) (x0 : Option Nat) (x1 : Option Nat) (Q : jj_H → Prop) (E : String → Nat → jj_H → Prop) (h : jj_H) (k : Nat) : Prop :=
  fC_J23_parentOf gk x1 (fun r28 h29 =>
  fC_J23_setColor gk r28 1 (fun h32 =>
  fC_J23_parentOf gk x1 (fun r34 h35 =>
  fC_J23_parentOf gk r34 (fun r37 h38 =>
  fC_J23_setColor gk r37 0 (fun h41 =>
  fC_J23_parentOf gk x1 (fun r43 h44 =>
  fC_J23_parentOf gk r43 (fun r46 h47 =>
  jp_is h47 x0 23 ∧ fC_J23_rotateRight gk x0 r46 (fun h50 =>
  K5 x1 h50 k) E h47 0) E h44 0) E h41 0) E h38 0) E h35 0) E h32 0) E h29 0) E h 0
def fC_J23_fixAfterInsertion_l5 (gk : Nat → Nat) (x0 : Option Nat) (Q : jj_H → Prop) (E : String → Nat → jj_H → Prop) : Nat → Option Nat → jj_H → Nat → Prop
  | 0, _, _, _ => False
  | n + 1, x1, h, k =>
  (x1 = none → (
    fC_J23_fixAfterInsertion_j258 gk x0 Q E h k)) ∧
  (¬ x1 = none → (
    jp_gr h x0 23 3 (fun g51 =>
    (x1 = g51 → (
      fC_J23_fixAfterInsertion_j258 gk x0 Q E h k)) ∧
    (¬ x1 = g51 → (
      jp_gr h x1 24 4 (fun g52 =>
      jp_gi h g52 24 5 (fun g53 =>
      jj_r g53 ∧ (¬ g53 = 0 → (
        fC_J23_fixAfterInsertion_j258 gk x0 Q E h k)) ∧
      (g53 = 0 → (
        fC_J23_parentOf gk x1 (fun r55 h56 =>
        fC_J23_parentOf gk x1 (fun r58 h59 =>
        fC_J23_parentOf gk r58 (fun r61 h62 =>
        fC_J23_leftOf gk r61 (fun r64 h65 =>
        (¬ r55 = r64 → (
          fC_J23_parentOf gk x1 (fun r67 h68 =>
          fC_J23_parentOf gk r67 (fun r70 h71 =>
          fC_J23_leftOf gk r70 (fun r73 h74 =>
          fC_J23_colorOf gk r73 (fun r76 h77 =>
          jj_r r76 ∧ (¬ r76 = 0 → (
            fC_J23_parentOf gk x1 (fun r79 h80 =>
            fC_J23_leftOf gk r79 (fun r82 h83 =>
            (¬ x1 = r82 → (
              fC_J23_fixAfterInsertion_j225 gk (fC_J23_fixAfterInsertion_l5 gk x0 Q E n) x0 x1 Q E h83 k)) ∧
            (x1 = r82 → (
              fC_J23_parentOf gk x1 (fun r85 h86 =>
              jp_is h86 x0 23 ∧ fC_J23_rotateRight gk x0 r85 (fun h89 =>
              fC_J23_fixAfterInsertion_j225 gk (fC_J23_fixAfterInsertion_l5 gk x0 Q E n) x0 r85 Q E h89 k) E h86 0) E h83 0))) E h80 0) E h77 0)) ∧
          (r76 = 0 → (
            fC_J23_parentOf gk x1 (fun r91 h92 =>
            fC_J23_setColor gk r91 1 (fun h95 =>
            fC_J23_setColor gk r73 1 (fun h98 =>
            fC_J23_parentOf gk x1 (fun r100 h101 =>
            fC_J23_parentOf gk r100 (fun r103 h104 =>
            fC_J23_setColor gk r103 0 (fun h107 =>
            fC_J23_parentOf gk x1 (fun r109 h110 =>
            fC_J23_parentOf gk r109 (fun r112 h113 =>
            fC_J23_fixAfterInsertion_l5 gk x0 Q E n r112 h113 k) E h110 0) E h107 0) E h104 0) E h101 0) E h98 0) E h95 0) E h92 0) E h77 0))) E h74 0) E h71 0) E h68 0) E h65 0)) ∧
        (r55 = r64 → (
          fC_J23_parentOf gk x1 (fun r115 h116 =>
          fC_J23_parentOf gk r115 (fun r118 h119 =>
          fC_J23_rightOf gk r118 (fun r121 h122 =>
          fC_J23_colorOf gk r121 (fun r124 h125 =>
          jj_r r124 ∧ (¬ r124 = 0 → (
            fC_J23_parentOf gk x1 (fun r127 h128 =>
            fC_J23_rightOf gk r127 (fun r130 h131 =>
            (¬ x1 = r130 → (
              fC_J23_fixAfterInsertion_j118 gk (fC_J23_fixAfterInsertion_l5 gk x0 Q E n) x0 x1 Q E h131 k)) ∧
            (x1 = r130 → (
              fC_J23_parentOf gk x1 (fun r133 h134 =>
              jp_is h134 x0 23 ∧ fC_J23_rotateLeft gk x0 r133 (fun h137 =>
              fC_J23_fixAfterInsertion_j118 gk (fC_J23_fixAfterInsertion_l5 gk x0 Q E n) x0 r133 Q E h137 k) E h134 0) E h131 0))) E h128 0) E h125 0)) ∧
          (r124 = 0 → (
            fC_J23_parentOf gk x1 (fun r139 h140 =>
            fC_J23_setColor gk r139 1 (fun h143 =>
            fC_J23_setColor gk r121 1 (fun h146 =>
            fC_J23_parentOf gk x1 (fun r148 h149 =>
            fC_J23_parentOf gk r148 (fun r151 h152 =>
            fC_J23_setColor gk r151 0 (fun h155 =>
            fC_J23_parentOf gk x1 (fun r157 h158 =>
            fC_J23_parentOf gk r157 (fun r160 h161 =>
            fC_J23_fixAfterInsertion_l5 gk x0 Q E n r160 h161 k) E h158 0) E h155 0) E h152 0) E h149 0) E h146 0) E h143 0) E h140 0) E h125 0))) E h122 0) E h119 0) E h116 0) E h65 0))) E h62 0) E h59 0) E h56 0) E h 0)))))))))
def fC_J23_fixAfterInsertion (gk : Nat → Nat) (x0 : Option Nat) (x1 : Option Nat) (Q : jj_H → Prop) (E : String → Nat → jj_H → Prop) (h : jj_H) (k : Nat) : Prop :=
  jp_pz h x1 24 5 0 (fun h162 =>
  ∃ n9, fC_J23_fixAfterInsertion_l5 gk x0 Q E n9 x1 h162 k)
theorem sC_J23_fixAfterInsertion_j258 {X : jj_X} {N : Option jj_AV → jj_H → Prop} {XN : String → Nat → jj_H → Prop} (F : jj_F X RJ23 cJ23_fixAfterInsertion 3) (M : jj_M X (none) 1 22 N XN) (O : jj_no X) (J : jx_G X.1 X.2.2.1) (hi : X.2.2.2.2.2.2.2.2.2.1.name = yJ23_fixAfterInsertion.name) {Q : jj_H → Prop} {E : String → Nat → jj_H → Prop} (hQ : ∀ h, Q h → N none h) (hE : ∀ e q h, E e q h → XN e q h) (x0 : Option Nat) : ∀ (h : jj_H) (k : Nat), fC_J23_fixAfterInsertion_j258 (jj_gk X.1) x0 Q E h k → jj_J X 3 258 [(0, .inr (.inr (.inl x0)))] [] h k := by
  intro h k w
  unfold fC_J23_fixAfterInsertion_j258 at w
  refine jr_aload_n (pc := 258) F (j := 0) dJ23_fixAfterInsertion_258 rfl ?_
  refine jr_gr (pc := 259) (ci := 23) (f := 3) F rfl in_J23 (Nat.le_of_ble_eq_true rfl) q3044 dJ23_fixAfterInsertion_259 w (fun g1 w => ?_)
  refine jr_iconst (pc := 262) F dJ23_fixAfterInsertion_262 ?_
  refine jr_pz (pc := 263) (ci := 24) (f := 5) F rfl in_J43 tyJ43_ok nmJ43 (Nat.le_of_ble_eq_true rfl) rfl rfl q2244 dJ23_fixAfterInsertion_263 w (fun h2 w => ?_)
  exact jr_vret (pc := 266) F M dJ23_fixAfterInsertion_266 (hQ _ w)

theorem sC_J23_fixAfterInsertion_j225 {X : jj_X} {N : Option jj_AV → jj_H → Prop} {XN : String → Nat → jj_H → Prop} (F : jj_F X RJ23 cJ23_fixAfterInsertion 3) (M : jj_M X (none) 1 22 N XN) (O : jj_no X) (J : jx_G X.1 X.2.2.1) (hi : X.2.2.2.2.2.2.2.2.2.1.name = yJ23_fixAfterInsertion.name) {Q : jj_H → Prop} {E : String → Nat → jj_H → Prop} (hQ : ∀ h, Q h → N none h) (hE : ∀ e q h, E e q h → XN e q h) (x0 : Option Nat) (x1 : Option Nat) {K5 : Option Nat → jj_H → Nat → Prop} (hK5 : ∀ (z1 : Option Nat) (h : jj_H) (k : Nat), K5 z1 h k → jj_J X 3 5 [(0, .inr (.inr (.inl x0))), (1, .inr (.inr (.inl z1)))] [] h k) : ∀ (h : jj_H) (k : Nat), fC_J23_fixAfterInsertion_j225 (jj_gk X.1) K5 x0 x1 Q E h k → jj_J X 3 225 [(0, .inr (.inr (.inl x0))), (1, .inr (.inr (.inl x1)))] [] h k := by
  intro h k w
  unfold fC_J23_fixAfterInsertion_j225 at w
  refine jr_aload_n (pc := 225) F (j := 1) dJ23_fixAfterInsertion_225 rfl ?_
  refine jr_callS (pc := 226) (As := [_]) F M (lw_S q2269 q2270 q148 q2271) dJ23_fixAfterInsertion_226 hC_J23_parentOf.2 rfl (Nat.le_of_ble_eq_true rfl) (Nat.le_of_ble_eq_true rfl) (Nat.le_of_ble_eq_true rfl) (Nat.zero_le _) (cC_J23_parentOf J w) (fun v9 h5 q9 => ?_) (fun E9 q9 h9 w9 => jr_out F M O (hE _ _ _ w9))
  obtain ⟨r4, rfl, w⟩ := q9
  refine jr_iconst (pc := 229) F dJ23_fixAfterInsertion_229 ?_
  refine jr_callS (pc := 230) (As := [_, _]) F M (lw_S q2281 q2282 q148 q2283) dJ23_fixAfterInsertion_230 hC_J23_setColor.2 rfl (Nat.le_of_ble_eq_true rfl) (Nat.le_of_ble_eq_true rfl) (Nat.le_of_ble_eq_true rfl) (Nat.zero_le _) (cC_J23_setColor J w) (fun v9 h8 q9 => ?_) (fun E9 q9 h9 w9 => jr_out F M O (hE _ _ _ w9))
  obtain ⟨rfl, w⟩ := q9
  refine jr_aload_n (pc := 233) F (j := 1) dJ23_fixAfterInsertion_233 rfl ?_
  refine jr_callS (pc := 234) (As := [_]) F M (lw_S q2269 q2270 q148 q2271) dJ23_fixAfterInsertion_234 hC_J23_parentOf.2 rfl (Nat.le_of_ble_eq_true rfl) (Nat.le_of_ble_eq_true rfl) (Nat.le_of_ble_eq_true rfl) (Nat.zero_le _) (cC_J23_parentOf J w) (fun v9 h11 q9 => ?_) (fun E9 q9 h9 w9 => jr_out F M O (hE _ _ _ w9))
  obtain ⟨r10, rfl, w⟩ := q9
  refine jr_callS (pc := 237) (As := [_]) F M (lw_S q2269 q2270 q148 q2271) dJ23_fixAfterInsertion_237 hC_J23_parentOf.2 rfl (Nat.le_of_ble_eq_true rfl) (Nat.le_of_ble_eq_true rfl) (Nat.le_of_ble_eq_true rfl) (Nat.zero_le _) (cC_J23_parentOf J w) (fun v9 h14 q9 => ?_) (fun E9 q9 h9 w9 => jr_out F M O (hE _ _ _ w9))
  obtain ⟨r13, rfl, w⟩ := q9
  refine jr_iconst (pc := 240) F dJ23_fixAfterInsertion_240 ?_
  refine jr_callS (pc := 241) (As := [_, _]) F M (lw_S q2281 q2282 q148 q2283) dJ23_fixAfterInsertion_241 hC_J23_setColor.2 rfl (Nat.le_of_ble_eq_true rfl) (Nat.le_of_ble_eq_true rfl) (Nat.le_of_ble_eq_true rfl) (Nat.zero_le _) (cC_J23_setColor J w) (fun v9 h17 q9 => ?_) (fun E9 q9 h9 w9 => jr_out F M O (hE _ _ _ w9))
  obtain ⟨rfl, w⟩ := q9
  refine jr_aload_n (pc := 244) F (j := 0) dJ23_fixAfterInsertion_244 rfl ?_
  refine jr_aload_n (pc := 245) F (j := 1) dJ23_fixAfterInsertion_245 rfl ?_
  refine jr_callS (pc := 246) (As := [_]) F M (lw_S q2269 q2270 q148 q2271) dJ23_fixAfterInsertion_246 hC_J23_parentOf.2 rfl (Nat.le_of_ble_eq_true rfl) (Nat.le_of_ble_eq_true rfl) (Nat.le_of_ble_eq_true rfl) (Nat.zero_le _) (cC_J23_parentOf J w) (fun v9 h20 q9 => ?_) (fun E9 q9 h9 w9 => jr_out F M O (hE _ _ _ w9))
  obtain ⟨r19, rfl, w⟩ := q9
  refine jr_callS (pc := 249) (As := [_]) F M (lw_S q2269 q2270 q148 q2271) dJ23_fixAfterInsertion_249 hC_J23_parentOf.2 rfl (Nat.le_of_ble_eq_true rfl) (Nat.le_of_ble_eq_true rfl) (Nat.le_of_ble_eq_true rfl) (Nat.zero_le _) (cC_J23_parentOf J w) (fun v9 h23 q9 => ?_) (fun E9 q9 h9 w9 => jr_out F M O (hE _ _ _ w9))
  obtain ⟨r22, rfl, w⟩ := q9
  obtain ⟨hi9, w⟩ := w
  refine jr_cV (pc := 252) (As := [_]) (ci := 23) F M (lw_V q2284 q2286 qs18 q148 q2287) dJ23_fixAfterInsertion_252 hC_J23_rotateLeft rfl (Nat.le_of_ble_eq_true rfl) (Nat.le_of_ble_eq_true rfl) (Nat.le_of_ble_eq_true rfl) rfl hi9 (Nat.zero_le _) (cC_J23_rotateLeft J w) (fun v9 h26 q9 => ?_) (fun E9 q9 h9 w9 => jr_out F M O (hE _ _ _ w9))
  obtain ⟨rfl, w⟩ := q9
  refine jr_goto (pc := 255) (tgt := 5) F dJ23_fixAfterInsertion_255 rfl ?_
  exact hK5 _ _ _ w

theorem sC_J23_fixAfterInsertion_j118 {X : jj_X} {N : Option jj_AV → jj_H → Prop} {XN : String → Nat → jj_H → Prop} (F : jj_F X RJ23 cJ23_fixAfterInsertion 3) (M : jj_M X (none) 1 22 N XN) (O : jj_no X) (J : jx_G X.1 X.2.2.1) (hi : X.2.2.2.2.2.2.2.2.2.1.name = yJ23_fixAfterInsertion.name) {Q : jj_H → Prop} {E : String → Nat → jj_H → Prop} (hQ : ∀ h, Q h → N none h) (hE : ∀ e q h, E e q h → XN e q h) (x0 : Option Nat) (x1 : Option Nat) {K5 : Option Nat → jj_H → Nat → Prop} (hK5 : ∀ (z1 : Option Nat) (h : jj_H) (k : Nat), K5 z1 h k → jj_J X 3 5 [(0, .inr (.inr (.inl x0))), (1, .inr (.inr (.inl z1)))] [] h k) : ∀ (h : jj_H) (k : Nat), fC_J23_fixAfterInsertion_j118 (jj_gk X.1) K5 x0 x1 Q E h k → jj_J X 3 118 [(0, .inr (.inr (.inl x0))), (1, .inr (.inr (.inl x1)))] [] h k := by
  intro h k w
  unfold fC_J23_fixAfterInsertion_j118 at w
  refine jr_aload_n (pc := 118) F (j := 1) dJ23_fixAfterInsertion_118 rfl ?_
  refine jr_callS (pc := 119) (As := [_]) F M (lw_S q2269 q2270 q148 q2271) dJ23_fixAfterInsertion_119 hC_J23_parentOf.2 rfl (Nat.le_of_ble_eq_true rfl) (Nat.le_of_ble_eq_true rfl) (Nat.le_of_ble_eq_true rfl) (Nat.zero_le _) (cC_J23_parentOf J w) (fun v9 h29 q9 => ?_) (fun E9 q9 h9 w9 => jr_out F M O (hE _ _ _ w9))
  obtain ⟨r28, rfl, w⟩ := q9
  refine jr_iconst (pc := 122) F dJ23_fixAfterInsertion_122 ?_
  refine jr_callS (pc := 123) (As := [_, _]) F M (lw_S q2281 q2282 q148 q2283) dJ23_fixAfterInsertion_123 hC_J23_setColor.2 rfl (Nat.le_of_ble_eq_true rfl) (Nat.le_of_ble_eq_true rfl) (Nat.le_of_ble_eq_true rfl) (Nat.zero_le _) (cC_J23_setColor J w) (fun v9 h32 q9 => ?_) (fun E9 q9 h9 w9 => jr_out F M O (hE _ _ _ w9))
  obtain ⟨rfl, w⟩ := q9
  refine jr_aload_n (pc := 126) F (j := 1) dJ23_fixAfterInsertion_126 rfl ?_
  refine jr_callS (pc := 127) (As := [_]) F M (lw_S q2269 q2270 q148 q2271) dJ23_fixAfterInsertion_127 hC_J23_parentOf.2 rfl (Nat.le_of_ble_eq_true rfl) (Nat.le_of_ble_eq_true rfl) (Nat.le_of_ble_eq_true rfl) (Nat.zero_le _) (cC_J23_parentOf J w) (fun v9 h35 q9 => ?_) (fun E9 q9 h9 w9 => jr_out F M O (hE _ _ _ w9))
  obtain ⟨r34, rfl, w⟩ := q9
  refine jr_callS (pc := 130) (As := [_]) F M (lw_S q2269 q2270 q148 q2271) dJ23_fixAfterInsertion_130 hC_J23_parentOf.2 rfl (Nat.le_of_ble_eq_true rfl) (Nat.le_of_ble_eq_true rfl) (Nat.le_of_ble_eq_true rfl) (Nat.zero_le _) (cC_J23_parentOf J w) (fun v9 h38 q9 => ?_) (fun E9 q9 h9 w9 => jr_out F M O (hE _ _ _ w9))
  obtain ⟨r37, rfl, w⟩ := q9
  refine jr_iconst (pc := 133) F dJ23_fixAfterInsertion_133 ?_
  refine jr_callS (pc := 134) (As := [_, _]) F M (lw_S q2281 q2282 q148 q2283) dJ23_fixAfterInsertion_134 hC_J23_setColor.2 rfl (Nat.le_of_ble_eq_true rfl) (Nat.le_of_ble_eq_true rfl) (Nat.le_of_ble_eq_true rfl) (Nat.zero_le _) (cC_J23_setColor J w) (fun v9 h41 q9 => ?_) (fun E9 q9 h9 w9 => jr_out F M O (hE _ _ _ w9))
  obtain ⟨rfl, w⟩ := q9
  refine jr_aload_n (pc := 137) F (j := 0) dJ23_fixAfterInsertion_137 rfl ?_
  refine jr_aload_n (pc := 138) F (j := 1) dJ23_fixAfterInsertion_138 rfl ?_
  refine jr_callS (pc := 139) (As := [_]) F M (lw_S q2269 q2270 q148 q2271) dJ23_fixAfterInsertion_139 hC_J23_parentOf.2 rfl (Nat.le_of_ble_eq_true rfl) (Nat.le_of_ble_eq_true rfl) (Nat.le_of_ble_eq_true rfl) (Nat.zero_le _) (cC_J23_parentOf J w) (fun v9 h44 q9 => ?_) (fun E9 q9 h9 w9 => jr_out F M O (hE _ _ _ w9))
  obtain ⟨r43, rfl, w⟩ := q9
  refine jr_callS (pc := 142) (As := [_]) F M (lw_S q2269 q2270 q148 q2271) dJ23_fixAfterInsertion_142 hC_J23_parentOf.2 rfl (Nat.le_of_ble_eq_true rfl) (Nat.le_of_ble_eq_true rfl) (Nat.le_of_ble_eq_true rfl) (Nat.zero_le _) (cC_J23_parentOf J w) (fun v9 h47 q9 => ?_) (fun E9 q9 h9 w9 => jr_out F M O (hE _ _ _ w9))
  obtain ⟨r46, rfl, w⟩ := q9
  obtain ⟨hi9, w⟩ := w
  refine jr_cV (pc := 145) (As := [_]) (ci := 23) F M (lw_V q2288 q2290 qs19 q148 q2291) dJ23_fixAfterInsertion_145 hC_J23_rotateRight rfl (Nat.le_of_ble_eq_true rfl) (Nat.le_of_ble_eq_true rfl) (Nat.le_of_ble_eq_true rfl) rfl hi9 (Nat.zero_le _) (cC_J23_rotateRight J w) (fun v9 h50 q9 => ?_) (fun E9 q9 h9 w9 => jr_out F M O (hE _ _ _ w9))
  obtain ⟨rfl, w⟩ := q9
  refine jr_goto (pc := 148) (tgt := 5) F dJ23_fixAfterInsertion_148 rfl ?_
  exact hK5 _ _ _ w

theorem sC_J23_fixAfterInsertion_l5 {X : jj_X} {N : Option jj_AV → jj_H → Prop} {XN : String → Nat → jj_H → Prop} (F : jj_F X RJ23 cJ23_fixAfterInsertion 3) (M : jj_M X (none) 1 22 N XN) (O : jj_no X) (J : jx_G X.1 X.2.2.1) (hi : X.2.2.2.2.2.2.2.2.2.1.name = yJ23_fixAfterInsertion.name) {Q : jj_H → Prop} {E : String → Nat → jj_H → Prop} (hQ : ∀ h, Q h → N none h) (hE : ∀ e q h, E e q h → XN e q h) (x0 : Option Nat) : ∀ (n : Nat) (x1 : Option Nat) (h : jj_H) (k : Nat), fC_J23_fixAfterInsertion_l5 (jj_gk X.1) x0 Q E n x1 h k → jj_J X 3 5 [(0, .inr (.inr (.inl x0))), (1, .inr (.inr (.inl x1)))] [] h k := by
  intro n
  induction n with
  | zero =>
    intro x1 h k w
    exact (show False from w).elim
  | succ n ih =>
    intro x1 h k w
    rw [fC_J23_fixAfterInsertion_l5] at w
    refine jr_aload_n (pc := 5) F (j := 1) dJ23_fixAfterInsertion_5 rfl ?_
    obtain ⟨w1, w2⟩ := w
    refine jr_ifnull (pc := 6) (tgt := 258) F dJ23_fixAfterInsertion_6 rfl (fun c9 => ?_) (fun c9 => ?_)
    · have w := w1 c9
      refine jj_J.sub [0] rfl ?_
      exact sC_J23_fixAfterInsertion_j258 F M O J hi hQ hE _ _ _ w
    · have w := w2 c9
      refine jr_aload_n (pc := 9) F (j := 1) dJ23_fixAfterInsertion_9 rfl ?_
      refine jr_aload_n (pc := 10) F (j := 0) dJ23_fixAfterInsertion_10 rfl ?_
      refine jr_gr (pc := 11) (ci := 23) (f := 3) F rfl in_J23 (Nat.le_of_ble_eq_true rfl) q3044 dJ23_fixAfterInsertion_11 w (fun g51 w => ?_)
      obtain ⟨w1, w2⟩ := w
      refine jr_acmp_eq (pc := 14) (tgt := 258) F dJ23_fixAfterInsertion_14 rfl (fun c9 => ?_) (fun c9 => ?_)
      · have w := w1 c9
        refine jj_J.sub [0] rfl ?_
        exact sC_J23_fixAfterInsertion_j258 F M O J hi hQ hE _ _ _ w
      · have w := w2 c9
        refine jr_aload_n (pc := 17) F (j := 1) dJ23_fixAfterInsertion_17 rfl ?_
        refine jr_gr (pc := 18) (ci := 24) (f := 4) F rfl in_J43 (Nat.le_of_ble_eq_true rfl) q2242 dJ23_fixAfterInsertion_18 w (fun g52 w => ?_)
        refine jr_gi (pc := 21) (ci := 24) (f := 5) F rfl in_J43 (Nat.le_of_ble_eq_true rfl) q2244 dJ23_fixAfterInsertion_21 w (fun g53 w => ?_)
        obtain ⟨hx9, w1, w2⟩ := w
        refine jr_if_ne (pc := 24) (tgt := 258) F hx9 dJ23_fixAfterInsertion_24 rfl (fun c9 => ?_) (fun c9 => ?_)
        · have w := w1 c9
          refine jj_J.sub [0] rfl ?_
          exact sC_J23_fixAfterInsertion_j258 F M O J hi hQ hE _ _ _ w
        · have w := w2 c9
          refine jr_aload_n (pc := 27) F (j := 1) dJ23_fixAfterInsertion_27 rfl ?_
          refine jr_callS (pc := 28) (As := [_]) F M (lw_S q2269 q2270 q148 q2271) dJ23_fixAfterInsertion_28 hC_J23_parentOf.2 rfl (Nat.le_of_ble_eq_true rfl) (Nat.le_of_ble_eq_true rfl) (Nat.le_of_ble_eq_true rfl) (Nat.zero_le _) (cC_J23_parentOf J w) (fun v9 h56 q9 => ?_) (fun E9 q9 h9 w9 => jr_out F M O (hE _ _ _ w9))
          obtain ⟨r55, rfl, w⟩ := q9
          refine jr_aload_n (pc := 31) F (j := 1) dJ23_fixAfterInsertion_31 rfl ?_
          refine jr_callS (pc := 32) (As := [_]) F M (lw_S q2269 q2270 q148 q2271) dJ23_fixAfterInsertion_32 hC_J23_parentOf.2 rfl (Nat.le_of_ble_eq_true rfl) (Nat.le_of_ble_eq_true rfl) (Nat.le_of_ble_eq_true rfl) (Nat.zero_le _) (cC_J23_parentOf J w) (fun v9 h59 q9 => ?_) (fun E9 q9 h9 w9 => jr_out F M O (hE _ _ _ w9))
          obtain ⟨r58, rfl, w⟩ := q9
          refine jr_callS (pc := 35) (As := [_]) F M (lw_S q2269 q2270 q148 q2271) dJ23_fixAfterInsertion_35 hC_J23_parentOf.2 rfl (Nat.le_of_ble_eq_true rfl) (Nat.le_of_ble_eq_true rfl) (Nat.le_of_ble_eq_true rfl) (Nat.zero_le _) (cC_J23_parentOf J w) (fun v9 h62 q9 => ?_) (fun E9 q9 h9 w9 => jr_out F M O (hE _ _ _ w9))
          obtain ⟨r61, rfl, w⟩ := q9
          refine jr_callS (pc := 38) (As := [_]) F M (lw_S q2272 q2273 q148 q2274) dJ23_fixAfterInsertion_38 hC_J23_leftOf.2 rfl (Nat.le_of_ble_eq_true rfl) (Nat.le_of_ble_eq_true rfl) (Nat.le_of_ble_eq_true rfl) (Nat.zero_le _) (cC_J23_leftOf J w) (fun v9 h65 q9 => ?_) (fun E9 q9 h9 w9 => jr_out F M O (hE _ _ _ w9))
          obtain ⟨r64, rfl, w⟩ := q9
          obtain ⟨w1, w2⟩ := w
          refine jr_acmp_ne (pc := 41) (tgt := 151) F dJ23_fixAfterInsertion_41 rfl (fun c9 => ?_) (fun c9 => ?_)
          · have w := w1 c9
            refine jr_aload_n (pc := 151) F (j := 1) dJ23_fixAfterInsertion_151 rfl ?_
            refine jr_callS (pc := 152) (As := [_]) F M (lw_S q2269 q2270 q148 q2271) dJ23_fixAfterInsertion_152 hC_J23_parentOf.2 rfl (Nat.le_of_ble_eq_true rfl) (Nat.le_of_ble_eq_true rfl) (Nat.le_of_ble_eq_true rfl) (Nat.zero_le _) (cC_J23_parentOf J w) (fun v9 h68 q9 => ?_) (fun E9 q9 h9 w9 => jr_out F M O (hE _ _ _ w9))
            obtain ⟨r67, rfl, w⟩ := q9
            refine jr_callS (pc := 155) (As := [_]) F M (lw_S q2269 q2270 q148 q2271) dJ23_fixAfterInsertion_155 hC_J23_parentOf.2 rfl (Nat.le_of_ble_eq_true rfl) (Nat.le_of_ble_eq_true rfl) (Nat.le_of_ble_eq_true rfl) (Nat.zero_le _) (cC_J23_parentOf J w) (fun v9 h71 q9 => ?_) (fun E9 q9 h9 w9 => jr_out F M O (hE _ _ _ w9))
            obtain ⟨r70, rfl, w⟩ := q9
            refine jr_callS (pc := 158) (As := [_]) F M (lw_S q2272 q2273 q148 q2274) dJ23_fixAfterInsertion_158 hC_J23_leftOf.2 rfl (Nat.le_of_ble_eq_true rfl) (Nat.le_of_ble_eq_true rfl) (Nat.le_of_ble_eq_true rfl) (Nat.zero_le _) (cC_J23_leftOf J w) (fun v9 h74 q9 => ?_) (fun E9 q9 h9 w9 => jr_out F M O (hE _ _ _ w9))
            obtain ⟨r73, rfl, w⟩ := q9
            refine jr_astore_n (pc := 161) F (vs' := [(2, .inr (.inr (.inl _))), (0, .inr (.inr (.inl _))), (1, .inr (.inr (.inl _)))]) dJ23_fixAfterInsertion_161 (Nat.le_of_ble_eq_true rfl) rfl ?_
            refine jr_aload_n (pc := 162) F (j := 0) dJ23_fixAfterInsertion_162 rfl ?_
            refine jr_callS (pc := 163) (As := [_]) F M (lw_S q2278 q2279 q148 q2280) dJ23_fixAfterInsertion_163 hC_J23_colorOf.2 rfl (Nat.le_of_ble_eq_true rfl) (Nat.le_of_ble_eq_true rfl) (Nat.le_of_ble_eq_true rfl) (Nat.zero_le _) (cC_J23_colorOf J w) (fun v9 h77 q9 => ?_) (fun E9 q9 h9 w9 => jr_out F M O (hE _ _ _ w9))
            obtain ⟨r76, rfl, w⟩ := q9
            obtain ⟨hx9, w1, w2⟩ := w
            refine jr_if_ne (pc := 166) (tgt := 204) F hx9 dJ23_fixAfterInsertion_166 rfl (fun c9 => ?_) (fun c9 => ?_)
            · have w := w1 c9
              refine jr_aload_n (pc := 204) F (j := 2) dJ23_fixAfterInsertion_204 rfl ?_
              refine jr_aload_n (pc := 205) F (j := 2) dJ23_fixAfterInsertion_205 rfl ?_
              refine jr_callS (pc := 206) (As := [_]) F M (lw_S q2269 q2270 q148 q2271) dJ23_fixAfterInsertion_206 hC_J23_parentOf.2 rfl (Nat.le_of_ble_eq_true rfl) (Nat.le_of_ble_eq_true rfl) (Nat.le_of_ble_eq_true rfl) (Nat.zero_le _) (cC_J23_parentOf J w) (fun v9 h80 q9 => ?_) (fun E9 q9 h9 w9 => jr_out F M O (hE _ _ _ w9))
              obtain ⟨r79, rfl, w⟩ := q9
              refine jr_callS (pc := 209) (As := [_]) F M (lw_S q2272 q2273 q148 q2274) dJ23_fixAfterInsertion_209 hC_J23_leftOf.2 rfl (Nat.le_of_ble_eq_true rfl) (Nat.le_of_ble_eq_true rfl) (Nat.le_of_ble_eq_true rfl) (Nat.zero_le _) (cC_J23_leftOf J w) (fun v9 h83 q9 => ?_) (fun E9 q9 h9 w9 => jr_out F M O (hE _ _ _ w9))
              obtain ⟨r82, rfl, w⟩ := q9
              obtain ⟨w1, w2⟩ := w
              refine jr_acmp_ne (pc := 212) (tgt := 225) F dJ23_fixAfterInsertion_212 rfl (fun c9 => ?_) (fun c9 => ?_)
              · have w := w1 c9
                refine jj_J.sub [1, 2] rfl ?_
                exact sC_J23_fixAfterInsertion_j225 F M O J hi hQ hE _ _ ih _ _ w
              · have w := w2 c9
                refine jr_aload_n (pc := 215) F (j := 2) dJ23_fixAfterInsertion_215 rfl ?_
                refine jr_callS (pc := 216) (As := [_]) F M (lw_S q2269 q2270 q148 q2271) dJ23_fixAfterInsertion_216 hC_J23_parentOf.2 rfl (Nat.le_of_ble_eq_true rfl) (Nat.le_of_ble_eq_true rfl) (Nat.le_of_ble_eq_true rfl) (Nat.zero_le _) (cC_J23_parentOf J w) (fun v9 h86 q9 => ?_) (fun E9 q9 h9 w9 => jr_out F M O (hE _ _ _ w9))
                obtain ⟨r85, rfl, w⟩ := q9
                refine jr_astore_n (pc := 219) F (vs' := [(1, .inr (.inr (.inl _))), (2, .inr (.inr (.inl _))), (0, .inr (.inr (.inl _)))]) dJ23_fixAfterInsertion_219 (Nat.le_of_ble_eq_true rfl) rfl ?_
                refine jr_aload_n (pc := 220) F (j := 2) dJ23_fixAfterInsertion_220 rfl ?_
                refine jr_aload_n (pc := 221) F (j := 0) dJ23_fixAfterInsertion_221 rfl ?_
                obtain ⟨hi9, w⟩ := w
                refine jr_cV (pc := 222) (As := [_]) (ci := 23) F M (lw_V q2288 q2290 qs19 q148 q2291) dJ23_fixAfterInsertion_222 hC_J23_rotateRight rfl (Nat.le_of_ble_eq_true rfl) (Nat.le_of_ble_eq_true rfl) (Nat.le_of_ble_eq_true rfl) rfl hi9 (Nat.zero_le _) (cC_J23_rotateRight J w) (fun v9 h89 q9 => ?_) (fun E9 q9 h9 w9 => jr_out F M O (hE _ _ _ w9))
                obtain ⟨rfl, w⟩ := q9
                refine jj_J.sub [2, 0] rfl ?_
                exact sC_J23_fixAfterInsertion_j225 F M O J hi hQ hE _ _ ih _ _ w
            · have w := w2 c9
              refine jr_aload_n (pc := 169) F (j := 2) dJ23_fixAfterInsertion_169 rfl ?_
              refine jr_callS (pc := 170) (As := [_]) F M (lw_S q2269 q2270 q148 q2271) dJ23_fixAfterInsertion_170 hC_J23_parentOf.2 rfl (Nat.le_of_ble_eq_true rfl) (Nat.le_of_ble_eq_true rfl) (Nat.le_of_ble_eq_true rfl) (Nat.zero_le _) (cC_J23_parentOf J w) (fun v9 h92 q9 => ?_) (fun E9 q9 h9 w9 => jr_out F M O (hE _ _ _ w9))
              obtain ⟨r91, rfl, w⟩ := q9
              refine jr_iconst (pc := 173) F dJ23_fixAfterInsertion_173 ?_
              refine jr_callS (pc := 174) (As := [_, _]) F M (lw_S q2281 q2282 q148 q2283) dJ23_fixAfterInsertion_174 hC_J23_setColor.2 rfl (Nat.le_of_ble_eq_true rfl) (Nat.le_of_ble_eq_true rfl) (Nat.le_of_ble_eq_true rfl) (Nat.zero_le _) (cC_J23_setColor J w) (fun v9 h95 q9 => ?_) (fun E9 q9 h9 w9 => jr_out F M O (hE _ _ _ w9))
              obtain ⟨rfl, w⟩ := q9
              refine jr_aload_n (pc := 177) F (j := 0) dJ23_fixAfterInsertion_177 rfl ?_
              refine jr_iconst (pc := 178) F dJ23_fixAfterInsertion_178 ?_
              refine jr_callS (pc := 179) (As := [_, _]) F M (lw_S q2281 q2282 q148 q2283) dJ23_fixAfterInsertion_179 hC_J23_setColor.2 rfl (Nat.le_of_ble_eq_true rfl) (Nat.le_of_ble_eq_true rfl) (Nat.le_of_ble_eq_true rfl) (Nat.zero_le _) (cC_J23_setColor J w) (fun v9 h98 q9 => ?_) (fun E9 q9 h9 w9 => jr_out F M O (hE _ _ _ w9))
              obtain ⟨rfl, w⟩ := q9
              refine jr_aload_n (pc := 182) F (j := 2) dJ23_fixAfterInsertion_182 rfl ?_
              refine jr_callS (pc := 183) (As := [_]) F M (lw_S q2269 q2270 q148 q2271) dJ23_fixAfterInsertion_183 hC_J23_parentOf.2 rfl (Nat.le_of_ble_eq_true rfl) (Nat.le_of_ble_eq_true rfl) (Nat.le_of_ble_eq_true rfl) (Nat.zero_le _) (cC_J23_parentOf J w) (fun v9 h101 q9 => ?_) (fun E9 q9 h9 w9 => jr_out F M O (hE _ _ _ w9))
              obtain ⟨r100, rfl, w⟩ := q9
              refine jr_callS (pc := 186) (As := [_]) F M (lw_S q2269 q2270 q148 q2271) dJ23_fixAfterInsertion_186 hC_J23_parentOf.2 rfl (Nat.le_of_ble_eq_true rfl) (Nat.le_of_ble_eq_true rfl) (Nat.le_of_ble_eq_true rfl) (Nat.zero_le _) (cC_J23_parentOf J w) (fun v9 h104 q9 => ?_) (fun E9 q9 h9 w9 => jr_out F M O (hE _ _ _ w9))
              obtain ⟨r103, rfl, w⟩ := q9
              refine jr_iconst (pc := 189) F dJ23_fixAfterInsertion_189 ?_
              refine jr_callS (pc := 190) (As := [_, _]) F M (lw_S q2281 q2282 q148 q2283) dJ23_fixAfterInsertion_190 hC_J23_setColor.2 rfl (Nat.le_of_ble_eq_true rfl) (Nat.le_of_ble_eq_true rfl) (Nat.le_of_ble_eq_true rfl) (Nat.zero_le _) (cC_J23_setColor J w) (fun v9 h107 q9 => ?_) (fun E9 q9 h9 w9 => jr_out F M O (hE _ _ _ w9))
              obtain ⟨rfl, w⟩ := q9
              refine jr_aload_n (pc := 193) F (j := 2) dJ23_fixAfterInsertion_193 rfl ?_
              refine jr_callS (pc := 194) (As := [_]) F M (lw_S q2269 q2270 q148 q2271) dJ23_fixAfterInsertion_194 hC_J23_parentOf.2 rfl (Nat.le_of_ble_eq_true rfl) (Nat.le_of_ble_eq_true rfl) (Nat.le_of_ble_eq_true rfl) (Nat.zero_le _) (cC_J23_parentOf J w) (fun v9 h110 q9 => ?_) (fun E9 q9 h9 w9 => jr_out F M O (hE _ _ _ w9))
              obtain ⟨r109, rfl, w⟩ := q9
              refine jr_callS (pc := 197) (As := [_]) F M (lw_S q2269 q2270 q148 q2271) dJ23_fixAfterInsertion_197 hC_J23_parentOf.2 rfl (Nat.le_of_ble_eq_true rfl) (Nat.le_of_ble_eq_true rfl) (Nat.le_of_ble_eq_true rfl) (Nat.zero_le _) (cC_J23_parentOf J w) (fun v9 h113 q9 => ?_) (fun E9 q9 h9 w9 => jr_out F M O (hE _ _ _ w9))
              obtain ⟨r112, rfl, w⟩ := q9
              refine jr_astore_n (pc := 200) F (vs' := [(1, .inr (.inr (.inl _))), (2, .inr (.inr (.inl _))), (0, .inr (.inr (.inl _)))]) dJ23_fixAfterInsertion_200 (Nat.le_of_ble_eq_true rfl) rfl ?_
              refine jr_goto (pc := 201) (tgt := 255) F dJ23_fixAfterInsertion_201 rfl ?_
              refine jr_goto (pc := 255) (tgt := 5) F dJ23_fixAfterInsertion_255 rfl ?_
              refine jj_J.sub [2, 0] rfl ?_
              exact ih _ _ _ w
          · have w := w2 c9
            refine jr_aload_n (pc := 44) F (j := 1) dJ23_fixAfterInsertion_44 rfl ?_
            refine jr_callS (pc := 45) (As := [_]) F M (lw_S q2269 q2270 q148 q2271) dJ23_fixAfterInsertion_45 hC_J23_parentOf.2 rfl (Nat.le_of_ble_eq_true rfl) (Nat.le_of_ble_eq_true rfl) (Nat.le_of_ble_eq_true rfl) (Nat.zero_le _) (cC_J23_parentOf J w) (fun v9 h116 q9 => ?_) (fun E9 q9 h9 w9 => jr_out F M O (hE _ _ _ w9))
            obtain ⟨r115, rfl, w⟩ := q9
            refine jr_callS (pc := 48) (As := [_]) F M (lw_S q2269 q2270 q148 q2271) dJ23_fixAfterInsertion_48 hC_J23_parentOf.2 rfl (Nat.le_of_ble_eq_true rfl) (Nat.le_of_ble_eq_true rfl) (Nat.le_of_ble_eq_true rfl) (Nat.zero_le _) (cC_J23_parentOf J w) (fun v9 h119 q9 => ?_) (fun E9 q9 h9 w9 => jr_out F M O (hE _ _ _ w9))
            obtain ⟨r118, rfl, w⟩ := q9
            refine jr_callS (pc := 51) (As := [_]) F M (lw_S q2275 q2276 q148 q2277) dJ23_fixAfterInsertion_51 hC_J23_rightOf.2 rfl (Nat.le_of_ble_eq_true rfl) (Nat.le_of_ble_eq_true rfl) (Nat.le_of_ble_eq_true rfl) (Nat.zero_le _) (cC_J23_rightOf J w) (fun v9 h122 q9 => ?_) (fun E9 q9 h9 w9 => jr_out F M O (hE _ _ _ w9))
            obtain ⟨r121, rfl, w⟩ := q9
            refine jr_astore_n (pc := 54) F (vs' := [(2, .inr (.inr (.inl _))), (0, .inr (.inr (.inl _))), (1, .inr (.inr (.inl _)))]) dJ23_fixAfterInsertion_54 (Nat.le_of_ble_eq_true rfl) rfl ?_
            refine jr_aload_n (pc := 55) F (j := 0) dJ23_fixAfterInsertion_55 rfl ?_
            refine jr_callS (pc := 56) (As := [_]) F M (lw_S q2278 q2279 q148 q2280) dJ23_fixAfterInsertion_56 hC_J23_colorOf.2 rfl (Nat.le_of_ble_eq_true rfl) (Nat.le_of_ble_eq_true rfl) (Nat.le_of_ble_eq_true rfl) (Nat.zero_le _) (cC_J23_colorOf J w) (fun v9 h125 q9 => ?_) (fun E9 q9 h9 w9 => jr_out F M O (hE _ _ _ w9))
            obtain ⟨r124, rfl, w⟩ := q9
            obtain ⟨hx9, w1, w2⟩ := w
            refine jr_if_ne (pc := 59) (tgt := 97) F hx9 dJ23_fixAfterInsertion_59 rfl (fun c9 => ?_) (fun c9 => ?_)
            · have w := w1 c9
              refine jr_aload_n (pc := 97) F (j := 2) dJ23_fixAfterInsertion_97 rfl ?_
              refine jr_aload_n (pc := 98) F (j := 2) dJ23_fixAfterInsertion_98 rfl ?_
              refine jr_callS (pc := 99) (As := [_]) F M (lw_S q2269 q2270 q148 q2271) dJ23_fixAfterInsertion_99 hC_J23_parentOf.2 rfl (Nat.le_of_ble_eq_true rfl) (Nat.le_of_ble_eq_true rfl) (Nat.le_of_ble_eq_true rfl) (Nat.zero_le _) (cC_J23_parentOf J w) (fun v9 h128 q9 => ?_) (fun E9 q9 h9 w9 => jr_out F M O (hE _ _ _ w9))
              obtain ⟨r127, rfl, w⟩ := q9
              refine jr_callS (pc := 102) (As := [_]) F M (lw_S q2275 q2276 q148 q2277) dJ23_fixAfterInsertion_102 hC_J23_rightOf.2 rfl (Nat.le_of_ble_eq_true rfl) (Nat.le_of_ble_eq_true rfl) (Nat.le_of_ble_eq_true rfl) (Nat.zero_le _) (cC_J23_rightOf J w) (fun v9 h131 q9 => ?_) (fun E9 q9 h9 w9 => jr_out F M O (hE _ _ _ w9))
              obtain ⟨r130, rfl, w⟩ := q9
              obtain ⟨w1, w2⟩ := w
              refine jr_acmp_ne (pc := 105) (tgt := 118) F dJ23_fixAfterInsertion_105 rfl (fun c9 => ?_) (fun c9 => ?_)
              · have w := w1 c9
                refine jj_J.sub [1, 2] rfl ?_
                exact sC_J23_fixAfterInsertion_j118 F M O J hi hQ hE _ _ ih _ _ w
              · have w := w2 c9
                refine jr_aload_n (pc := 108) F (j := 2) dJ23_fixAfterInsertion_108 rfl ?_
                refine jr_callS (pc := 109) (As := [_]) F M (lw_S q2269 q2270 q148 q2271) dJ23_fixAfterInsertion_109 hC_J23_parentOf.2 rfl (Nat.le_of_ble_eq_true rfl) (Nat.le_of_ble_eq_true rfl) (Nat.le_of_ble_eq_true rfl) (Nat.zero_le _) (cC_J23_parentOf J w) (fun v9 h134 q9 => ?_) (fun E9 q9 h9 w9 => jr_out F M O (hE _ _ _ w9))
                obtain ⟨r133, rfl, w⟩ := q9
                refine jr_astore_n (pc := 112) F (vs' := [(1, .inr (.inr (.inl _))), (2, .inr (.inr (.inl _))), (0, .inr (.inr (.inl _)))]) dJ23_fixAfterInsertion_112 (Nat.le_of_ble_eq_true rfl) rfl ?_
                refine jr_aload_n (pc := 113) F (j := 2) dJ23_fixAfterInsertion_113 rfl ?_
                refine jr_aload_n (pc := 114) F (j := 0) dJ23_fixAfterInsertion_114 rfl ?_
                obtain ⟨hi9, w⟩ := w
                refine jr_cV (pc := 115) (As := [_]) (ci := 23) F M (lw_V q2284 q2286 qs18 q148 q2287) dJ23_fixAfterInsertion_115 hC_J23_rotateLeft rfl (Nat.le_of_ble_eq_true rfl) (Nat.le_of_ble_eq_true rfl) (Nat.le_of_ble_eq_true rfl) rfl hi9 (Nat.zero_le _) (cC_J23_rotateLeft J w) (fun v9 h137 q9 => ?_) (fun E9 q9 h9 w9 => jr_out F M O (hE _ _ _ w9))
                obtain ⟨rfl, w⟩ := q9
                refine jj_J.sub [2, 0] rfl ?_
                exact sC_J23_fixAfterInsertion_j118 F M O J hi hQ hE _ _ ih _ _ w
            · have w := w2 c9
              refine jr_aload_n (pc := 62) F (j := 2) dJ23_fixAfterInsertion_62 rfl ?_
              refine jr_callS (pc := 63) (As := [_]) F M (lw_S q2269 q2270 q148 q2271) dJ23_fixAfterInsertion_63 hC_J23_parentOf.2 rfl (Nat.le_of_ble_eq_true rfl) (Nat.le_of_ble_eq_true rfl) (Nat.le_of_ble_eq_true rfl) (Nat.zero_le _) (cC_J23_parentOf J w) (fun v9 h140 q9 => ?_) (fun E9 q9 h9 w9 => jr_out F M O (hE _ _ _ w9))
              obtain ⟨r139, rfl, w⟩ := q9
              refine jr_iconst (pc := 66) F dJ23_fixAfterInsertion_66 ?_
              refine jr_callS (pc := 67) (As := [_, _]) F M (lw_S q2281 q2282 q148 q2283) dJ23_fixAfterInsertion_67 hC_J23_setColor.2 rfl (Nat.le_of_ble_eq_true rfl) (Nat.le_of_ble_eq_true rfl) (Nat.le_of_ble_eq_true rfl) (Nat.zero_le _) (cC_J23_setColor J w) (fun v9 h143 q9 => ?_) (fun E9 q9 h9 w9 => jr_out F M O (hE _ _ _ w9))
              obtain ⟨rfl, w⟩ := q9
              refine jr_aload_n (pc := 70) F (j := 0) dJ23_fixAfterInsertion_70 rfl ?_
              refine jr_iconst (pc := 71) F dJ23_fixAfterInsertion_71 ?_
              refine jr_callS (pc := 72) (As := [_, _]) F M (lw_S q2281 q2282 q148 q2283) dJ23_fixAfterInsertion_72 hC_J23_setColor.2 rfl (Nat.le_of_ble_eq_true rfl) (Nat.le_of_ble_eq_true rfl) (Nat.le_of_ble_eq_true rfl) (Nat.zero_le _) (cC_J23_setColor J w) (fun v9 h146 q9 => ?_) (fun E9 q9 h9 w9 => jr_out F M O (hE _ _ _ w9))
              obtain ⟨rfl, w⟩ := q9
              refine jr_aload_n (pc := 75) F (j := 2) dJ23_fixAfterInsertion_75 rfl ?_
              refine jr_callS (pc := 76) (As := [_]) F M (lw_S q2269 q2270 q148 q2271) dJ23_fixAfterInsertion_76 hC_J23_parentOf.2 rfl (Nat.le_of_ble_eq_true rfl) (Nat.le_of_ble_eq_true rfl) (Nat.le_of_ble_eq_true rfl) (Nat.zero_le _) (cC_J23_parentOf J w) (fun v9 h149 q9 => ?_) (fun E9 q9 h9 w9 => jr_out F M O (hE _ _ _ w9))
              obtain ⟨r148, rfl, w⟩ := q9
              refine jr_callS (pc := 79) (As := [_]) F M (lw_S q2269 q2270 q148 q2271) dJ23_fixAfterInsertion_79 hC_J23_parentOf.2 rfl (Nat.le_of_ble_eq_true rfl) (Nat.le_of_ble_eq_true rfl) (Nat.le_of_ble_eq_true rfl) (Nat.zero_le _) (cC_J23_parentOf J w) (fun v9 h152 q9 => ?_) (fun E9 q9 h9 w9 => jr_out F M O (hE _ _ _ w9))
              obtain ⟨r151, rfl, w⟩ := q9
              refine jr_iconst (pc := 82) F dJ23_fixAfterInsertion_82 ?_
              refine jr_callS (pc := 83) (As := [_, _]) F M (lw_S q2281 q2282 q148 q2283) dJ23_fixAfterInsertion_83 hC_J23_setColor.2 rfl (Nat.le_of_ble_eq_true rfl) (Nat.le_of_ble_eq_true rfl) (Nat.le_of_ble_eq_true rfl) (Nat.zero_le _) (cC_J23_setColor J w) (fun v9 h155 q9 => ?_) (fun E9 q9 h9 w9 => jr_out F M O (hE _ _ _ w9))
              obtain ⟨rfl, w⟩ := q9
              refine jr_aload_n (pc := 86) F (j := 2) dJ23_fixAfterInsertion_86 rfl ?_
              refine jr_callS (pc := 87) (As := [_]) F M (lw_S q2269 q2270 q148 q2271) dJ23_fixAfterInsertion_87 hC_J23_parentOf.2 rfl (Nat.le_of_ble_eq_true rfl) (Nat.le_of_ble_eq_true rfl) (Nat.le_of_ble_eq_true rfl) (Nat.zero_le _) (cC_J23_parentOf J w) (fun v9 h158 q9 => ?_) (fun E9 q9 h9 w9 => jr_out F M O (hE _ _ _ w9))
              obtain ⟨r157, rfl, w⟩ := q9
              refine jr_callS (pc := 90) (As := [_]) F M (lw_S q2269 q2270 q148 q2271) dJ23_fixAfterInsertion_90 hC_J23_parentOf.2 rfl (Nat.le_of_ble_eq_true rfl) (Nat.le_of_ble_eq_true rfl) (Nat.le_of_ble_eq_true rfl) (Nat.zero_le _) (cC_J23_parentOf J w) (fun v9 h161 q9 => ?_) (fun E9 q9 h9 w9 => jr_out F M O (hE _ _ _ w9))
              obtain ⟨r160, rfl, w⟩ := q9
              refine jr_astore_n (pc := 93) F (vs' := [(1, .inr (.inr (.inl _))), (2, .inr (.inr (.inl _))), (0, .inr (.inr (.inl _)))]) dJ23_fixAfterInsertion_93 (Nat.le_of_ble_eq_true rfl) rfl ?_
              refine jr_goto (pc := 94) (tgt := 148) F dJ23_fixAfterInsertion_94 rfl ?_
              refine jr_goto (pc := 148) (tgt := 5) F dJ23_fixAfterInsertion_148 rfl ?_
              refine jj_J.sub [2, 0] rfl ?_
              exact ih _ _ _ w

theorem sC_J23_fixAfterInsertion {X : jj_X} {N : Option jj_AV → jj_H → Prop} {XN : String → Nat → jj_H → Prop} (F : jj_F X RJ23 cJ23_fixAfterInsertion 3) (M : jj_M X (none) 1 22 N XN) (O : jj_no X) (J : jx_G X.1 X.2.2.1) (hi : X.2.2.2.2.2.2.2.2.2.1.name = yJ23_fixAfterInsertion.name) {Q : jj_H → Prop} {E : String → Nat → jj_H → Prop} (hQ : ∀ h, Q h → N none h) (hE : ∀ e q h, E e q h → XN e q h) (x0 : Option Nat) (x1 : Option Nat) : ∀ (h : jj_H) (k : Nat), fC_J23_fixAfterInsertion (jj_gk X.1) x0 x1 Q E h k → jj_J X 3 0 [(0, .inr (.inr (.inl x0))), (1, .inr (.inr (.inl x1)))] [] h k := by
  intro h k w
  unfold fC_J23_fixAfterInsertion at w
  refine jr_aload_n (pc := 0) F (j := 1) dJ23_fixAfterInsertion_0 rfl ?_
  refine jr_iconst (pc := 1) F dJ23_fixAfterInsertion_1 ?_
  refine jr_pz (pc := 2) (ci := 24) (f := 5) F rfl in_J43 tyJ43_ok nmJ43 (Nat.le_of_ble_eq_true rfl) rfl rfl q2244 dJ23_fixAfterInsertion_2 w (fun h162 w => ?_)
  obtain ⟨n9, w⟩ := w
  exact sC_J23_fixAfterInsertion_l5 F M O J hi hQ hE _ n9 _ _ _ w

theorem cC_J23_fixAfterInsertion {G : jj_G} {l : Launch} (J : jx_G G l) {x0 : Option Nat} {x1 : Option Nat} {Q : jj_H → Prop} {E : String → Nat → jj_H → Prop} {h : jj_H} {k : Nat} (w : fC_J23_fixAfterInsertion (jj_gk G) x0 x1 Q E h k) : jj_Ct G l yJ23_fixAfterInsertion (ws_ yJ23_fixAfterInsertion cJ23_fixAfterInsertion 3 (none)) 1 22 [.inr (.inr (.inl x0)), .inr (.inr (.inl x1))] h k (jc_v Q) E := by
  refine jj_Ct.of J.1 (by decide +kernel) (Nat.le_of_ble_eq_true rfl) rfl (fun X hG hl F M O hnm => ?_)
  subst hG; subst hl
  exact sC_J23_fixAfterInsertion F M O J hnm (fun h q => ⟨rfl, q⟩) (fun _ _ _ q => q) _ _ _ _ w
theorem hC_J23_fixAfterInsertion : yJ23_fixAfterInsertion.cls = RJ23 ∧ yJ23_fixAfterInsertion.cls ≠ "java/lang/invoke/MethodHandle" ∧ yJ23_fixAfterInsertion.cls ≠ "java/lang/invoke/VarHandle" ∧ (parseMethodDescriptor yJ23_fixAfterInsertion.desc).map (fun d => d.parameters.length) = some 1 := by decide +kernel
/-! J43_init(Ljava/lang/Object;Ljava/lang/Object;Ljava/util/TreeMap$Entry;)V -/
def fC_J43_init (gk : Nat → Nat) (x0 : Option Nat) (x1 : Option Nat) (x2 : Option Nat) (x3 : Option Nat) (Q : jj_H → Prop) (E : String → Nat → jj_H → Prop) (h : jj_H) (k : Nat) : Prop :=
  jp_so x0 ∧
  jp_pz h x0 24 5 1 (fun h1 =>
  jp_pr h1 x0 24 0 x1 (fun h2 =>
  jp_pr h2 x0 24 1 x2 (fun h3 =>
  jp_pr h3 x0 24 4 x3 (fun h4 =>
  Q h4))))
theorem sC_J43_init {X : jj_X} {N : Option jj_AV → jj_H → Prop} {XN : String → Nat → jj_H → Prop} (F : jj_F X RJ43 cJ43_init 4) (M : jj_M X (none) 1 20 N XN) (O : jj_no X) (J : jx_G X.1 X.2.2.1) (hi : X.2.2.2.2.2.2.2.2.2.1.name = yJ43_init.name) {Q : jj_H → Prop} {E : String → Nat → jj_H → Prop} (hQ : ∀ h, Q h → N none h) (hE : ∀ e q h, E e q h → XN e q h) (x0 : Option Nat) (x1 : Option Nat) (x2 : Option Nat) (x3 : Option Nat) : ∀ (h : jj_H) (k : Nat), fC_J43_init (jj_gk X.1) x0 x1 x2 x3 Q E h k → jj_J X 4 0 [(0, .inr (.inr (.inl x0))), (1, .inr (.inr (.inl x1))), (2, .inr (.inr (.inl x2))), (3, .inr (.inr (.inl x3)))] [] h k := by
  intro h k w
  unfold fC_J43_init at w
  refine jr_aload_n (pc := 0) F (j := 0) dJ43_init_0 rfl ?_
  obtain ⟨ha9, w⟩ := w
  refine jr_objInitO (pc := 1) F M q2233 q192 q193 ha9 (Nat.le_of_ble_eq_true rfl) (Nat.le_of_ble_eq_true rfl) (Nat.le_of_ble_eq_true rfl) dJ43_init_1 ?_
  refine jr_aload_n (pc := 4) F (j := 0) dJ43_init_4 rfl ?_
  refine jr_iconst (pc := 5) F dJ43_init_5 ?_
  refine jr_pz (pc := 6) (ci := 24) (f := 5) F rfl in_J43 tyJ43_ok nmJ43 (Nat.le_of_ble_eq_true rfl) rfl rfl q2243 dJ43_init_6 w (fun h1 w => ?_)
  refine jr_aload_n (pc := 9) F (j := 0) dJ43_init_9 rfl ?_
  refine jr_aload_n (pc := 10) F (j := 1) dJ43_init_10 rfl ?_
  refine jr_pr (pc := 11) (ci := 24) (f := 0) F rfl in_J43 tyJ43_ok nmJ43 (Nat.le_of_ble_eq_true rfl) rfl rfl q2234 dJ43_init_11 w (fun h2 w => ?_)
  refine jr_aload_n (pc := 14) F (j := 0) dJ43_init_14 rfl ?_
  refine jr_aload_n (pc := 15) F (j := 2) dJ43_init_15 rfl ?_
  refine jr_pr (pc := 16) (ci := 24) (f := 1) F rfl in_J43 tyJ43_ok nmJ43 (Nat.le_of_ble_eq_true rfl) rfl rfl q2237 dJ43_init_16 w (fun h3 w => ?_)
  refine jr_aload_n (pc := 19) F (j := 0) dJ43_init_19 rfl ?_
  refine jr_aload_n (pc := 20) F (j := 3) dJ43_init_20 rfl ?_
  refine jr_pr (pc := 21) (ci := 24) (f := 4) F rfl in_J43 tyJ43_ok nmJ43 (Nat.le_of_ble_eq_true rfl) rfl rfl q2241 dJ43_init_21 w (fun h4 w => ?_)
  exact jr_vret (pc := 24) F M dJ43_init_24 (hQ _ w)

theorem cC_J43_init {G : jj_G} {l : Launch} (J : jx_G G l) {x0 : Option Nat} {x1 : Option Nat} {x2 : Option Nat} {x3 : Option Nat} {Q : jj_H → Prop} {E : String → Nat → jj_H → Prop} {h : jj_H} {k : Nat} (w : fC_J43_init (jj_gk G) x0 x1 x2 x3 Q E h k) : jj_Ct G l yJ43_init (ws_ yJ43_init cJ43_init 4 (none)) 1 20 [.inr (.inr (.inl x0)), .inr (.inr (.inl x1)), .inr (.inr (.inl x2)), .inr (.inr (.inl x3))] h k (jc_v Q) E := by
  refine jj_Ct.of J.1 (by decide +kernel) (Nat.le_of_ble_eq_true rfl) rfl (fun X hG hl F M O hnm => ?_)
  subst hG; subst hl
  exact sC_J43_init F M O J hnm (fun h q => ⟨rfl, q⟩) (fun _ _ _ q => q) _ _ _ _ _ _ w
theorem hC_J43_init : yJ43_init.cls = RJ43 ∧ yJ43_init.cls ≠ "java/lang/invoke/MethodHandle" ∧ yJ43_init.cls ≠ "java/lang/invoke/VarHandle" ∧ (parseMethodDescriptor yJ43_init.desc).map (fun d => d.parameters.length) = some 3 := by decide +kernel
/-! J23_addEntry(Ljava/lang/Object;Ljava/lang/Object;Ljava/util/TreeMap$Entry;Z)V -/
def fC_J23_addEntry_j32 (gk : Nat → Nat) (x0 : Option Nat) (x5 : Option Nat) (Q : jj_H → Prop) (E : String → Nat → jj_H → Prop) (h : jj_H) (k : Nat) : Prop :=
  jp_is h x0 23 ∧ fC_J23_fixAfterInsertion gk x0 x5 (fun h3 =>
  jp_gi h3 x0 23 4 (fun g4 =>
  jp_pi h3 x0 23 4 (g4 + 1) (fun h5 =>
  jp_gi h5 x0 23 5 (fun g6 =>
  jp_pi h5 x0 23 5 (g6 + 1) (fun h7 =>
  Q h7))))) E h 0
def fC_J23_addEntry (gk : Nat → Nat) (x0 : Option Nat) (x1 : Option Nat) (x2 : Option Nat) (x3 : Option Nat) (x4 : Int) (Q : jj_H → Prop) (E : String → Nat → jj_H → Prop) (h : jj_H) (k : Nat) : Prop :=
  jp_nw h k 24 2 df_J43 (fun a8 h9 k10 =>
  jp_so (some a8) ∧ fC_J43_init gk (some a8) x1 x2 x3 (fun h13 =>
  jj_r x4 ∧ (x4 = 0 → (
    jp_pr h13 x3 24 3 (some a8) (fun h14 =>
    fC_J23_addEntry_j32 gk x0 (some a8) Q E h14 k10))) ∧
  (¬ x4 = 0 → (
    jp_pr h13 x3 24 2 (some a8) (fun h15 =>
    fC_J23_addEntry_j32 gk x0 (some a8) Q E h15 k10)))) E h9 0)
theorem sC_J23_addEntry_j32 {X : jj_X} {N : Option jj_AV → jj_H → Prop} {XN : String → Nat → jj_H → Prop} (F : jj_F X RJ23 cJ23_addEntry 6) (M : jj_M X (none) 2 44 N XN) (O : jj_no X) (J : jx_G X.1 X.2.2.1) (hi : X.2.2.2.2.2.2.2.2.2.1.name = yJ23_addEntry.name) {Q : jj_H → Prop} {E : String → Nat → jj_H → Prop} (hQ : ∀ h, Q h → N none h) (hE : ∀ e q h, E e q h → XN e q h) (x0 : Option Nat) (x5 : Option Nat) : ∀ (h : jj_H) (k : Nat), fC_J23_addEntry_j32 (jj_gk X.1) x0 x5 Q E h k → jj_J X 6 32 [(0, .inr (.inr (.inl x0))), (5, .inr (.inr (.inl x5)))] [] h k := by
  intro h k w
  unfold fC_J23_addEntry_j32 at w
  refine jr_aload_n (pc := 32) F (j := 0) dJ23_addEntry_32 rfl ?_
  refine jr_aload (pc := 33) F (j := 1) dJ23_addEntry_33 rfl ?_
  obtain ⟨hi9, w⟩ := w
  refine jr_cV (pc := 35) (As := [_]) (ci := 23) F M (lw_V q2265 q2267 qs17 q148 q2268) dJ23_addEntry_35 hC_J23_fixAfterInsertion rfl (Nat.le_of_ble_eq_true rfl) (Nat.le_of_ble_eq_true rfl) (Nat.le_of_ble_eq_true rfl) rfl hi9 (Nat.zero_le _) (cC_J23_fixAfterInsertion J w) (fun v9 h3 q9 => ?_) (fun E9 q9 h9 w9 => jr_out F M O (hE _ _ _ w9))
  obtain ⟨rfl, w⟩ := q9
  refine jr_aload_n (pc := 38) F (j := 0) dJ23_addEntry_38 rfl ?_
  refine jr_dup (pc := 39) F dJ23_addEntry_39 rfl ?_
  refine jr_gi (pc := 40) (ci := 23) (f := 4) F rfl in_J23 (Nat.le_of_ble_eq_true rfl) q3045 dJ23_addEntry_40 w (fun g4 w => ?_)
  refine jr_iconst (pc := 43) F dJ23_addEntry_43 ?_
  refine jr_iadd (pc := 44) F dJ23_addEntry_44 ?_
  refine jr_pi (pc := 45) (ci := 23) (f := 4) F rfl in_J23 tyJ23_ok nmJ23 (Nat.le_of_ble_eq_true rfl) rfl rfl q3045 dJ23_addEntry_45 w (fun h5 w => ?_)
  refine jr_aload_n (pc := 48) F (j := 0) dJ23_addEntry_48 rfl ?_
  refine jr_dup (pc := 49) F dJ23_addEntry_49 rfl ?_
  refine jr_gi (pc := 50) (ci := 23) (f := 5) F rfl in_J23 (Nat.le_of_ble_eq_true rfl) q3047 dJ23_addEntry_50 w (fun g6 w => ?_)
  refine jr_iconst (pc := 53) F dJ23_addEntry_53 ?_
  refine jr_iadd (pc := 54) F dJ23_addEntry_54 ?_
  refine jr_pi (pc := 55) (ci := 23) (f := 5) F rfl in_J23 tyJ23_ok nmJ23 (Nat.le_of_ble_eq_true rfl) rfl rfl q3047 dJ23_addEntry_55 w (fun h7 w => ?_)
  exact jr_vret (pc := 58) F M dJ23_addEntry_58 (hQ _ w)

theorem sC_J23_addEntry {X : jj_X} {N : Option jj_AV → jj_H → Prop} {XN : String → Nat → jj_H → Prop} (F : jj_F X RJ23 cJ23_addEntry 6) (M : jj_M X (none) 2 44 N XN) (O : jj_no X) (J : jx_G X.1 X.2.2.1) (hi : X.2.2.2.2.2.2.2.2.2.1.name = yJ23_addEntry.name) {Q : jj_H → Prop} {E : String → Nat → jj_H → Prop} (hQ : ∀ h, Q h → N none h) (hE : ∀ e q h, E e q h → XN e q h) (x0 : Option Nat) (x1 : Option Nat) (x2 : Option Nat) (x3 : Option Nat) (x4 : Int) : ∀ (h : jj_H) (k : Nat), fC_J23_addEntry (jj_gk X.1) x0 x1 x2 x3 x4 Q E h k → jj_J X 6 0 [(0, .inr (.inr (.inl x0))), (1, .inr (.inr (.inl x1))), (2, .inr (.inr (.inl x2))), (3, .inr (.inr (.inl x3))), (4, .inl x4)] [] h k := by
  intro h k w
  unfold fC_J23_addEntry at w
  refine jr_new (pc := 0) (ci := 24) F rfl in_J43 tyJ43_ok q2228 q2229 q171 dfo_J43 rfl ⟨by decide, by decide⟩ dJ23_addEntry_0 w (fun a8 h9 k10 w => ?_)
  refine jr_dup (pc := 3) F dJ23_addEntry_3 rfl ?_
  refine jr_aload_n (pc := 4) F (j := 1) dJ23_addEntry_4 rfl ?_
  refine jr_aload_n (pc := 5) F (j := 2) dJ23_addEntry_5 rfl ?_
  refine jr_aload_n (pc := 6) F (j := 3) dJ23_addEntry_6 rfl ?_
  obtain ⟨hi9, w⟩ := w
  refine jr_cI (pc := 7) (As := [_, _, _]) F M q2230 q2231 q171 q2232 dJ23_addEntry_7 rfl hC_J43_init.2 rfl (Nat.le_of_ble_eq_true rfl) (Nat.le_of_ble_eq_true rfl) (Nat.le_of_ble_eq_true rfl) hi9 (Nat.zero_le _) (cC_J43_init J w) (fun v9 h13 q9 => ?_) (fun E9 q9 h9 w9 => jr_out F M O (hE _ _ _ w9))
  obtain ⟨rfl, w⟩ := q9
  refine jr_astore (pc := 10) F (vs' := [(5, .inr (.inr (.inl _))), (0, .inr (.inr (.inl _))), (1, .inr (.inr (.inl _))), (2, .inr (.inr (.inl _))), (3, .inr (.inr (.inl _))), (4, .inl _)]) dJ23_addEntry_10 (Nat.le_of_ble_eq_true rfl) rfl ?_
  refine jr_iload (pc := 12) F (j := 5) dJ23_addEntry_12 rfl ?_
  obtain ⟨hx9, w1, w2⟩ := w
  refine jr_if_eq (pc := 14) (tgt := 26) F hx9 dJ23_addEntry_14 rfl (fun c9 => ?_) (fun c9 => ?_)
  · have w := w1 c9
    refine jr_aload_n (pc := 26) F (j := 4) dJ23_addEntry_26 rfl ?_
    refine jr_aload (pc := 27) F (j := 0) dJ23_addEntry_27 rfl ?_
    refine jr_pr (pc := 29) (ci := 24) (f := 3) F rfl in_J43 tyJ43_ok nmJ43 (Nat.le_of_ble_eq_true rfl) rfl rfl q2240 dJ23_addEntry_29 w (fun h14 w => ?_)
    refine jj_J.sub [1, 0] rfl ?_
    exact sC_J23_addEntry_j32 F M O J hi hQ hE _ _ _ _ w
  · have w := w2 c9
    refine jr_aload_n (pc := 17) F (j := 4) dJ23_addEntry_17 rfl ?_
    refine jr_aload (pc := 18) F (j := 0) dJ23_addEntry_18 rfl ?_
    refine jr_pr (pc := 20) (ci := 24) (f := 2) F rfl in_J43 tyJ43_ok nmJ43 (Nat.le_of_ble_eq_true rfl) rfl rfl q2239 dJ23_addEntry_20 w (fun h15 w => ?_)
    refine jr_goto (pc := 23) (tgt := 32) F dJ23_addEntry_23 rfl ?_
    refine jj_J.sub [1, 0] rfl ?_
    exact sC_J23_addEntry_j32 F M O J hi hQ hE _ _ _ _ w

theorem cC_J23_addEntry {G : jj_G} {l : Launch} (J : jx_G G l) {x0 : Option Nat} {x1 : Option Nat} {x2 : Option Nat} {x3 : Option Nat} {x4 : Int} {Q : jj_H → Prop} {E : String → Nat → jj_H → Prop} {h : jj_H} {k : Nat} (w : fC_J23_addEntry (jj_gk G) x0 x1 x2 x3 x4 Q E h k) : jj_Ct G l yJ23_addEntry (ws_ yJ23_addEntry cJ23_addEntry 6 (none)) 2 44 [.inr (.inr (.inl x0)), .inr (.inr (.inl x1)), .inr (.inr (.inl x2)), .inr (.inr (.inl x3)), .inl x4] h k (jc_v Q) E := by
  refine jj_Ct.of J.1 (by decide +kernel) (Nat.le_of_ble_eq_true rfl) rfl (fun X hG hl F M O hnm => ?_)
  subst hG; subst hl
  exact sC_J23_addEntry F M O J hnm (fun h q => ⟨rfl, q⟩) (fun _ _ _ q => q) _ _ _ _ _ _ _ w
theorem hC_J23_addEntry : yJ23_addEntry.cls = RJ23 ∧ yJ23_addEntry.cls ≠ "java/lang/invoke/MethodHandle" ∧ yJ23_addEntry.cls ≠ "java/lang/invoke/VarHandle" ∧ (parseMethodDescriptor yJ23_addEntry.desc).map (fun d => d.parameters.length) = some 4 := by decide +kernel
/-! J23_compare(Ljava/lang/Object;Ljava/lang/Object;)I -/
def fC_J23_compare (gk : Nat → Nat) (x0 : Option Nat) (x1 : Option Nat) (x2 : Option Nat) (Q : Int → jj_H → Prop) (E : String → Nat → jj_H → Prop) (h : jj_H) (k : Nat) : Prop :=
  jp_gr h x0 23 2 (fun g1 =>
  (¬ g1 = none → (
    jp_gr h x0 23 2 (fun g2 =>
    False))) ∧
  (g1 = none → (
    jp_is h x1 27 ∧
    jq_J17_compareTo x1 x2 (fun r5 h3 k4 =>
    Q r5 h3) h k)))
theorem sC_J23_compare {X : jj_X} {N : Option jj_AV → jj_H → Prop} {XN : String → Nat → jj_H → Prop} (F : jj_F X RJ23 cJ23_compare 3) (M : jj_M X (some (.int)) 3 63 N XN) (O : jj_no X) (J : jx_G X.1 X.2.2.1) (hi : X.2.2.2.2.2.2.2.2.2.1.name = yJ23_compare.name) {Q : Int → jj_H → Prop} {E : String → Nat → jj_H → Prop} (hQ : ∀ r h, Q r h → N (some (.inl r)) h) (hE : ∀ e q h, E e q h → XN e q h) (x0 : Option Nat) (x1 : Option Nat) (x2 : Option Nat) : ∀ (h : jj_H) (k : Nat), fC_J23_compare (jj_gk X.1) x0 x1 x2 Q E h k → jj_J X 3 0 [(0, .inr (.inr (.inl x0))), (1, .inr (.inr (.inl x1))), (2, .inr (.inr (.inl x2)))] [] h k := by
  intro h k w
  unfold fC_J23_compare at w
  refine jr_aload_n (pc := 0) F (j := 0) dJ23_compare_0 rfl ?_
  refine jr_gr (pc := 1) (ci := 23) (f := 2) F rfl in_J23 (Nat.le_of_ble_eq_true rfl) q3043 dJ23_compare_1 w (fun g1 w => ?_)
  obtain ⟨w1, w2⟩ := w
  refine jr_ifnonnull (pc := 4) (tgt := 20) F dJ23_compare_4 rfl (fun c9 => ?_) (fun c9 => ?_)
  · have w := w1 c9
    refine jr_aload_n (pc := 20) F (j := 0) dJ23_compare_20 rfl ?_
    refine jr_gr (pc := 21) (ci := 23) (f := 2) F rfl in_J23 (Nat.le_of_ble_eq_true rfl) q3043 dJ23_compare_21 w (fun g2 w => ?_)
    refine jr_aload_n (pc := 24) F (j := 1) dJ23_compare_24 rfl ?_
    refine jr_aload_n (pc := 25) F (j := 2) dJ23_compare_25 rfl ?_
    exact (show False from w).elim
  · have w := w2 c9
    refine jr_aload_n (pc := 7) F (j := 1) dJ23_compare_7 rfl ?_
    obtain ⟨hi9, w⟩ := w
    refine jr_castC (pc := 8) (ci := 27) F rfl q1381 q2223 dJ23_compare_8 hi9 ?_
    refine jr_aload_n (pc := 11) F (j := 2) dJ23_compare_11 rfl ?_
    refine jr_jFR (pc := 12) (n := 1) (As := [_]) (ci := 27) F M (lw_F q2225 q1382 q1384 q140 q1386) (jx_fw J 5 rfl) dJ23_compare_12 (by decide +kernel) rfl (Nat.le_of_ble_eq_true rfl) (Nat.le_of_ble_eq_true rfl) (Nat.le_of_ble_eq_true rfl) rfl (cb_J17_compareTo J (fr := 2) (lo := 42) (Nat.le_of_ble_eq_true rfl) (Nat.le_of_ble_eq_true rfl) _ _ _ _ _ w) (fun v9 h3 k4 q9 => ?_)
    obtain ⟨r5, rfl, w⟩ := q9
    refine jr_goto (pc := 17) (tgt := 31) F dJ23_compare_17 rfl ?_
    exact jr_iret (pc := 31) F M dJ23_compare_31 (hQ _ _ w)

theorem cC_J23_compare {G : jj_G} {l : Launch} (J : jx_G G l) {x0 : Option Nat} {x1 : Option Nat} {x2 : Option Nat} {Q : Int → jj_H → Prop} {E : String → Nat → jj_H → Prop} {h : jj_H} {k : Nat} (w : fC_J23_compare (jj_gk G) x0 x1 x2 Q E h k) : jj_Ct G l yJ23_compare (ws_ yJ23_compare cJ23_compare 3 (some (.int))) 3 63 [.inr (.inr (.inl x0)), .inr (.inr (.inl x1)), .inr (.inr (.inl x2))] h k (jc_i Q) E := by
  refine jj_Ct.of J.1 (by decide +kernel) (Nat.le_of_ble_eq_true rfl) rfl (fun X hG hl F M O hnm => ?_)
  subst hG; subst hl
  exact sC_J23_compare F M O J hnm (fun r h q => ⟨r, rfl, q⟩) (fun _ _ _ q => q) _ _ _ _ _ w
theorem hC_J23_compare : yJ23_compare.cls = RJ23 ∧ yJ23_compare.cls ≠ "java/lang/invoke/MethodHandle" ∧ yJ23_compare.cls ≠ "java/lang/invoke/VarHandle" ∧ (parseMethodDescriptor yJ23_compare.desc).map (fun d => d.parameters.length) = some 2 := by decide +kernel
/-! J23_addEntryToEmptyMap(Ljava/lang/Object;Ljava/lang/Object;)V -/
def fC_J23_addEntryToEmptyMap (gk : Nat → Nat) (x0 : Option Nat) (x1 : Option Nat) (x2 : Option Nat) (Q : jj_H → Prop) (E : String → Nat → jj_H → Prop) (h : jj_H) (k : Nat) : Prop :=
  jp_is h x0 23 ∧ ∃ c1, c1 ≤ k ∧ fC_J23_compare gk x0 x1 x1 (fun r2 h3 =>
  jp_nw h3 (k - c1) 24 2 df_J43 (fun a4 h5 k6 =>
  jp_so (some a4) ∧ fC_J43_init gk (some a4) x1 x2 none (fun h9 =>
  jp_pr h9 x0 23 3 (some a4) (fun h10 =>
  jp_pi h10 x0 23 4 1 (fun h11 =>
  jp_gi h11 x0 23 5 (fun g12 =>
  jp_pi h11 x0 23 5 (g12 + 1) (fun h13 =>
  Q h13))))) E h5 0)) E h c1
theorem sC_J23_addEntryToEmptyMap {X : jj_X} {N : Option jj_AV → jj_H → Prop} {XN : String → Nat → jj_H → Prop} (F : jj_F X RJ23 cJ23_addEntryToEmptyMap 3) (M : jj_M X (none) 4 85 N XN) (O : jj_no X) (J : jx_G X.1 X.2.2.1) (hi : X.2.2.2.2.2.2.2.2.2.1.name = yJ23_addEntryToEmptyMap.name) {Q : jj_H → Prop} {E : String → Nat → jj_H → Prop} (hQ : ∀ h, Q h → N none h) (hE : ∀ e q h, E e q h → XN e q h) (x0 : Option Nat) (x1 : Option Nat) (x2 : Option Nat) : ∀ (h : jj_H) (k : Nat), fC_J23_addEntryToEmptyMap (jj_gk X.1) x0 x1 x2 Q E h k → jj_J X 3 0 [(0, .inr (.inr (.inl x0))), (1, .inr (.inr (.inl x1))), (2, .inr (.inr (.inl x2)))] [] h k := by
  intro h k w
  unfold fC_J23_addEntryToEmptyMap at w
  refine jr_aload_n (pc := 0) F (j := 0) dJ23_addEntryToEmptyMap_0 rfl ?_
  refine jr_aload_n (pc := 1) F (j := 1) dJ23_addEntryToEmptyMap_1 rfl ?_
  refine jr_aload_n (pc := 2) F (j := 1) dJ23_addEntryToEmptyMap_2 rfl ?_
  obtain ⟨hi9, c1, hk9, w⟩ := w
  refine jr_cV (pc := 3) (As := [_, _]) (ci := 23) F M (lw_V q2219 q2220 q2221 q148 q2222) dJ23_addEntryToEmptyMap_3 hC_J23_compare rfl (Nat.le_of_ble_eq_true rfl) (Nat.le_of_ble_eq_true rfl) (Nat.le_of_ble_eq_true rfl) rfl hi9 hk9 (cC_J23_compare J w) (fun v9 h3 q9 => ?_) (fun E9 q9 h9 w9 => jr_out F M O (hE _ _ _ w9))
  obtain ⟨r2, rfl, w⟩ := q9
  refine jr_pop (pc := 6) F dJ23_addEntryToEmptyMap_6 rfl ?_
  refine jr_aload_n (pc := 7) F (j := 0) dJ23_addEntryToEmptyMap_7 rfl ?_
  refine jr_new (pc := 8) (ci := 24) F rfl in_J43 tyJ43_ok q2228 q2229 q171 dfo_J43 rfl ⟨by decide, by decide⟩ dJ23_addEntryToEmptyMap_8 w (fun a4 h5 k6 w => ?_)
  refine jr_dup (pc := 11) F dJ23_addEntryToEmptyMap_11 rfl ?_
  refine jr_aload_n (pc := 12) F (j := 1) dJ23_addEntryToEmptyMap_12 rfl ?_
  refine jr_aload_n (pc := 13) F (j := 2) dJ23_addEntryToEmptyMap_13 rfl ?_
  refine jr_null (pc := 14) F dJ23_addEntryToEmptyMap_14 ?_
  obtain ⟨hi9, w⟩ := w
  refine jr_cI (pc := 15) (As := [_, _, _]) F M q2230 q2231 q171 q2232 dJ23_addEntryToEmptyMap_15 rfl hC_J43_init.2 rfl (Nat.le_of_ble_eq_true rfl) (Nat.le_of_ble_eq_true rfl) (Nat.le_of_ble_eq_true rfl) hi9 (Nat.zero_le _) (cC_J43_init J w) (fun v9 h9 q9 => ?_) (fun E9 q9 h9 w9 => jr_out F M O (hE _ _ _ w9))
  obtain ⟨rfl, w⟩ := q9
  refine jr_pr (pc := 18) (ci := 23) (f := 3) F rfl in_J23 tyJ23_ok nmJ23 (Nat.le_of_ble_eq_true rfl) rfl rfl q3044 dJ23_addEntryToEmptyMap_18 w (fun h10 w => ?_)
  refine jr_aload_n (pc := 21) F (j := 0) dJ23_addEntryToEmptyMap_21 rfl ?_
  refine jr_iconst (pc := 22) F dJ23_addEntryToEmptyMap_22 ?_
  refine jr_pi (pc := 23) (ci := 23) (f := 4) F rfl in_J23 tyJ23_ok nmJ23 (Nat.le_of_ble_eq_true rfl) rfl rfl q3045 dJ23_addEntryToEmptyMap_23 w (fun h11 w => ?_)
  refine jr_aload_n (pc := 26) F (j := 0) dJ23_addEntryToEmptyMap_26 rfl ?_
  refine jr_dup (pc := 27) F dJ23_addEntryToEmptyMap_27 rfl ?_
  refine jr_gi (pc := 28) (ci := 23) (f := 5) F rfl in_J23 (Nat.le_of_ble_eq_true rfl) q3047 dJ23_addEntryToEmptyMap_28 w (fun g12 w => ?_)
  refine jr_iconst (pc := 31) F dJ23_addEntryToEmptyMap_31 ?_
  refine jr_iadd (pc := 32) F dJ23_addEntryToEmptyMap_32 ?_
  refine jr_pi (pc := 33) (ci := 23) (f := 5) F rfl in_J23 tyJ23_ok nmJ23 (Nat.le_of_ble_eq_true rfl) rfl rfl q3047 dJ23_addEntryToEmptyMap_33 w (fun h13 w => ?_)
  exact jr_vret (pc := 36) F M dJ23_addEntryToEmptyMap_36 (hQ _ w)

theorem cC_J23_addEntryToEmptyMap {G : jj_G} {l : Launch} (J : jx_G G l) {x0 : Option Nat} {x1 : Option Nat} {x2 : Option Nat} {Q : jj_H → Prop} {E : String → Nat → jj_H → Prop} {h : jj_H} {k : Nat} (w : fC_J23_addEntryToEmptyMap (jj_gk G) x0 x1 x2 Q E h k) : jj_Ct G l yJ23_addEntryToEmptyMap (ws_ yJ23_addEntryToEmptyMap cJ23_addEntryToEmptyMap 3 (none)) 4 85 [.inr (.inr (.inl x0)), .inr (.inr (.inl x1)), .inr (.inr (.inl x2))] h k (jc_v Q) E := by
  refine jj_Ct.of J.1 (by decide +kernel) (Nat.le_of_ble_eq_true rfl) rfl (fun X hG hl F M O hnm => ?_)
  subst hG; subst hl
  exact sC_J23_addEntryToEmptyMap F M O J hnm (fun h q => ⟨rfl, q⟩) (fun _ _ _ q => q) _ _ _ _ _ w
theorem hC_J23_addEntryToEmptyMap : yJ23_addEntryToEmptyMap.cls = RJ23 ∧ yJ23_addEntryToEmptyMap.cls ≠ "java/lang/invoke/MethodHandle" ∧ yJ23_addEntryToEmptyMap.cls ≠ "java/lang/invoke/VarHandle" ∧ (parseMethodDescriptor yJ23_addEntryToEmptyMap.desc).map (fun d => d.parameters.length) = some 2 := by decide +kernel
/-! J23_init()V -/
def fC_J23_init (gk : Nat → Nat) (x0 : Option Nat) (Q : jj_H → Prop) (E : String → Nat → jj_H → Prop) (h : jj_H) (k : Nat) : Prop :=
  jp_so x0 ∧ fC_J18_init gk x0 (fun h3 =>
  jp_pi h3 x0 23 4 0 (fun h4 =>
  jp_pi h4 x0 23 5 0 (fun h5 =>
  jp_pr h5 x0 23 2 none (fun h6 =>
  Q h6)))) E h 0
theorem sC_J23_init {X : jj_X} {N : Option jj_AV → jj_H → Prop} {XN : String → Nat → jj_H → Prop} (F : jj_F X RJ23 cJ23_init 1) (M : jj_M X (none) 2 40 N XN) (O : jj_no X) (J : jx_G X.1 X.2.2.1) (hi : X.2.2.2.2.2.2.2.2.2.1.name = yJ23_init.name) {Q : jj_H → Prop} {E : String → Nat → jj_H → Prop} (hQ : ∀ h, Q h → N none h) (hE : ∀ e q h, E e q h → XN e q h) (x0 : Option Nat) : ∀ (h : jj_H) (k : Nat), fC_J23_init (jj_gk X.1) x0 Q E h k → jj_J X 1 0 [(0, .inr (.inr (.inl x0)))] [] h k := by
  intro h k w
  unfold fC_J23_init at w
  refine jr_aload_n (pc := 0) F (j := 0) dJ23_init_0 rfl ?_
  obtain ⟨hi9, w⟩ := w
  refine jr_cI (pc := 1) (As := []) F M q3042 q557 q141 q558 dJ23_init_1 rfl hC_J18_init.2 rfl (Nat.le_of_ble_eq_true rfl) (Nat.le_of_ble_eq_true rfl) (Nat.le_of_ble_eq_true rfl) hi9 (Nat.zero_le _) (cC_J18_init J w) (fun v9 h3 q9 => ?_) (fun E9 q9 h9 w9 => jr_out F M O (hE _ _ _ w9))
  obtain ⟨rfl, w⟩ := q9
  refine jr_aload_n (pc := 4) F (j := 0) dJ23_init_4 rfl ?_
  refine jr_iconst (pc := 5) F dJ23_init_5 ?_
  refine jr_pi (pc := 6) (ci := 23) (f := 4) F rfl in_J23 tyJ23_ok nmJ23 (Nat.le_of_ble_eq_true rfl) rfl rfl q3045 dJ23_init_6 w (fun h4 w => ?_)
  refine jr_aload_n (pc := 9) F (j := 0) dJ23_init_9 rfl ?_
  refine jr_iconst (pc := 10) F dJ23_init_10 ?_
  refine jr_pi (pc := 11) (ci := 23) (f := 5) F rfl in_J23 tyJ23_ok nmJ23 (Nat.le_of_ble_eq_true rfl) rfl rfl q3047 dJ23_init_11 w (fun h5 w => ?_)
  refine jr_aload_n (pc := 14) F (j := 0) dJ23_init_14 rfl ?_
  refine jr_null (pc := 15) F dJ23_init_15 ?_
  refine jr_prF (pc := 16) (ci := 23) (f := 2) F rfl in_J23 tyJ23_ok nmJ23 (Nat.le_of_ble_eq_true rfl) rfl rfl rfl hi q3043 dJ23_init_16 w (fun h6 w => ?_)
  exact jr_vret (pc := 19) F M dJ23_init_19 (hQ _ w)

theorem cC_J23_init {G : jj_G} {l : Launch} (J : jx_G G l) {x0 : Option Nat} {Q : jj_H → Prop} {E : String → Nat → jj_H → Prop} {h : jj_H} {k : Nat} (w : fC_J23_init (jj_gk G) x0 Q E h k) : jj_Ct G l yJ23_init (ws_ yJ23_init cJ23_init 1 (none)) 2 40 [.inr (.inr (.inl x0))] h k (jc_v Q) E := by
  refine jj_Ct.of J.1 (by decide +kernel) (Nat.le_of_ble_eq_true rfl) rfl (fun X hG hl F M O hnm => ?_)
  subst hG; subst hl
  exact sC_J23_init F M O J hnm (fun h q => ⟨rfl, q⟩) (fun _ _ _ q => q) _ _ _ w
theorem hC_J23_init : yJ23_init.cls = RJ23 ∧ yJ23_init.cls ≠ "java/lang/invoke/MethodHandle" ∧ yJ23_init.cls ≠ "java/lang/invoke/VarHandle" ∧ (parseMethodDescriptor yJ23_init.desc).map (fun d => d.parameters.length) = some 0 := by decide +kernel
/-! J32_requireNonNull(Ljava/lang/Object;)Ljava/lang/Object; -/
def fC_J32_requireNonNull (gk : Nat → Nat) (x0 : Option Nat) (Q : Option Nat → jj_H → Prop) (E : String → Nat → jj_H → Prop) (h : jj_H) (k : Nat) : Prop :=
  (¬ x0 = none → (
    Q x0 h)) ∧
  (x0 = none → (
    False))
theorem sC_J32_requireNonNull {X : jj_X} {N : Option jj_AV → jj_H → Prop} {XN : String → Nat → jj_H → Prop} (F : jj_F X RJ32 cJ32_requireNonNull 1) (M : jj_M X (some ((.object "java/lang/Object"))) 0 0 N XN) (O : jj_no X) (J : jx_G X.1 X.2.2.1) (hi : X.2.2.2.2.2.2.2.2.2.1.name = yJ32_requireNonNull.name) {Q : Option Nat → jj_H → Prop} {E : String → Nat → jj_H → Prop} (hQ : ∀ r h, Q r h → N (some (.inr (.inr (.inl r)))) h) (hE : ∀ e q h, E e q h → XN e q h) (x0 : Option Nat) : ∀ (h : jj_H) (k : Nat), fC_J32_requireNonNull (jj_gk X.1) x0 Q E h k → jj_J X 1 0 [(0, .inr (.inr (.inl x0)))] [] h k := by
  intro h k w
  unfold fC_J32_requireNonNull at w
  refine jr_aload_n (pc := 0) F (j := 0) dJ32_requireNonNull_0 rfl ?_
  obtain ⟨w1, w2⟩ := w
  refine jr_ifnonnull (pc := 1) (tgt := 12) F dJ32_requireNonNull_1 rfl (fun c9 => ?_) (fun c9 => ?_)
  · have w := w1 c9
    refine jr_aload_n (pc := 12) F (j := 0) dJ32_requireNonNull_12 rfl ?_
    exact jr_aret (pc := 13) F M (Or.inl ⟨_, rfl⟩) dJ32_requireNonNull_13 (hQ _ _ w)
  · have w := w2 c9
    exact (show False from w).elim

theorem cC_J32_requireNonNull {G : jj_G} {l : Launch} (J : jx_G G l) {x0 : Option Nat} {Q : Option Nat → jj_H → Prop} {E : String → Nat → jj_H → Prop} {h : jj_H} {k : Nat} (w : fC_J32_requireNonNull (jj_gk G) x0 Q E h k) : jj_Ct G l yJ32_requireNonNull (ws_ yJ32_requireNonNull cJ32_requireNonNull 1 (some ((.object "java/lang/Object")))) 0 0 [.inr (.inr (.inl x0))] h k (jc_r Q) E := by
  refine jj_Ct.of J.1 (by decide +kernel) (Nat.le_of_ble_eq_true rfl) rfl (fun X hG hl F M O hnm => ?_)
  subst hG; subst hl
  exact sC_J32_requireNonNull F M O J hnm (fun r h q => ⟨r, rfl, q⟩) (fun _ _ _ q => q) _ _ _ w
theorem hC_J32_requireNonNull : yJ32_requireNonNull.cls = RJ32 ∧ yJ32_requireNonNull.cls ≠ "java/lang/invoke/MethodHandle" ∧ yJ32_requireNonNull.cls ≠ "java/lang/invoke/VarHandle" ∧ (parseMethodDescriptor yJ32_requireNonNull.desc).map (fun d => d.parameters.length) = some 1 := by decide +kernel
/-! J23_put_2(Ljava/lang/Object;Ljava/lang/Object;Z)Ljava/lang/Object; -/
def fC_J23_put_2_j216 (gk : Nat → Nat) (y0 : Option Nat) (y1 : Option Nat) (y2 : Option Nat) (y3 : Option Nat) (y4 : Int) (Q : Option Nat → jj_H → Prop) (E : String → Nat → jj_H → Prop) (h : jj_H) (k : Nat) : Prop :=
  jp_is h y0 23 ∧ ∃ c1, c1 ≤ k ∧ fC_J23_addEntry gk y0 y1 y2 y3 y4 (fun h3 =>
  Q none h3) E h c1
def fC_J23_put_2_j196 (gk : Nat → Nat) (K123 : Option Nat → jj_H → Nat → Prop) (x0 : Option Nat) (x1 : Option Nat) (x2 : Option Nat) (x3 : Int) (x4 : Option Nat) (x5 : Int) (x6 : Option Nat) (x8 : Option Nat) (Q : Option Nat → jj_H → Prop) (E : String → Nat → jj_H → Prop) (h : jj_H) (k : Nat) : Prop :=
  (¬ x4 = none → (
    K123 x4 h k)) ∧
  (x4 = none → (
    jj_r x5 ∧ (0 ≤ x5 → (
      fC_J23_put_2_j216 gk x0 x1 x2 x6 0 Q E h k)) ∧
    (¬ 0 ≤ x5 → (
      fC_J23_put_2_j216 gk x0 x1 x2 x6 1 Q E h k))))
def fC_J23_put_2_j187 (gk : Nat → Nat) (x2 : Option Nat) (x4 : Option Nat) (x9 : Option Nat) (Q : Option Nat → jj_H → Prop) (E : String → Nat → jj_H → Prop) (h : jj_H) (k : Nat) : Prop :=
  jp_pr h x4 24 1 x2 (fun h4 =>
  Q x9 h4)
def fC_J23_put_2_l123 (gk : Nat → Nat) (x0 : Option Nat) (x1 : Option Nat) (x2 : Option Nat) (x3 : Int) (x8 : Option Nat) (Q : Option Nat → jj_H → Prop) (E : String → Nat → jj_H → Prop) : Nat → Option Nat → jj_H → Nat → Prop
  | 0, _, _, _ => False
  | n + 1, x4, h, k =>
  jp_gr h x4 24 0 (fun g5 =>
  jq_J17_compareTo x8 g5 (fun r8 h6 k7 =>
  jj_r r8 ∧ (0 ≤ r8 → (
    jj_r r8 ∧ (r8 ≤ 0 → (
      jp_gr h6 x4 24 1 (fun g9 =>
      jj_r x3 ∧ (¬ x3 = 0 → (
        fC_J23_put_2_j187 gk x2 x4 g9 Q E h6 k7)) ∧
      (x3 = 0 → (
        (¬ g9 = none → (
          Q g9 h6)) ∧
        (g9 = none → (
          fC_J23_put_2_j187 gk x2 x4 g9 Q E h6 k7))))))) ∧
    (¬ r8 ≤ 0 → (
      jp_gr h6 x4 24 3 (fun g10 =>
      fC_J23_put_2_j196 gk (fC_J23_put_2_l123 gk x0 x1 x2 x3 x8 Q E n) x0 x1 x2 x3 g10 r8 x4 x8 Q E h6 k7))))) ∧
  (¬ 0 ≤ r8 → (
    jp_gr h6 x4 24 2 (fun g11 =>
    fC_J23_put_2_j196 gk (fC_J23_put_2_l123 gk x0 x1 x2 x3 x8 Q E n) x0 x1 x2 x3 g11 r8 x4 x8 Q E h6 k7)))) h k)
def fC_J23_put_2 (gk : Nat → Nat) (x0 : Option Nat) (x1 : Option Nat) (x2 : Option Nat) (x3 : Int) (Q : Option Nat → jj_H → Prop) (E : String → Nat → jj_H → Prop) (h : jj_H) (k : Nat) : Prop :=
  jp_gr h x0 23 3 (fun g12 =>
  (¬ g12 = none → (
    jp_gr h x0 23 2 (fun g13 =>
    (g13 = none → (
      fC_J32_requireNonNull gk x1 (fun r15 h16 =>
      jp_is h16 x1 27 ∧
      ∃ n9, fC_J23_put_2_l123 gk x0 x1 x2 x3 x1 Q E n9 g12 h16 k) E h 0)) ∧
    (¬ g13 = none → (
      jp_gr h g12 24 0 (fun g17 =>
      False)))))) ∧
  (g12 = none → (
    jp_is h x0 23 ∧ ∃ c18, c18 ≤ k ∧ fC_J23_addEntryToEmptyMap gk x0 x1 x2 (fun h20 =>
    Q none h20) E h c18)))
theorem sC_J23_put_2_j216 {X : jj_X} {N : Option jj_AV → jj_H → Prop} {XN : String → Nat → jj_H → Prop} (F : jj_F X RJ23 cJ23_put_2 10) (M : jj_M X (some ((.object "java/lang/Object"))) 5 107 N XN) (O : jj_no X) (J : jx_G X.1 X.2.2.1) (hi : X.2.2.2.2.2.2.2.2.2.1.name = yJ23_put_2.name) {Q : Option Nat → jj_H → Prop} {E : String → Nat → jj_H → Prop} (hQ : ∀ r h, Q r h → N (some (.inr (.inr (.inl r)))) h) (hE : ∀ e q h, E e q h → XN e q h) (y0 : Option Nat) (y1 : Option Nat) (y2 : Option Nat) (y3 : Option Nat) (y4 : Int) : ∀ (h : jj_H) (k : Nat), fC_J23_put_2_j216 (jj_gk X.1) y0 y1 y2 y3 y4 Q E h k → jj_J X 10 216 [] [.inl y4, .inr (.inr (.inl y3)), .inr (.inr (.inl y2)), .inr (.inr (.inl y1)), .inr (.inr (.inl y0))] h k := by
  intro h k w
  unfold fC_J23_put_2_j216 at w
  obtain ⟨hi9, c1, hk9, w⟩ := w
  refine jr_cV (pc := 216) (As := [_, _, _, _]) (ci := 23) F M (lw_V q2261 q2263 qs16 q148 q2264) dJ23_put_2_216 hC_J23_addEntry rfl (Nat.le_of_ble_eq_true rfl) (Nat.le_of_ble_eq_true rfl) (Nat.le_of_ble_eq_true rfl) rfl hi9 hk9 (cC_J23_addEntry J w) (fun v9 h3 q9 => ?_) (fun E9 q9 h9 w9 => jr_out F M O (hE _ _ _ w9))
  obtain ⟨rfl, w⟩ := q9
  refine jr_null (pc := 219) F dJ23_put_2_219 ?_
  exact jr_aret (pc := 220) F M (Or.inl ⟨_, rfl⟩) dJ23_put_2_220 (hQ _ _ w)

theorem sC_J23_put_2_j196 {X : jj_X} {N : Option jj_AV → jj_H → Prop} {XN : String → Nat → jj_H → Prop} (F : jj_F X RJ23 cJ23_put_2 10) (M : jj_M X (some ((.object "java/lang/Object"))) 5 107 N XN) (O : jj_no X) (J : jx_G X.1 X.2.2.1) (hi : X.2.2.2.2.2.2.2.2.2.1.name = yJ23_put_2.name) {Q : Option Nat → jj_H → Prop} {E : String → Nat → jj_H → Prop} (hQ : ∀ r h, Q r h → N (some (.inr (.inr (.inl r)))) h) (hE : ∀ e q h, E e q h → XN e q h) (x0 : Option Nat) (x1 : Option Nat) (x2 : Option Nat) (x3 : Int) (x4 : Option Nat) (x5 : Int) (x6 : Option Nat) (x8 : Option Nat) {K123 : Option Nat → jj_H → Nat → Prop} (hK123 : ∀ (z4 : Option Nat) (h : jj_H) (k : Nat), K123 z4 h k → jj_J X 10 123 [(0, .inr (.inr (.inl x0))), (1, .inr (.inr (.inl x1))), (2, .inr (.inr (.inl x2))), (3, .inl x3), (4, .inr (.inr (.inl z4))), (8, .inr (.inr (.inl x8)))] [] h k) : ∀ (h : jj_H) (k : Nat), fC_J23_put_2_j196 (jj_gk X.1) K123 x0 x1 x2 x3 x4 x5 x6 x8 Q E h k → jj_J X 10 196 [(0, .inr (.inr (.inl x0))), (1, .inr (.inr (.inl x1))), (2, .inr (.inr (.inl x2))), (3, .inl x3), (4, .inr (.inr (.inl x4))), (5, .inl x5), (6, .inr (.inr (.inl x6))), (8, .inr (.inr (.inl x8)))] [] h k := by
  intro h k w
  unfold fC_J23_put_2_j196 at w
  refine jr_aload (pc := 196) F (j := 4) dJ23_put_2_196 rfl ?_
  obtain ⟨w1, w2⟩ := w
  refine jr_ifnonnull (pc := 198) (tgt := 123) F dJ23_put_2_198 rfl (fun c9 => ?_) (fun c9 => ?_)
  · have w := w1 c9
    refine jj_J.sub [0, 1, 2, 3, 4, 7] rfl ?_
    exact hK123 _ _ _ w
  · have w := w2 c9
    refine jr_aload_n (pc := 201) F (j := 0) dJ23_put_2_201 rfl ?_
    refine jr_aload_n (pc := 202) F (j := 1) dJ23_put_2_202 rfl ?_
    refine jr_aload_n (pc := 203) F (j := 2) dJ23_put_2_203 rfl ?_
    refine jr_aload (pc := 204) F (j := 6) dJ23_put_2_204 rfl ?_
    refine jr_iload (pc := 206) F (j := 5) dJ23_put_2_206 rfl ?_
    obtain ⟨hx9, w1, w2⟩ := w
    refine jr_if_ge (pc := 208) (tgt := 215) F hx9 dJ23_put_2_208 rfl (fun c9 => ?_) (fun c9 => ?_)
    · have w := w1 c9
      refine jr_iconst (pc := 215) F dJ23_put_2_215 ?_
      refine jj_J.sub [] rfl ?_
      exact sC_J23_put_2_j216 F M O J hi hQ hE _ _ _ _ _ _ _ w
    · have w := w2 c9
      refine jr_iconst (pc := 211) F dJ23_put_2_211 ?_
      refine jr_goto (pc := 212) (tgt := 216) F dJ23_put_2_212 rfl ?_
      refine jj_J.sub [] rfl ?_
      exact sC_J23_put_2_j216 F M O J hi hQ hE _ _ _ _ _ _ _ w

theorem sC_J23_put_2_j187 {X : jj_X} {N : Option jj_AV → jj_H → Prop} {XN : String → Nat → jj_H → Prop} (F : jj_F X RJ23 cJ23_put_2 10) (M : jj_M X (some ((.object "java/lang/Object"))) 5 107 N XN) (O : jj_no X) (J : jx_G X.1 X.2.2.1) (hi : X.2.2.2.2.2.2.2.2.2.1.name = yJ23_put_2.name) {Q : Option Nat → jj_H → Prop} {E : String → Nat → jj_H → Prop} (hQ : ∀ r h, Q r h → N (some (.inr (.inr (.inl r)))) h) (hE : ∀ e q h, E e q h → XN e q h) (x2 : Option Nat) (x4 : Option Nat) (x9 : Option Nat) : ∀ (h : jj_H) (k : Nat), fC_J23_put_2_j187 (jj_gk X.1) x2 x4 x9 Q E h k → jj_J X 10 187 [(2, .inr (.inr (.inl x2))), (4, .inr (.inr (.inl x4))), (9, .inr (.inr (.inl x9)))] [] h k := by
  intro h k w
  unfold fC_J23_put_2_j187 at w
  refine jr_aload (pc := 187) F (j := 1) dJ23_put_2_187 rfl ?_
  refine jr_aload_n (pc := 189) F (j := 0) dJ23_put_2_189 rfl ?_
  refine jr_pr (pc := 190) (ci := 24) (f := 1) F rfl in_J43 tyJ43_ok nmJ43 (Nat.le_of_ble_eq_true rfl) rfl rfl q2238 dJ23_put_2_190 w (fun h4 w => ?_)
  refine jr_aload (pc := 193) F (j := 2) dJ23_put_2_193 rfl ?_
  exact jr_aret (pc := 195) F M (Or.inl ⟨_, rfl⟩) dJ23_put_2_195 (hQ _ _ w)

theorem sC_J23_put_2_l123 {X : jj_X} {N : Option jj_AV → jj_H → Prop} {XN : String → Nat → jj_H → Prop} (F : jj_F X RJ23 cJ23_put_2 10) (M : jj_M X (some ((.object "java/lang/Object"))) 5 107 N XN) (O : jj_no X) (J : jx_G X.1 X.2.2.1) (hi : X.2.2.2.2.2.2.2.2.2.1.name = yJ23_put_2.name) {Q : Option Nat → jj_H → Prop} {E : String → Nat → jj_H → Prop} (hQ : ∀ r h, Q r h → N (some (.inr (.inr (.inl r)))) h) (hE : ∀ e q h, E e q h → XN e q h) (x0 : Option Nat) (x1 : Option Nat) (x2 : Option Nat) (x3 : Int) (x8 : Option Nat) : ∀ (n : Nat) (x4 : Option Nat) (h : jj_H) (k : Nat), fC_J23_put_2_l123 (jj_gk X.1) x0 x1 x2 x3 x8 Q E n x4 h k → jj_J X 10 123 [(0, .inr (.inr (.inl x0))), (1, .inr (.inr (.inl x1))), (2, .inr (.inr (.inl x2))), (3, .inl x3), (4, .inr (.inr (.inl x4))), (8, .inr (.inr (.inl x8)))] [] h k := by
  intro n
  induction n with
  | zero =>
    intro x4 h k w
    exact (show False from w).elim
  | succ n ih =>
    intro x4 h k w
    rw [fC_J23_put_2_l123] at w
    refine jr_aload (pc := 123) F (j := 4) dJ23_put_2_123 rfl ?_
    refine jr_astore (pc := 125) F (vs' := [(6, .inr (.inr (.inl _))), (0, .inr (.inr (.inl _))), (1, .inr (.inr (.inl _))), (2, .inr (.inr (.inl _))), (3, .inl _), (4, .inr (.inr (.inl _))), (8, .inr (.inr (.inl _)))]) dJ23_put_2_125 (Nat.le_of_ble_eq_true rfl) rfl ?_
    refine jr_aload (pc := 127) F (j := 6) dJ23_put_2_127 rfl ?_
    refine jr_aload (pc := 129) F (j := 5) dJ23_put_2_129 rfl ?_
    refine jr_gr (pc := 131) (ci := 24) (f := 0) F rfl in_J43 (Nat.le_of_ble_eq_true rfl) q2236 dJ23_put_2_131 w (fun g5 w => ?_)
    refine jr_jFR (pc := 134) (n := 1) (As := [_]) (ci := 27) F M (lw_F q2225 q1382 q1384 q140 q1386) (jx_fw J 5 rfl) dJ23_put_2_134 (by decide +kernel) rfl (Nat.le_of_ble_eq_true rfl) (Nat.le_of_ble_eq_true rfl) (Nat.le_of_ble_eq_true rfl) rfl (cb_J17_compareTo J (fr := 2) (lo := 42) (Nat.le_of_ble_eq_true rfl) (Nat.le_of_ble_eq_true rfl) _ _ _ _ _ w) (fun v9 h6 k7 q9 => ?_)
    obtain ⟨r8, rfl, w⟩ := q9
    refine jr_istore (pc := 139) F (vs' := [(5, .inl _), (6, .inr (.inr (.inl _))), (0, .inr (.inr (.inl _))), (1, .inr (.inr (.inl _))), (2, .inr (.inr (.inl _))), (3, .inl _), (4, .inr (.inr (.inl _))), (8, .inr (.inr (.inl _)))]) dJ23_put_2_139 (Nat.le_of_ble_eq_true rfl) rfl ?_
    refine jr_iload (pc := 141) F (j := 0) dJ23_put_2_141 rfl ?_
    obtain ⟨hx9, w1, w2⟩ := w
    refine jr_if_ge (pc := 143) (tgt := 156) F hx9 dJ23_put_2_143 rfl (fun c9 => ?_) (fun c9 => ?_)
    · have w := w1 c9
      refine jr_iload (pc := 156) F (j := 0) dJ23_put_2_156 rfl ?_
      obtain ⟨hx9, w1, w2⟩ := w
      refine jr_if_le (pc := 158) (tgt := 171) F hx9 dJ23_put_2_158 rfl (fun c9 => ?_) (fun c9 => ?_)
      · have w := w1 c9
        refine jr_aload (pc := 171) F (j := 6) dJ23_put_2_171 rfl ?_
        refine jr_gr (pc := 173) (ci := 24) (f := 1) F rfl in_J43 (Nat.le_of_ble_eq_true rfl) q2238 dJ23_put_2_173 w (fun g9 w => ?_)
        refine jr_astore (pc := 176) F (vs' := [(9, .inr (.inr (.inl _))), (5, .inl _), (6, .inr (.inr (.inl _))), (0, .inr (.inr (.inl _))), (1, .inr (.inr (.inl _))), (2, .inr (.inr (.inl _))), (3, .inl _), (4, .inr (.inr (.inl _))), (8, .inr (.inr (.inl _)))]) dJ23_put_2_176 (Nat.le_of_ble_eq_true rfl) rfl ?_
        refine jr_iload_n (pc := 178) F (j := 6) dJ23_put_2_178 rfl ?_
        obtain ⟨hx9, w1, w2⟩ := w
        refine jr_if_ne (pc := 179) (tgt := 187) F hx9 dJ23_put_2_179 rfl (fun c9 => ?_) (fun c9 => ?_)
        · have w := w1 c9
          refine jj_J.sub [5, 7, 0] rfl ?_
          exact sC_J23_put_2_j187 F M O J hi hQ hE _ _ _ _ _ w
        · have w := w2 c9
          refine jr_aload (pc := 182) F (j := 0) dJ23_put_2_182 rfl ?_
          obtain ⟨w1, w2⟩ := w
          refine jr_ifnonnull (pc := 184) (tgt := 193) F dJ23_put_2_184 rfl (fun c9 => ?_) (fun c9 => ?_)
          · have w := w1 c9
            refine jr_aload (pc := 193) F (j := 0) dJ23_put_2_193 rfl ?_
            exact jr_aret (pc := 195) F M (Or.inl ⟨_, rfl⟩) dJ23_put_2_195 (hQ _ _ w)
          · have w := w2 c9
            refine jj_J.sub [5, 7, 0] rfl ?_
            exact sC_J23_put_2_j187 F M O J hi hQ hE _ _ _ _ _ w
      · have w := w2 c9
        refine jr_aload (pc := 161) F (j := 6) dJ23_put_2_161 rfl ?_
        refine jr_gr (pc := 163) (ci := 24) (f := 3) F rfl in_J43 (Nat.le_of_ble_eq_true rfl) q2240 dJ23_put_2_163 w (fun g10 w => ?_)
        refine jr_astore (pc := 166) F (vs' := [(4, .inr (.inr (.inl _))), (5, .inl _), (6, .inr (.inr (.inl _))), (0, .inr (.inr (.inl _))), (1, .inr (.inr (.inl _))), (2, .inr (.inr (.inl _))), (3, .inl _), (8, .inr (.inr (.inl _)))]) dJ23_put_2_166 (Nat.le_of_ble_eq_true rfl) rfl ?_
        refine jr_goto (pc := 168) (tgt := 196) F dJ23_put_2_168 rfl ?_
        refine jj_J.sub [3, 4, 5, 6, 0, 1, 2, 7] rfl ?_
        exact sC_J23_put_2_j196 F M O J hi hQ hE _ _ _ _ _ _ _ _ ih _ _ w
    · have w := w2 c9
      refine jr_aload (pc := 146) F (j := 6) dJ23_put_2_146 rfl ?_
      refine jr_gr (pc := 148) (ci := 24) (f := 2) F rfl in_J43 (Nat.le_of_ble_eq_true rfl) q2239 dJ23_put_2_148 w (fun g11 w => ?_)
      refine jr_astore (pc := 151) F (vs' := [(4, .inr (.inr (.inl _))), (5, .inl _), (6, .inr (.inr (.inl _))), (0, .inr (.inr (.inl _))), (1, .inr (.inr (.inl _))), (2, .inr (.inr (.inl _))), (3, .inl _), (8, .inr (.inr (.inl _)))]) dJ23_put_2_151 (Nat.le_of_ble_eq_true rfl) rfl ?_
      refine jr_goto (pc := 153) (tgt := 196) F dJ23_put_2_153 rfl ?_
      refine jj_J.sub [3, 4, 5, 6, 0, 1, 2, 7] rfl ?_
      exact sC_J23_put_2_j196 F M O J hi hQ hE _ _ _ _ _ _ _ _ ih _ _ w

theorem sC_J23_put_2 {X : jj_X} {N : Option jj_AV → jj_H → Prop} {XN : String → Nat → jj_H → Prop} (F : jj_F X RJ23 cJ23_put_2 10) (M : jj_M X (some ((.object "java/lang/Object"))) 5 107 N XN) (O : jj_no X) (J : jx_G X.1 X.2.2.1) (hi : X.2.2.2.2.2.2.2.2.2.1.name = yJ23_put_2.name) {Q : Option Nat → jj_H → Prop} {E : String → Nat → jj_H → Prop} (hQ : ∀ r h, Q r h → N (some (.inr (.inr (.inl r)))) h) (hE : ∀ e q h, E e q h → XN e q h) (x0 : Option Nat) (x1 : Option Nat) (x2 : Option Nat) (x3 : Int) : ∀ (h : jj_H) (k : Nat), fC_J23_put_2 (jj_gk X.1) x0 x1 x2 x3 Q E h k → jj_J X 10 0 [(0, .inr (.inr (.inl x0))), (1, .inr (.inr (.inl x1))), (2, .inr (.inr (.inl x2))), (3, .inl x3)] [] h k := by
  intro h k w
  unfold fC_J23_put_2 at w
  refine jr_aload_n (pc := 0) F (j := 0) dJ23_put_2_0 rfl ?_
  refine jr_gr (pc := 1) (ci := 23) (f := 3) F rfl in_J23 (Nat.le_of_ble_eq_true rfl) q3044 dJ23_put_2_1 w (fun g12 w => ?_)
  refine jr_astore (pc := 4) F (vs' := [(4, .inr (.inr (.inl _))), (0, .inr (.inr (.inl _))), (1, .inr (.inr (.inl _))), (2, .inr (.inr (.inl _))), (3, .inl _)]) dJ23_put_2_4 (Nat.le_of_ble_eq_true rfl) rfl ?_
  refine jr_aload (pc := 6) F (j := 0) dJ23_put_2_6 rfl ?_
  obtain ⟨w1, w2⟩ := w
  refine jr_ifnonnull (pc := 8) (tgt := 19) F dJ23_put_2_8 rfl (fun c9 => ?_) (fun c9 => ?_)
  · have w := w1 c9
    refine jr_aload_n (pc := 19) F (j := 1) dJ23_put_2_19 rfl ?_
    refine jr_gr (pc := 20) (ci := 23) (f := 2) F rfl in_J23 (Nat.le_of_ble_eq_true rfl) q3043 dJ23_put_2_20 w (fun g13 w => ?_)
    refine jr_astore (pc := 23) F (vs' := [(7, .inr (.inr (.inl _))), (4, .inr (.inr (.inl _))), (0, .inr (.inr (.inl _))), (1, .inr (.inr (.inl _))), (2, .inr (.inr (.inl _))), (3, .inl _)]) dJ23_put_2_23 (Nat.le_of_ble_eq_true rfl) rfl ?_
    refine jr_aload (pc := 25) F (j := 0) dJ23_put_2_25 rfl ?_
    obtain ⟨w1, w2⟩ := w
    refine jr_ifnull (pc := 27) (tgt := 112) F dJ23_put_2_27 rfl (fun c9 => ?_) (fun c9 => ?_)
    · have w := w1 c9
      refine jr_aload_n (pc := 112) F (j := 3) dJ23_put_2_112 rfl ?_
      refine jr_callS (pc := 113) (As := [_]) F M (lw_S q2258 q2259 q158 q2260) dJ23_put_2_113 hC_J32_requireNonNull.2 rfl (Nat.le_of_ble_eq_true rfl) (Nat.le_of_ble_eq_true rfl) (Nat.le_of_ble_eq_true rfl) (Nat.zero_le _) (cC_J32_requireNonNull J w) (fun v9 h16 q9 => ?_) (fun E9 q9 h9 w9 => jr_out F M O (hE _ _ _ w9))
      obtain ⟨r15, rfl, w⟩ := q9
      refine jr_pop (pc := 116) F dJ23_put_2_116 rfl ?_
      refine jr_aload_n (pc := 117) F (j := 3) dJ23_put_2_117 rfl ?_
      obtain ⟨hi9, w⟩ := w
      refine jr_castC (pc := 118) (ci := 27) F rfl q1381 q2223 dJ23_put_2_118 hi9 ?_
      refine jr_astore (pc := 121) F (vs' := [(8, .inr (.inr (.inl _))), (7, .inr (.inr (.inl _))), (4, .inr (.inr (.inl _))), (0, .inr (.inr (.inl _))), (1, .inr (.inr (.inl _))), (2, .inr (.inr (.inl _))), (3, .inl _)]) dJ23_put_2_121 (Nat.le_of_ble_eq_true rfl) rfl ?_
      refine jj_J.sub [3, 4, 5, 6, 2, 0] rfl ?_
      obtain ⟨n9, w⟩ := w
      exact sC_J23_put_2_l123 F M O J hi hQ hE _ _ _ _ _ n9 _ _ _ w
    · have w := w2 c9
      refine jr_aload (pc := 30) F (j := 1) dJ23_put_2_30 rfl ?_
      refine jr_astore (pc := 32) F (vs' := [(6, .inr (.inr (.inl _))), (7, .inr (.inr (.inl _))), (4, .inr (.inr (.inl _))), (0, .inr (.inr (.inl _))), (1, .inr (.inr (.inl _))), (2, .inr (.inr (.inl _))), (3, .inl _)]) dJ23_put_2_32 (Nat.le_of_ble_eq_true rfl) rfl ?_
      refine jr_aload (pc := 34) F (j := 1) dJ23_put_2_34 rfl ?_
      refine jr_aload_n (pc := 36) F (j := 4) dJ23_put_2_36 rfl ?_
      refine jr_aload (pc := 37) F (j := 2) dJ23_put_2_37 rfl ?_
      refine jr_gr (pc := 39) (ci := 24) (f := 0) F rfl in_J43 (Nat.le_of_ble_eq_true rfl) q2236 dJ23_put_2_39 w (fun g17 w => ?_)
      exact (show False from w).elim
  · have w := w2 c9
    refine jr_aload_n (pc := 11) F (j := 1) dJ23_put_2_11 rfl ?_
    refine jr_aload_n (pc := 12) F (j := 2) dJ23_put_2_12 rfl ?_
    refine jr_aload_n (pc := 13) F (j := 3) dJ23_put_2_13 rfl ?_
    obtain ⟨hi9, c18, hk9, w⟩ := w
    refine jr_cV (pc := 14) (As := [_, _]) (ci := 23) F M (lw_V q2215 q2217 qs15 q148 q2218) dJ23_put_2_14 hC_J23_addEntryToEmptyMap rfl (Nat.le_of_ble_eq_true rfl) (Nat.le_of_ble_eq_true rfl) (Nat.le_of_ble_eq_true rfl) rfl hi9 hk9 (cC_J23_addEntryToEmptyMap J w) (fun v9 h20 q9 => ?_) (fun E9 q9 h9 w9 => jr_out F M O (hE _ _ _ w9))
    obtain ⟨rfl, w⟩ := q9
    refine jr_null (pc := 17) F dJ23_put_2_17 ?_
    exact jr_aret (pc := 18) F M (Or.inl ⟨_, rfl⟩) dJ23_put_2_18 (hQ _ _ w)

theorem cC_J23_put_2 {G : jj_G} {l : Launch} (J : jx_G G l) {x0 : Option Nat} {x1 : Option Nat} {x2 : Option Nat} {x3 : Int} {Q : Option Nat → jj_H → Prop} {E : String → Nat → jj_H → Prop} {h : jj_H} {k : Nat} (w : fC_J23_put_2 (jj_gk G) x0 x1 x2 x3 Q E h k) : jj_Ct G l yJ23_put_2 (ws_ yJ23_put_2 cJ23_put_2 10 (some ((.object "java/lang/Object")))) 5 107 [.inr (.inr (.inl x0)), .inr (.inr (.inl x1)), .inr (.inr (.inl x2)), .inl x3] h k (jc_r Q) E := by
  refine jj_Ct.of J.1 (by decide +kernel) (Nat.le_of_ble_eq_true rfl) rfl (fun X hG hl F M O hnm => ?_)
  subst hG; subst hl
  exact sC_J23_put_2 F M O J hnm (fun r h q => ⟨r, rfl, q⟩) (fun _ _ _ q => q) _ _ _ _ _ _ w
theorem hC_J23_put_2 : yJ23_put_2.cls = RJ23 ∧ yJ23_put_2.cls ≠ "java/lang/invoke/MethodHandle" ∧ yJ23_put_2.cls ≠ "java/lang/invoke/VarHandle" ∧ (parseMethodDescriptor yJ23_put_2.desc).map (fun d => d.parameters.length) = some 3 := by decide +kernel
/-! J23_put(Ljava/lang/Object;Ljava/lang/Object;)Ljava/lang/Object; -/
def fC_J23_put (gk : Nat → Nat) (x0 : Option Nat) (x1 : Option Nat) (x2 : Option Nat) (Q : Option Nat → jj_H → Prop) (E : String → Nat → jj_H → Prop) (h : jj_H) (k : Nat) : Prop :=
  jp_is h x0 23 ∧ ∃ c1, c1 ≤ k ∧ fC_J23_put_2 gk x0 x1 x2 1 (fun r2 h3 =>
  Q r2 h3) E h c1
theorem sC_J23_put {X : jj_X} {N : Option jj_AV → jj_H → Prop} {XN : String → Nat → jj_H → Prop} (F : jj_F X RJ23 cJ23_put 3) (M : jj_M X (some ((.object "java/lang/Object"))) 6 136 N XN) (O : jj_no X) (J : jx_G X.1 X.2.2.1) (hi : X.2.2.2.2.2.2.2.2.2.1.name = yJ23_put.name) {Q : Option Nat → jj_H → Prop} {E : String → Nat → jj_H → Prop} (hQ : ∀ r h, Q r h → N (some (.inr (.inr (.inl r)))) h) (hE : ∀ e q h, E e q h → XN e q h) (x0 : Option Nat) (x1 : Option Nat) (x2 : Option Nat) : ∀ (h : jj_H) (k : Nat), fC_J23_put (jj_gk X.1) x0 x1 x2 Q E h k → jj_J X 3 0 [(0, .inr (.inr (.inl x0))), (1, .inr (.inr (.inl x1))), (2, .inr (.inr (.inl x2)))] [] h k := by
  intro h k w
  unfold fC_J23_put at w
  refine jr_aload_n (pc := 0) F (j := 0) dJ23_put_0 rfl ?_
  refine jr_aload_n (pc := 1) F (j := 1) dJ23_put_1 rfl ?_
  refine jr_aload_n (pc := 2) F (j := 2) dJ23_put_2 rfl ?_
  refine jr_iconst (pc := 3) F dJ23_put_3 ?_
  obtain ⟨hi9, c1, hk9, w⟩ := w
  refine jr_cV (pc := 4) (As := [_, _, _]) (ci := 23) F M (lw_V q2210 q2212 qs14 q148 q2214) dJ23_put_4 hC_J23_put_2 rfl (Nat.le_of_ble_eq_true rfl) (Nat.le_of_ble_eq_true rfl) (Nat.le_of_ble_eq_true rfl) rfl hi9 hk9 (cC_J23_put_2 J w) (fun v9 h3 q9 => ?_) (fun E9 q9 h9 w9 => jr_out F M O (hE _ _ _ w9))
  obtain ⟨r2, rfl, w⟩ := q9
  exact jr_aret (pc := 7) F M (Or.inl ⟨_, rfl⟩) dJ23_put_7 (hQ _ _ w)

theorem cC_J23_put {G : jj_G} {l : Launch} (J : jx_G G l) {x0 : Option Nat} {x1 : Option Nat} {x2 : Option Nat} {Q : Option Nat → jj_H → Prop} {E : String → Nat → jj_H → Prop} {h : jj_H} {k : Nat} (w : fC_J23_put (jj_gk G) x0 x1 x2 Q E h k) : jj_Ct G l yJ23_put (ws_ yJ23_put cJ23_put 3 (some ((.object "java/lang/Object")))) 6 136 [.inr (.inr (.inl x0)), .inr (.inr (.inl x1)), .inr (.inr (.inl x2))] h k (jc_r Q) E := by
  refine jj_Ct.of J.1 (by decide +kernel) (Nat.le_of_ble_eq_true rfl) rfl (fun X hG hl F M O hnm => ?_)
  subst hG; subst hl
  exact sC_J23_put F M O J hnm (fun r h q => ⟨r, rfl, q⟩) (fun _ _ _ q => q) _ _ _ _ _ w
theorem hC_J23_put : yJ23_put.cls = RJ23 ∧ yJ23_put.cls ≠ "java/lang/invoke/MethodHandle" ∧ yJ23_put.cls ≠ "java/lang/invoke/VarHandle" ∧ (parseMethodDescriptor yJ23_put.desc).map (fun d => d.parameters.length) = some 2 := by decide +kernel
/-! J23_size()I -/
def fC_J23_size (gk : Nat → Nat) (x0 : Option Nat) (Q : Int → jj_H → Prop) (E : String → Nat → jj_H → Prop) (h : jj_H) (k : Nat) : Prop :=
  jp_gi h x0 23 4 (fun g1 =>
  Q g1 h)
theorem sC_J23_size {X : jj_X} {N : Option jj_AV → jj_H → Prop} {XN : String → Nat → jj_H → Prop} (F : jj_F X RJ23 cJ23_size 1) (M : jj_M X (some (.int)) 0 0 N XN) (O : jj_no X) (J : jx_G X.1 X.2.2.1) (hi : X.2.2.2.2.2.2.2.2.2.1.name = yJ23_size.name) {Q : Int → jj_H → Prop} {E : String → Nat → jj_H → Prop} (hQ : ∀ r h, Q r h → N (some (.inl r)) h) (hE : ∀ e q h, E e q h → XN e q h) (x0 : Option Nat) : ∀ (h : jj_H) (k : Nat), fC_J23_size (jj_gk X.1) x0 Q E h k → jj_J X 1 0 [(0, .inr (.inr (.inl x0)))] [] h k := by
  intro h k w
  unfold fC_J23_size at w
  refine jr_aload_n (pc := 0) F (j := 0) dJ23_size_0 rfl ?_
  refine jr_gi (pc := 1) (ci := 23) (f := 4) F rfl in_J23 (Nat.le_of_ble_eq_true rfl) q3045 dJ23_size_1 w (fun g1 w => ?_)
  exact jr_iret (pc := 4) F M dJ23_size_4 (hQ _ _ w)

theorem cC_J23_size {G : jj_G} {l : Launch} (J : jx_G G l) {x0 : Option Nat} {Q : Int → jj_H → Prop} {E : String → Nat → jj_H → Prop} {h : jj_H} {k : Nat} (w : fC_J23_size (jj_gk G) x0 Q E h k) : jj_Ct G l yJ23_size (ws_ yJ23_size cJ23_size 1 (some (.int))) 0 0 [.inr (.inr (.inl x0))] h k (jc_i Q) E := by
  refine jj_Ct.of J.1 (by decide +kernel) (Nat.le_of_ble_eq_true rfl) rfl (fun X hG hl F M O hnm => ?_)
  subst hG; subst hl
  exact sC_J23_size F M O J hnm (fun r h q => ⟨r, rfl, q⟩) (fun _ _ _ q => q) _ _ _ w
theorem hC_J23_size : yJ23_size.cls = RJ23 ∧ yJ23_size.cls ≠ "java/lang/invoke/MethodHandle" ∧ yJ23_size.cls ≠ "java/lang/invoke/VarHandle" ∧ (parseMethodDescriptor yJ23_size.desc).map (fun d => d.parameters.length) = some 0 := by decide +kernel
/-! J42_add(Ljava/lang/Object;)Z -/
def fC_J42_add (gk : Nat → Nat) (x0 : Option Nat) (x1 : Option Nat) (Q : Int → jj_H → Prop) (E : String → Nat → jj_H → Prop) (h : jj_H) (k : Nat) : Prop :=
  jp_gr h x0 22 0 (fun g1 =>
  jp_is h g1 23 ∧ ∃ c2, c2 ≤ k ∧ fC_J23_put gk g1 x1 (some (gk 31)) (fun r3 h4 =>
  (¬ r3 = none → (
    Q 0 h4)) ∧
  (r3 = none → (
    Q 1 h4))) E h c2)
theorem sC_J42_add {X : jj_X} {N : Option jj_AV → jj_H → Prop} {XN : String → Nat → jj_H → Prop} (F : jj_F X RJ42 cJ42_add 2) (M : jj_M X (some (.boolean)) 7 158 N XN) (O : jj_no X) (J : jx_G X.1 X.2.2.1) (hi : X.2.2.2.2.2.2.2.2.2.1.name = yJ42_add.name) {Q : Int → jj_H → Prop} {E : String → Nat → jj_H → Prop} (hQ : ∀ r h, Q r h → N (some (.inl r)) h) (hE : ∀ e q h, E e q h → XN e q h) (x0 : Option Nat) (x1 : Option Nat) : ∀ (h : jj_H) (k : Nat), fC_J42_add (jj_gk X.1) x0 x1 Q E h k → jj_J X 2 0 [(0, .inr (.inr (.inl x0))), (1, .inr (.inr (.inl x1)))] [] h k := by
  intro h k w
  unfold fC_J42_add at w
  refine jr_aload_n (pc := 0) F (j := 0) dJ42_add_0 rfl ?_
  refine jr_gr (pc := 1) (ci := 22) (f := 0) F rfl in_J42 (Nat.le_of_ble_eq_true rfl) q3070 dJ42_add_1 w (fun g1 w => ?_)
  refine jr_aload_n (pc := 4) F (j := 1) dJ42_add_4 rfl ?_
  refine jr_gst (pc := 5) F J 4 rfl q2200 dJ42_add_5 ?_
  obtain ⟨hi9, c2, hk9, w⟩ := w
  refine jr_cX (pc := 8) (n := 2) (As := [_, _]) (ci := 23) (Ji := "java/util/Map") F M (jx_fu J 0 rfl) (lw_meth q2209) (by decide) (by decide) q2205 q2207 q148 dJ42_add_8 (by decide +kernel) rfl (Nat.le_of_ble_eq_true rfl) (Nat.le_of_ble_eq_true rfl) (Nat.le_of_ble_eq_true rfl) rfl hi9 hk9 (cC_J23_put J w) (fun v9 h4 q9 => ?_) (fun E9 q9 h9 w9 => jr_out F M O (hE _ _ _ w9))
  obtain ⟨r3, rfl, w⟩ := q9
  obtain ⟨w1, w2⟩ := w
  refine jr_ifnonnull (pc := 13) (tgt := 20) F dJ42_add_13 rfl (fun c9 => ?_) (fun c9 => ?_)
  · have w := w1 c9
    refine jr_iconst (pc := 20) F dJ42_add_20 ?_
    exact jr_zret (pc := 21) F M dJ42_add_21 (by decide) (hQ _ _ w)
  · have w := w2 c9
    refine jr_iconst (pc := 16) F dJ42_add_16 ?_
    refine jr_goto (pc := 17) (tgt := 21) F dJ42_add_17 rfl ?_
    exact jr_zret (pc := 21) F M dJ42_add_21 (by decide) (hQ _ _ w)

theorem cC_J42_add {G : jj_G} {l : Launch} (J : jx_G G l) {x0 : Option Nat} {x1 : Option Nat} {Q : Int → jj_H → Prop} {E : String → Nat → jj_H → Prop} {h : jj_H} {k : Nat} (w : fC_J42_add (jj_gk G) x0 x1 Q E h k) : jj_Ct G l yJ42_add (ws_ yJ42_add cJ42_add 2 (some (.boolean))) 7 158 [.inr (.inr (.inl x0)), .inr (.inr (.inl x1))] h k (jc_i Q) E := by
  refine jj_Ct.of J.1 (by decide +kernel) (Nat.le_of_ble_eq_true rfl) rfl (fun X hG hl F M O hnm => ?_)
  subst hG; subst hl
  exact sC_J42_add F M O J hnm (fun r h q => ⟨r, rfl, q⟩) (fun _ _ _ q => q) _ _ _ _ w
theorem hC_J42_add : yJ42_add.cls = RJ42 ∧ yJ42_add.cls ≠ "java/lang/invoke/MethodHandle" ∧ yJ42_add.cls ≠ "java/lang/invoke/VarHandle" ∧ (parseMethodDescriptor yJ42_add.desc).map (fun d => d.parameters.length) = some 1 := by decide +kernel
/-! J42_init_2(Ljava/util/NavigableMap;)V -/
def fC_J42_init_2 (gk : Nat → Nat) (x0 : Option Nat) (x1 : Option Nat) (Q : jj_H → Prop) (E : String → Nat → jj_H → Prop) (h : jj_H) (k : Nat) : Prop :=
  jp_so x0 ∧ fC_J26_init gk x0 (fun h3 =>
  jp_pr h3 x0 22 0 x1 (fun h4 =>
  Q h4)) E h 0
theorem sC_J42_init_2 {X : jj_X} {N : Option jj_AV → jj_H → Prop} {XN : String → Nat → jj_H → Prop} (F : jj_F X RJ42 cJ42_init_2 2) (M : jj_M X (none) 3 60 N XN) (O : jj_no X) (J : jx_G X.1 X.2.2.1) (hi : X.2.2.2.2.2.2.2.2.2.1.name = yJ42_init_2.name) {Q : jj_H → Prop} {E : String → Nat → jj_H → Prop} (hQ : ∀ h, Q h → N none h) (hE : ∀ e q h, E e q h → XN e q h) (x0 : Option Nat) (x1 : Option Nat) : ∀ (h : jj_H) (k : Nat), fC_J42_init_2 (jj_gk X.1) x0 x1 Q E h k → jj_J X 2 0 [(0, .inr (.inr (.inl x0))), (1, .inr (.inr (.inl x1)))] [] h k := by
  intro h k w
  unfold fC_J42_init_2 at w
  refine jr_aload_n (pc := 0) F (j := 0) dJ42_init_2_0 rfl ?_
  obtain ⟨hi9, w⟩ := w
  refine jr_cI (pc := 1) (As := []) F M q3069 q949 q152 q950 dJ42_init_2_1 rfl hC_J26_init.2 rfl (Nat.le_of_ble_eq_true rfl) (Nat.le_of_ble_eq_true rfl) (Nat.le_of_ble_eq_true rfl) hi9 (Nat.zero_le _) (cC_J26_init J w) (fun v9 h3 q9 => ?_) (fun E9 q9 h9 w9 => jr_out F M O (hE _ _ _ w9))
  obtain ⟨rfl, w⟩ := q9
  refine jr_aload_n (pc := 4) F (j := 0) dJ42_init_2_4 rfl ?_
  refine jr_aload_n (pc := 5) F (j := 1) dJ42_init_2_5 rfl ?_
  refine jr_pr (pc := 6) (ci := 22) (f := 0) F rfl in_J42 tyJ42_ok nmJ42 (Nat.le_of_ble_eq_true rfl) rfl rfl q3070 dJ42_init_2_6 w (fun h4 w => ?_)
  exact jr_vret (pc := 9) F M dJ42_init_2_9 (hQ _ w)

theorem cC_J42_init_2 {G : jj_G} {l : Launch} (J : jx_G G l) {x0 : Option Nat} {x1 : Option Nat} {Q : jj_H → Prop} {E : String → Nat → jj_H → Prop} {h : jj_H} {k : Nat} (w : fC_J42_init_2 (jj_gk G) x0 x1 Q E h k) : jj_Ct G l yJ42_init_2 (ws_ yJ42_init_2 cJ42_init_2 2 (none)) 3 60 [.inr (.inr (.inl x0)), .inr (.inr (.inl x1))] h k (jc_v Q) E := by
  refine jj_Ct.of J.1 (by decide +kernel) (Nat.le_of_ble_eq_true rfl) rfl (fun X hG hl F M O hnm => ?_)
  subst hG; subst hl
  exact sC_J42_init_2 F M O J hnm (fun h q => ⟨rfl, q⟩) (fun _ _ _ q => q) _ _ _ _ w
theorem hC_J42_init_2 : yJ42_init_2.cls = RJ42 ∧ yJ42_init_2.cls ≠ "java/lang/invoke/MethodHandle" ∧ yJ42_init_2.cls ≠ "java/lang/invoke/VarHandle" ∧ (parseMethodDescriptor yJ42_init_2.desc).map (fun d => d.parameters.length) = some 1 := by decide +kernel
/-! J42_init()V -/
def fC_J42_init (gk : Nat → Nat) (x0 : Option Nat) (Q : jj_H → Prop) (E : String → Nat → jj_H → Prop) (h : jj_H) (k : Nat) : Prop :=
  jp_nw h k 23 3 df_J23 (fun a1 h2 k3 =>
  jp_so (some a1) ∧ fC_J23_init gk (some a1) (fun h6 =>
  jp_so x0 ∧ fC_J42_init_2 gk x0 (some a1) (fun h9 =>
  Q h9) E h6 0) E h2 0)
theorem sC_J42_init {X : jj_X} {N : Option jj_AV → jj_H → Prop} {XN : String → Nat → jj_H → Prop} (F : jj_F X RJ42 cJ42_init 1) (M : jj_M X (none) 4 81 N XN) (O : jj_no X) (J : jx_G X.1 X.2.2.1) (hi : X.2.2.2.2.2.2.2.2.2.1.name = yJ42_init.name) {Q : jj_H → Prop} {E : String → Nat → jj_H → Prop} (hQ : ∀ h, Q h → N none h) (hE : ∀ e q h, E e q h → XN e q h) (x0 : Option Nat) : ∀ (h : jj_H) (k : Nat), fC_J42_init (jj_gk X.1) x0 Q E h k → jj_J X 1 0 [(0, .inr (.inr (.inl x0)))] [] h k := by
  intro h k w
  unfold fC_J42_init at w
  refine jr_aload_n (pc := 0) F (j := 0) dJ42_init_0 rfl ?_
  refine jr_new (pc := 1) (ci := 23) F rfl in_J23 tyJ23_ok q3038 q2213 q148 dfo_J23 rfl ⟨by decide, by decide⟩ dJ42_init_1 w (fun a1 h2 k3 w => ?_)
  refine jr_dup (pc := 4) F dJ42_init_4 rfl ?_
  obtain ⟨hi9, w⟩ := w
  refine jr_cI (pc := 5) (As := []) F M q3039 q3040 q148 q3041 dJ42_init_5 rfl hC_J23_init.2 rfl (Nat.le_of_ble_eq_true rfl) (Nat.le_of_ble_eq_true rfl) (Nat.le_of_ble_eq_true rfl) hi9 (Nat.zero_le _) (cC_J23_init J w) (fun v9 h6 q9 => ?_) (fun E9 q9 h9 w9 => jr_out F M O (hE _ _ _ w9))
  obtain ⟨rfl, w⟩ := q9
  obtain ⟨hi9, w⟩ := w
  refine jr_cI (pc := 8) (As := [_]) F M q3066 q3067 q170 q3068 dJ42_init_8 rfl hC_J42_init_2.2 rfl (Nat.le_of_ble_eq_true rfl) (Nat.le_of_ble_eq_true rfl) (Nat.le_of_ble_eq_true rfl) hi9 (Nat.zero_le _) (cC_J42_init_2 J w) (fun v9 h9 q9 => ?_) (fun E9 q9 h9 w9 => jr_out F M O (hE _ _ _ w9))
  obtain ⟨rfl, w⟩ := q9
  exact jr_vret (pc := 11) F M dJ42_init_11 (hQ _ w)

theorem cC_J42_init {G : jj_G} {l : Launch} (J : jx_G G l) {x0 : Option Nat} {Q : jj_H → Prop} {E : String → Nat → jj_H → Prop} {h : jj_H} {k : Nat} (w : fC_J42_init (jj_gk G) x0 Q E h k) : jj_Ct G l yJ42_init (ws_ yJ42_init cJ42_init 1 (none)) 4 81 [.inr (.inr (.inl x0))] h k (jc_v Q) E := by
  refine jj_Ct.of J.1 (by decide +kernel) (Nat.le_of_ble_eq_true rfl) rfl (fun X hG hl F M O hnm => ?_)
  subst hG; subst hl
  exact sC_J42_init F M O J hnm (fun h q => ⟨rfl, q⟩) (fun _ _ _ q => q) _ _ _ w
theorem hC_J42_init : yJ42_init.cls = RJ42 ∧ yJ42_init.cls ≠ "java/lang/invoke/MethodHandle" ∧ yJ42_init.cls ≠ "java/lang/invoke/VarHandle" ∧ (parseMethodDescriptor yJ42_init.desc).map (fun d => d.parameters.length) = some 0 := by decide +kernel
/-! J42_size()I -/
def fC_J42_size (gk : Nat → Nat) (x0 : Option Nat) (Q : Int → jj_H → Prop) (E : String → Nat → jj_H → Prop) (h : jj_H) (k : Nat) : Prop :=
  jp_gr h x0 22 0 (fun g1 =>
  jp_is h g1 23 ∧ fC_J23_size gk g1 (fun r3 h4 =>
  Q r3 h4) E h 0)
theorem sC_J42_size {X : jj_X} {N : Option jj_AV → jj_H → Prop} {XN : String → Nat → jj_H → Prop} (F : jj_F X RJ42 cJ42_size 1) (M : jj_M X (some (.int)) 1 20 N XN) (O : jj_no X) (J : jx_G X.1 X.2.2.1) (hi : X.2.2.2.2.2.2.2.2.2.1.name = yJ42_size.name) {Q : Int → jj_H → Prop} {E : String → Nat → jj_H → Prop} (hQ : ∀ r h, Q r h → N (some (.inl r)) h) (hE : ∀ e q h, E e q h → XN e q h) (x0 : Option Nat) : ∀ (h : jj_H) (k : Nat), fC_J42_size (jj_gk X.1) x0 Q E h k → jj_J X 1 0 [(0, .inr (.inr (.inl x0)))] [] h k := by
  intro h k w
  unfold fC_J42_size at w
  refine jr_aload_n (pc := 0) F (j := 0) dJ42_size_0 rfl ?_
  refine jr_gr (pc := 1) (ci := 22) (f := 0) F rfl in_J42 (Nat.le_of_ble_eq_true rfl) q3070 dJ42_size_1 w (fun g1 w => ?_)
  obtain ⟨hi9, w⟩ := w
  refine jr_cX (pc := 4) (n := 0) (As := []) (ci := 23) (Ji := "java/util/Map") F M (jx_fu J 1 rfl) (lw_meth q1809) (by decide) (by decide) q1805 q1807 q148 dJ42_size_4 (by decide +kernel) rfl (Nat.le_of_ble_eq_true rfl) (Nat.le_of_ble_eq_true rfl) (Nat.le_of_ble_eq_true rfl) rfl hi9 (Nat.zero_le _) (cC_J23_size J w) (fun v9 h4 q9 => ?_) (fun E9 q9 h9 w9 => jr_out F M O (hE _ _ _ w9))
  obtain ⟨r3, rfl, w⟩ := q9
  exact jr_iret (pc := 9) F M dJ42_size_9 (hQ _ _ w)

theorem cC_J42_size {G : jj_G} {l : Launch} (J : jx_G G l) {x0 : Option Nat} {Q : Int → jj_H → Prop} {E : String → Nat → jj_H → Prop} {h : jj_H} {k : Nat} (w : fC_J42_size (jj_gk G) x0 Q E h k) : jj_Ct G l yJ42_size (ws_ yJ42_size cJ42_size 1 (some (.int))) 1 20 [.inr (.inr (.inl x0))] h k (jc_i Q) E := by
  refine jj_Ct.of J.1 (by decide +kernel) (Nat.le_of_ble_eq_true rfl) rfl (fun X hG hl F M O hnm => ?_)
  subst hG; subst hl
  exact sC_J42_size F M O J hnm (fun r h q => ⟨r, rfl, q⟩) (fun _ _ _ q => q) _ _ _ w
theorem hC_J42_size : yJ42_size.cls = RJ42 ∧ yJ42_size.cls ≠ "java/lang/invoke/MethodHandle" ∧ yJ42_size.cls ≠ "java/lang/invoke/VarHandle" ∧ (parseMethodDescriptor yJ42_size.desc).map (fun d => d.parameters.length) = some 0 := by decide +kernel
