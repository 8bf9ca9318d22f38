set_option maxRecDepth 100000
/-! J0_init()V -/
def fC_J0_init (gk : Nat → Nat) (x0 : Option Nat) (Q : jj_H → Prop) (E : String → Nat → jj_H → Prop) (h : jj_H) (k : Nat) : Prop :=
  jp_so x0 ∧
  Q h
theorem sC_J0_init {X : jj_X} {N : Option jj_AV → jj_H → Prop} {XN : String → Nat → jj_H → Prop} (F : jj_F X RJ0 cJ0_init 1) (M : jj_M X (none) 1 20 N XN) (O : jj_no X) (J : jx_G X.1 X.2.2.1) (hi : X.2.2.2.2.2.2.2.2.2.1.name = yJ0_init.name) {Q : jj_H → Prop} {E : String → Nat → jj_H → Prop} (hQ : ∀ h, Q h → N none h) (hE : ∀ e q h, E e q h → XN e q h) (x0 : Option Nat) : ∀ (h : jj_H) (k : Nat), fC_J0_init (jj_gk X.1) x0 Q E h k → jj_J X 1 0 [(0, .inr (.inr (.inl x0)))] [] h k := by
  intro h k w
  unfold fC_J0_init at w
  refine jr_aload_n (pc := 0) F (j := 0) dJ0_init_0 rfl ?_
  obtain ⟨ha9, w⟩ := w
  refine jr_objInitO (pc := 1) F M q211 q192 q193 ha9 (Nat.le_of_ble_eq_true rfl) (Nat.le_of_ble_eq_true rfl) (Nat.le_of_ble_eq_true rfl) dJ0_init_1 ?_
  exact jr_vret (pc := 4) F M dJ0_init_4 (hQ _ w)

theorem cC_J0_init {G : jj_G} {l : Launch} (J : jx_G G l) {x0 : Option Nat} {Q : jj_H → Prop} {E : String → Nat → jj_H → Prop} {h : jj_H} {k : Nat} (w : fC_J0_init (jj_gk G) x0 Q E h k) : jj_Ct G l yJ0_init (ws_ yJ0_init cJ0_init 1 (none)) 1 20 [.inr (.inr (.inl x0))] h k (jc_v Q) E := by
  refine jj_Ct.of J.1 (by decide +kernel) (Nat.le_of_ble_eq_true rfl) rfl (fun X hG hl F M O hnm => ?_)
  subst hG; subst hl
  exact sC_J0_init F M O J hnm (fun h q => ⟨rfl, q⟩) (fun _ _ _ q => q) _ _ _ w
theorem hC_J0_init : yJ0_init.cls = RJ0 ∧ yJ0_init.cls ≠ "java/lang/invoke/MethodHandle" ∧ yJ0_init.cls ≠ "java/lang/invoke/VarHandle" ∧ (parseMethodDescriptor yJ0_init.desc).map (fun d => d.parameters.length) = some 0 := by decide +kernel
/-! J1_init()V -/
def fC_J1_init (gk : Nat → Nat) (x0 : Option Nat) (Q : jj_H → Prop) (E : String → Nat → jj_H → Prop) (h : jj_H) (k : Nat) : Prop :=
  jp_so x0 ∧ fC_J0_init gk x0 (fun h3 =>
  jp_pi h3 x0 14 0 0 (fun h4 =>
  Q h4)) E h 0
theorem sC_J1_init {X : jj_X} {N : Option jj_AV → jj_H → Prop} {XN : String → Nat → jj_H → Prop} (F : jj_F X RJ1 cJ1_init 1) (M : jj_M X (none) 2 40 N XN) (O : jj_no X) (J : jx_G X.1 X.2.2.1) (hi : X.2.2.2.2.2.2.2.2.2.1.name = yJ1_init.name) {Q : jj_H → Prop} {E : String → Nat → jj_H → Prop} (hQ : ∀ h, Q h → N none h) (hE : ∀ e q h, E e q h → XN e q h) (x0 : Option Nat) : ∀ (h : jj_H) (k : Nat), fC_J1_init (jj_gk X.1) x0 Q E h k → jj_J X 1 0 [(0, .inr (.inr (.inl x0)))] [] h k := by
  intro h k w
  unfold fC_J1_init at w
  refine jr_aload_n (pc := 0) F (j := 0) dJ1_init_0 rfl ?_
  obtain ⟨hi9, w⟩ := w
  refine jr_cI (pc := 1) (As := []) F M q208 q209 q122 q210 dJ1_init_1 rfl hC_J0_init.2 rfl (Nat.le_of_ble_eq_true rfl) (Nat.le_of_ble_eq_true rfl) (Nat.le_of_ble_eq_true rfl) hi9 (Nat.zero_le _) (cC_J0_init J w) (fun v9 h3 q9 => ?_) (fun E9 q9 h9 w9 => jr_out F M O (hE _ _ _ w9))
  obtain ⟨rfl, w⟩ := q9
  refine jr_aload_n (pc := 4) F (j := 0) dJ1_init_4 rfl ?_
  refine jr_iconst (pc := 5) F dJ1_init_5 ?_
  refine jr_pi (pc := 6) (ci := 14) (f := 0) F rfl in_J2 tyJ2_ok nmJ2 (Nat.le_of_ble_eq_true rfl) rfl rfl q540 dJ1_init_6 w (fun h4 w => ?_)
  exact jr_vret (pc := 9) F M dJ1_init_9 (hQ _ w)

theorem cC_J1_init {G : jj_G} {l : Launch} (J : jx_G G l) {x0 : Option Nat} {Q : jj_H → Prop} {E : String → Nat → jj_H → Prop} {h : jj_H} {k : Nat} (w : fC_J1_init (jj_gk G) x0 Q E h k) : jj_Ct G l yJ1_init (ws_ yJ1_init cJ1_init 1 (none)) 2 40 [.inr (.inr (.inl x0))] h k (jc_v Q) E := by
  refine jj_Ct.of J.1 (by decide +kernel) (Nat.le_of_ble_eq_true rfl) rfl (fun X hG hl F M O hnm => ?_)
  subst hG; subst hl
  exact sC_J1_init F M O J hnm (fun h q => ⟨rfl, q⟩) (fun _ _ _ q => q) _ _ _ w
theorem hC_J1_init : yJ1_init.cls = RJ1 ∧ yJ1_init.cls ≠ "java/lang/invoke/MethodHandle" ∧ yJ1_init.cls ≠ "java/lang/invoke/VarHandle" ∧ (parseMethodDescriptor yJ1_init.desc).map (fun d => d.parameters.length) = some 0 := by decide +kernel
/-! J11_hugeLength(II)I -/
def fC_J11_hugeLength (gk : Nat → Nat) (x0 : Int) (x1 : Int) (Q : Int → jj_H → Prop) (E : String → Nat → jj_H → Prop) (h : jj_H) (k : Nat) : Prop :=
  ∀ v1, v1 = x0 + x1 →
  jj_r v1 ∧ (0 ≤ v1 → (
    jj_r v1 ∧ (2147483639 < v1 → (
      Q v1 h)) ∧
    (¬ 2147483639 < v1 → (
      Q 2147483639 h)))) ∧
  (¬ 0 ≤ v1 → (
    False))
theorem sC_J11_hugeLength {X : jj_X} {N : Option jj_AV → jj_H → Prop} {XN : String → Nat → jj_H → Prop} (F : jj_F X RJ11 cJ11_hugeLength 3) (M : jj_M X (some (.int)) 0 0 N XN) (O : jj_no X) (J : jx_G X.1 X.2.2.1) (hi : X.2.2.2.2.2.2.2.2.2.1.name = yJ11_hugeLength.name) {Q : Int → jj_H → Prop} {E : String → Nat → jj_H → Prop} (hQ : ∀ r h, Q r h → N (some (.inl r)) h) (hE : ∀ e q h, E e q h → XN e q h) (x0 : Int) (x1 : Int) : ∀ (h : jj_H) (k : Nat), fC_J11_hugeLength (jj_gk X.1) x0 x1 Q E h k → jj_J X 3 0 [(0, .inl x0), (1, .inl x1)] [] h k := by
  intro h k w
  unfold fC_J11_hugeLength at w
  refine jr_iload_n (pc := 0) F (j := 0) dJ11_hugeLength_0 rfl ?_
  refine jr_iload_n (pc := 1) F (j := 1) dJ11_hugeLength_1 rfl ?_
  refine jr_iadd (pc := 2) F dJ11_hugeLength_2 ?_
  have w := w _ rfl
  refine jr_istore_n (pc := 3) F (vs' := [(2, .inl _), (0, .inl _), (1, .inl _)]) dJ11_hugeLength_3 (Nat.le_of_ble_eq_true rfl) rfl ?_
  refine jr_iload_n (pc := 4) F (j := 0) dJ11_hugeLength_4 rfl ?_
  obtain ⟨hx9, w1, w2⟩ := w
  refine jr_if_ge (pc := 5) (tgt := 49) F hx9 dJ11_hugeLength_5 rfl (fun c9 => ?_) (fun c9 => ?_)
  · have w := w1 c9
    refine jr_iload_n (pc := 49) F (j := 0) dJ11_hugeLength_49 rfl ?_
    refine jr_ldc (pc := 50) F (x := 2147483639) q321 dJ11_hugeLength_50 (by decide +kernel) ?_
    obtain ⟨hx9, w1, w2⟩ := w
    refine jr_icmp_gt (pc := 52) (tgt := 58) F hx9 ⟨by decide, by decide⟩ dJ11_hugeLength_52 rfl (fun c9 => ?_) (fun c9 => ?_)
    · have w := w1 c9
      refine jr_iload_n (pc := 58) F (j := 0) dJ11_hugeLength_58 rfl ?_
      exact jr_iret (pc := 59) F M dJ11_hugeLength_59 (hQ _ _ w)
    · have w := w2 c9
      refine jr_ldc (pc := 55) F (x := 2147483639) q321 dJ11_hugeLength_55 (by decide +kernel) ?_
      exact jr_iret (pc := 57) F M dJ11_hugeLength_57 (hQ _ _ w)
  · have w := w2 c9
    exact (show False from w).elim

theorem cC_J11_hugeLength {G : jj_G} {l : Launch} (J : jx_G G l) {x0 : Int} {x1 : Int} {Q : Int → jj_H → Prop} {E : String → Nat → jj_H → Prop} {h : jj_H} {k : Nat} (w : fC_J11_hugeLength (jj_gk G) x0 x1 Q E h k) : jj_Ct G l yJ11_hugeLength (ws_ yJ11_hugeLength cJ11_hugeLength 3 (some (.int))) 0 0 [.inl x0, .inl x1] h k (jc_i Q) E := by
  refine jj_Ct.of J.1 (by decide +kernel) (Nat.le_of_ble_eq_true rfl) rfl (fun X hG hl F M O hnm => ?_)
  subst hG; subst hl
  exact sC_J11_hugeLength F M O J hnm (fun r h q => ⟨r, rfl, q⟩) (fun _ _ _ q => q) _ _ _ _ w
theorem hC_J11_hugeLength : yJ11_hugeLength.cls = RJ11 ∧ yJ11_hugeLength.cls ≠ "java/lang/invoke/MethodHandle" ∧ yJ11_hugeLength.cls ≠ "java/lang/invoke/VarHandle" ∧ (parseMethodDescriptor yJ11_hugeLength.desc).map (fun d => d.parameters.length) = some 2 := by decide +kernel
/-! J11_newLength(III)I -/
def fC_J11_newLength_j21 (gk : Nat → Nat) (x0 : Int) (x1 : Int) (Q : Int → jj_H → Prop) (E : String → Nat → jj_H → Prop) (h : jj_H) (k : Nat) : Prop :=
  fC_J11_hugeLength gk x0 x1 (fun r2 h3 =>
  Q r2 h3) E h 0
def fC_J11_newLength (gk : Nat → Nat) (x0 : Int) (x1 : Int) (x2 : Int) (Q : Int → jj_H → Prop) (E : String → Nat → jj_H → Prop) (h : jj_H) (k : Nat) : Prop :=
  jj_r x1 ∧ jj_r x2 ∧
  ∀ v4, v4 = x0 + (max x1 x2) →
  jj_r v4 ∧ (v4 ≤ 0 → (
    fC_J11_newLength_j21 gk x0 x1 Q E h k)) ∧
  (¬ v4 ≤ 0 → (
    jj_r v4 ∧ (2147483639 < v4 → (
      fC_J11_newLength_j21 gk x0 x1 Q E h k)) ∧
    (¬ 2147483639 < v4 → (
      Q v4 h))))
theorem sC_J11_newLength_j21 {X : jj_X} {N : Option jj_AV → jj_H → Prop} {XN : String → Nat → jj_H → Prop} (F : jj_F X RJ11 cJ11_newLength 4) (M : jj_M X (some (.int)) 1 22 N XN) (O : jj_no X) (J : jx_G X.1 X.2.2.1) (hi : X.2.2.2.2.2.2.2.2.2.1.name = yJ11_newLength.name) {Q : Int → jj_H → Prop} {E : String → Nat → jj_H → Prop} (hQ : ∀ r h, Q r h → N (some (.inl r)) h) (hE : ∀ e q h, E e q h → XN e q h) (x0 : Int) (x1 : Int) : ∀ (h : jj_H) (k : Nat), fC_J11_newLength_j21 (jj_gk X.1) x0 x1 Q E h k → jj_J X 4 21 [(0, .inl x0), (1, .inl x1)] [] h k := by
  intro h k w
  unfold fC_J11_newLength_j21 at w
  refine jr_iload_n (pc := 21) F (j := 0) dJ11_newLength_21 rfl ?_
  refine jr_iload_n (pc := 22) F (j := 1) dJ11_newLength_22 rfl ?_
  refine jr_callS (pc := 23) (As := [_, _]) F M (lw_S q322 q323 q133 q324) dJ11_newLength_23 hC_J11_hugeLength.2 rfl (Nat.le_of_ble_eq_true rfl) (Nat.le_of_ble_eq_true rfl) (Nat.le_of_ble_eq_true rfl) (Nat.zero_le _) (cC_J11_hugeLength J w) (fun v9 h3 q9 => ?_) (fun E9 q9 h9 w9 => jr_out F M O (hE _ _ _ w9))
  obtain ⟨r2, rfl, w⟩ := q9
  exact jr_iret (pc := 26) F M dJ11_newLength_26 (hQ _ _ w)

theorem sC_J11_newLength {X : jj_X} {N : Option jj_AV → jj_H → Prop} {XN : String → Nat → jj_H → Prop} (F : jj_F X RJ11 cJ11_newLength 4) (M : jj_M X (some (.int)) 1 22 N XN) (O : jj_no X) (J : jx_G X.1 X.2.2.1) (hi : X.2.2.2.2.2.2.2.2.2.1.name = yJ11_newLength.name) {Q : Int → jj_H → Prop} {E : String → Nat → jj_H → Prop} (hQ : ∀ r h, Q r h → N (some (.inl r)) h) (hE : ∀ e q h, E e q h → XN e q h) (x0 : Int) (x1 : Int) (x2 : Int) : ∀ (h : jj_H) (k : Nat), fC_J11_newLength (jj_gk X.1) x0 x1 x2 Q E h k → jj_J X 4 0 [(0, .inl x0), (1, .inl x1), (2, .inl x2)] [] h k := by
  intro h k w
  unfold fC_J11_newLength at w
  refine jr_iload_n (pc := 0) F (j := 0) dJ11_newLength_0 rfl ?_
  refine jr_iload_n (pc := 1) F (j := 1) dJ11_newLength_1 rfl ?_
  refine jr_iload_n (pc := 2) F (j := 2) dJ11_newLength_2 rfl ?_
  obtain ⟨hx9, hy9, w⟩ := w
  refine jr_mmax (pc := 3) F M hx9 hy9 q318 (Nat.le_of_ble_eq_true rfl) (Nat.le_of_ble_eq_true rfl) (Nat.le_of_ble_eq_true rfl) dJ11_newLength_3 ?_
  refine jr_iadd (pc := 6) F dJ11_newLength_6 ?_
  have w := w _ rfl
  refine jr_istore_n (pc := 7) F (vs' := [(3, .inl _), (0, .inl _), (1, .inl _), (2, .inl _)]) dJ11_newLength_7 (Nat.le_of_ble_eq_true rfl) rfl ?_
  refine jr_iconst (pc := 8) F dJ11_newLength_8 ?_
  refine jr_iload_n (pc := 9) F (j := 0) dJ11_newLength_9 rfl ?_
  obtain ⟨hy9, w1, w2⟩ := w
  refine jr_icmp_ge (pc := 10) (tgt := 21) F ⟨by decide, by decide⟩ hy9 dJ11_newLength_10 rfl (fun c9 => ?_) (fun c9 => ?_)
  · have w := w1 c9
    refine jj_J.sub [1, 2] rfl ?_
    exact sC_J11_newLength_j21 F M O J hi hQ hE _ _ _ _ w
  · have w := w2 c9
    refine jr_iload_n (pc := 13) F (j := 0) dJ11_newLength_13 rfl ?_
    refine jr_ldc (pc := 14) F (x := 2147483639) q321 dJ11_newLength_14 (by decide +kernel) ?_
    obtain ⟨hx9, w1, w2⟩ := w
    refine jr_icmp_gt (pc := 16) (tgt := 21) F hx9 ⟨by decide, by decide⟩ dJ11_newLength_16 rfl (fun c9 => ?_) (fun c9 => ?_)
    · have w := w1 c9
      refine jj_J.sub [1, 2] rfl ?_
      exact sC_J11_newLength_j21 F M O J hi hQ hE _ _ _ _ w
    · have w := w2 c9
      refine jr_iload_n (pc := 19) F (j := 0) dJ11_newLength_19 rfl ?_
      exact jr_iret (pc := 20) F M dJ11_newLength_20 (hQ _ _ w)

theorem cC_J11_newLength {G : jj_G} {l : Launch} (J : jx_G G l) {x0 : Int} {x1 : Int} {x2 : Int} {Q : Int → jj_H → Prop} {E : String → Nat → jj_H → Prop} {h : jj_H} {k : Nat} (w : fC_J11_newLength (jj_gk G) x0 x1 x2 Q E h k) : jj_Ct G l yJ11_newLength (ws_ yJ11_newLength cJ11_newLength 4 (some (.int))) 1 22 [.inl x0, .inl x1, .inl x2] h k (jc_i Q) E := by
  refine jj_Ct.of J.1 (by decide +kernel) (Nat.le_of_ble_eq_true rfl) rfl (fun X hG hl F M O hnm => ?_)
  subst hG; subst hl
  exact sC_J11_newLength F M O J hnm (fun r h q => ⟨r, rfl, q⟩) (fun _ _ _ q => q) _ _ _ _ _ w
theorem hC_J11_newLength : yJ11_newLength.cls = RJ11 ∧ yJ11_newLength.cls ≠ "java/lang/invoke/MethodHandle" ∧ yJ11_newLength.cls ≠ "java/lang/invoke/VarHandle" ∧ (parseMethodDescriptor yJ11_newLength.desc).map (fun d => d.parameters.length) = some 3 := by decide +kernel
/-! J13_copyOf_3([Ljava/lang/Object;ILjava/lang/Class;)[Ljava/lang/Object; -/
def fC_J13_copyOf_3 (gk : Nat → Nat) (x0 : Option Nat) (x1 : Int) (x2 : Option Nat) (Q : Option Nat → jj_H → Prop) (E : String → Nat → jj_H → Prop) (h : jj_H) (k : Nat) : Prop :=
  (¬ x2 = (some (gk 40)) → (
    False)) ∧
  (x2 = (some (gk 40)) → (
    jp_nr h k 0 x1 (fun a1 h2 k3 =>
    jp_ar h2 x0 0 (fun g4 =>
    jj_r g4 ∧ jj_r x1 ∧
    jp_acR h2 x0 0 (some a1) 0 (min g4 x1) (fun h5 =>
    Q (some a1) h5)))))
theorem sC_J13_copyOf_3 {X : jj_X} {N : Option jj_AV → jj_H → Prop} {XN : String → Nat → jj_H → Prop} (F : jj_F X RJ13 cJ13_copyOf_3 4) (M : jj_M X (some ((.array (.object "java/lang/Object")))) 1 60 N XN) (O : jj_no X) (J : jx_G X.1 X.2.2.1) (hi : X.2.2.2.2.2.2.2.2.2.1.name = yJ13_copyOf_3.name) {Q : Option Nat → jj_H → Prop} {E : String → Nat → jj_H → Prop} (hQ : ∀ r h, Q r h → N (some (.inr (.inr (.inl r)))) h) (hE : ∀ e q h, E e q h → XN e q h) (x0 : Option Nat) (x1 : Int) (x2 : Option Nat) : ∀ (h : jj_H) (k : Nat), fC_J13_copyOf_3 (jj_gk X.1) x0 x1 x2 Q E h k → jj_J X 4 0 [(0, .inr (.inr (.inl x0))), (1, .inl x1), (2, .inr (.inr (.inl x2)))] [] h k := by
  intro h k w
  unfold fC_J13_copyOf_3 at w
  refine jr_aload_n (pc := 0) F (j := 2) dJ13_copyOf_3_0 rfl ?_
  refine jr_ldcCls (pc := 1) F J q889 dJ13_copyOf_3_1 ?_
  obtain ⟨w1, w2⟩ := w
  refine jr_acmp_ne (pc := 3) (tgt := 13) F dJ13_copyOf_3_3 rfl (fun c9 => ?_) (fun c9 => ?_)
  · have w := w1 c9
    refine jr_aload_n (pc := 13) F (j := 2) dJ13_copyOf_3_13 rfl ?_
    exact (show False from w).elim
  · have w := w2 c9
    refine jr_iload_n (pc := 6) F (j := 1) dJ13_copyOf_3_6 rfl ?_
    refine jr_newR (pc := 7) F (fun _ => rfl) q890 (jx_ao0 J) dJ13_copyOf_3_7 w (fun a1 h2 k3 w => ?_)
    refine jr_goto (pc := 10) (tgt := 24) F dJ13_copyOf_3_10 rfl ?_
    refine jr_astore_n (pc := 24) F (vs' := [(3, .inr (.inr (.inl _))), (0, .inr (.inr (.inl _))), (1, .inl _), (2, .inr (.inr (.inl _)))]) dJ13_copyOf_3_24 (Nat.le_of_ble_eq_true rfl) rfl ?_
    refine jr_aload_n (pc := 25) F (j := 1) dJ13_copyOf_3_25 rfl ?_
    refine jr_iconst (pc := 26) F dJ13_copyOf_3_26 ?_
    refine jr_aload_n (pc := 27) F (j := 0) dJ13_copyOf_3_27 rfl ?_
    refine jr_iconst (pc := 28) F dJ13_copyOf_3_28 ?_
    refine jr_aload_n (pc := 29) F (j := 1) dJ13_copyOf_3_29 rfl ?_
    refine jr_alenR (pc := 30) F ⟨4, _, fun _ => rfl⟩ dJ13_copyOf_3_30 w (fun g4 w => ?_)
    refine jr_iload_n (pc := 31) F (j := 2) dJ13_copyOf_3_31 rfl ?_
    obtain ⟨hx9, hy9, w⟩ := w
    refine jr_mmin (pc := 32) F M hx9 hy9 q336 (Nat.le_of_ble_eq_true rfl) (Nat.le_of_ble_eq_true rfl) (Nat.le_of_ble_eq_true rfl) dJ13_copyOf_3_32 ?_
    refine jr_acR (pc := 35) F M q339 q341 q340 q136 (Nat.le_of_ble_eq_true rfl) (Nat.le_of_ble_eq_true rfl) (Nat.le_of_ble_eq_true rfl) dJ13_copyOf_3_35 w (fun h5 w => ?_)
    refine jr_aload_n (pc := 38) F (j := 0) dJ13_copyOf_3_38 rfl ?_
    exact jr_aret (pc := 39) F M (Or.inr ⟨_, rfl⟩) dJ13_copyOf_3_39 (hQ _ _ w)

theorem cC_J13_copyOf_3 {G : jj_G} {l : Launch} (J : jx_G G l) {x0 : Option Nat} {x1 : Int} {x2 : Option Nat} {Q : Option Nat → jj_H → Prop} {E : String → Nat → jj_H → Prop} {h : jj_H} {k : Nat} (w : fC_J13_copyOf_3 (jj_gk G) x0 x1 x2 Q E h k) : jj_Ct G l yJ13_copyOf_3 (ws_ yJ13_copyOf_3 cJ13_copyOf_3 4 (some ((.array (.object "java/lang/Object"))))) 1 60 [.inr (.inr (.inl x0)), .inl x1, .inr (.inr (.inl x2))] h k (jc_r Q) E := by
  refine jj_Ct.of J.1 (by decide +kernel) (Nat.le_of_ble_eq_true rfl) rfl (fun X hG hl F M O hnm => ?_)
  subst hG; subst hl
  exact sC_J13_copyOf_3 F M O J hnm (fun r h q => ⟨r, rfl, q⟩) (fun _ _ _ q => q) _ _ _ _ _ w
theorem hC_J13_copyOf_3 : yJ13_copyOf_3.cls = RJ13 ∧ yJ13_copyOf_3.cls ≠ "java/lang/invoke/MethodHandle" ∧ yJ13_copyOf_3.cls ≠ "java/lang/invoke/VarHandle" ∧ (parseMethodDescriptor yJ13_copyOf_3.desc).map (fun d => d.parameters.length) = some 3 := by decide +kernel
/-! J13_copyOf_2([Ljava/lang/Object;I)[Ljava/lang/Object; -/
def fC_J13_copyOf_2 (gk : Nat → Nat) (x0 : Option Nat) (x1 : Int) (Q : Option Nat → jj_H → Prop) (E : String → Nat → jj_H → Prop) (h : jj_H) (k : Nat) : Prop :=
  jp_rA h x0 ∧
  ∃ c1, c1 ≤ k ∧ fC_J13_copyOf_3 gk x0 x1 (some (gk 40)) (fun r2 h3 =>
  Q r2 h3) E h c1
theorem sC_J13_copyOf_2 {X : jj_X} {N : Option jj_AV → jj_H → Prop} {XN : String → Nat → jj_H → Prop} (F : jj_F X RJ13 cJ13_copyOf_2 2) (M : jj_M X (some ((.array (.object "java/lang/Object")))) 2 83 N XN) (O : jj_no X) (J : jx_G X.1 X.2.2.1) (hi : X.2.2.2.2.2.2.2.2.2.1.name = yJ13_copyOf_2.name) {Q : Option Nat → jj_H → Prop} {E : String → Nat → jj_H → Prop} (hQ : ∀ r h, Q r h → N (some (.inr (.inr (.inl r)))) h) (hE : ∀ e q h, E e q h → XN e q h) (x0 : Option Nat) (x1 : Int) : ∀ (h : jj_H) (k : Nat), fC_J13_copyOf_2 (jj_gk X.1) x0 x1 Q E h k → jj_J X 2 0 [(0, .inr (.inr (.inl x0))), (1, .inl x1)] [] h k := by
  intro h k w
  unfold fC_J13_copyOf_2 at w
  refine jr_aload_n (pc := 0) F (j := 0) dJ13_copyOf_2_0 rfl ?_
  refine jr_iload_n (pc := 1) F (j := 1) dJ13_copyOf_2_1 rfl ?_
  refine jr_aload_n (pc := 2) F (j := 0) dJ13_copyOf_2_2 rfl ?_
  obtain ⟨hi9, w⟩ := w
  refine jr_getCls (pc := 3) F M J q841 q3834 q842 q885 (Nat.le_of_ble_eq_true rfl) (Nat.le_of_ble_eq_true rfl) (Nat.le_of_ble_eq_true rfl) dJ13_copyOf_2_3 hi9 ?_
  obtain ⟨c1, hk9, w⟩ := w
  refine jr_callS (pc := 6) (As := [_, _, _]) F M (lw_S q886 q887 q135 q888) dJ13_copyOf_2_6 hC_J13_copyOf_3.2 rfl (Nat.le_of_ble_eq_true rfl) (Nat.le_of_ble_eq_true rfl) (Nat.le_of_ble_eq_true rfl) hk9 (cC_J13_copyOf_3 J w) (fun v9 h3 q9 => ?_) (fun E9 q9 h9 w9 => jr_out F M O (hE _ _ _ w9))
  obtain ⟨r2, rfl, w⟩ := q9
  exact jr_aret (pc := 9) F M (Or.inr ⟨_, rfl⟩) dJ13_copyOf_2_9 (hQ _ _ w)

theorem cC_J13_copyOf_2 {G : jj_G} {l : Launch} (J : jx_G G l) {x0 : Option Nat} {x1 : Int} {Q : Option Nat → jj_H → Prop} {E : String → Nat → jj_H → Prop} {h : jj_H} {k : Nat} (w : fC_J13_copyOf_2 (jj_gk G) x0 x1 Q E h k) : jj_Ct G l yJ13_copyOf_2 (ws_ yJ13_copyOf_2 cJ13_copyOf_2 2 (some ((.array (.object "java/lang/Object"))))) 2 83 [.inr (.inr (.inl x0)), .inl x1] h k (jc_r Q) E := by
  refine jj_Ct.of J.1 (by decide +kernel) (Nat.le_of_ble_eq_true rfl) rfl (fun X hG hl F M O hnm => ?_)
  subst hG; subst hl
  exact sC_J13_copyOf_2 F M O J hnm (fun r h q => ⟨r, rfl, q⟩) (fun _ _ _ q => q) _ _ _ _ w
theorem hC_J13_copyOf_2 : yJ13_copyOf_2.cls = RJ13 ∧ yJ13_copyOf_2.cls ≠ "java/lang/invoke/MethodHandle" ∧ yJ13_copyOf_2.cls ≠ "java/lang/invoke/VarHandle" ∧ (parseMethodDescriptor yJ13_copyOf_2.desc).map (fun d => d.parameters.length) = some 2 := by decide +kernel
/-! J14_checkIndex(IILjava/util/function/BiFunction;)I -/
def fC_J14_checkIndex (gk : Nat → Nat) (x0 : Int) (x1 : Int) (x2 : Option Nat) (Q : Int → jj_H → Prop) (E : String → Nat → jj_H → Prop) (h : jj_H) (k : Nat) : Prop :=
  jj_r x0 ∧ (x0 < 0 → (
    False)) ∧
  (¬ x0 < 0 → (
    jj_r x0 ∧ jj_r x1 ∧ (x0 < x1 → (
      Q x0 h)) ∧
    (¬ x0 < x1 → (
      False))))
theorem sC_J14_checkIndex {X : jj_X} {N : Option jj_AV → jj_H → Prop} {XN : String → Nat → jj_H → Prop} (F : jj_F X RJ14 cJ14_checkIndex 3) (M : jj_M X (some (.int)) 0 0 N XN) (O : jj_no X) (J : jx_G X.1 X.2.2.1) (hi : X.2.2.2.2.2.2.2.2.2.1.name = yJ14_checkIndex.name) {Q : Int → jj_H → Prop} {E : String → Nat → jj_H → Prop} (hQ : ∀ r h, Q r h → N (some (.inl r)) h) (hE : ∀ e q h, E e q h → XN e q h) (x0 : Int) (x1 : Int) (x2 : Option Nat) : ∀ (h : jj_H) (k : Nat), fC_J14_checkIndex (jj_gk X.1) x0 x1 x2 Q E h k → jj_J X 3 0 [(0, .inl x0), (1, .inl x1), (2, .inr (.inr (.inl x2)))] [] h k := by
  intro h k w
  unfold fC_J14_checkIndex at w
  refine jr_iload_n (pc := 0) F (j := 0) dJ14_checkIndex_0 rfl ?_
  obtain ⟨hx9, w1, w2⟩ := w
  refine jr_if_lt (pc := 1) (tgt := 9) F hx9 dJ14_checkIndex_1 rfl (fun c9 => ?_) (fun c9 => ?_)
  · have w := w1 c9
    refine jr_aload_n (pc := 9) F (j := 2) dJ14_checkIndex_9 rfl ?_
    refine jr_iload_n (pc := 10) F (j := 0) dJ14_checkIndex_10 rfl ?_
    refine jr_iload_n (pc := 11) F (j := 1) dJ14_checkIndex_11 rfl ?_
    exact (show False from w).elim
  · have w := w2 c9
    refine jr_iload_n (pc := 4) F (j := 0) dJ14_checkIndex_4 rfl ?_
    refine jr_iload_n (pc := 5) F (j := 1) dJ14_checkIndex_5 rfl ?_
    obtain ⟨hx9, hy9, w1, w2⟩ := w
    refine jr_icmp_lt (pc := 6) (tgt := 16) F hx9 hy9 dJ14_checkIndex_6 rfl (fun c9 => ?_) (fun c9 => ?_)
    · have w := w1 c9
      refine jr_iload_n (pc := 16) F (j := 0) dJ14_checkIndex_16 rfl ?_
      exact jr_iret (pc := 17) F M dJ14_checkIndex_17 (hQ _ _ w)
    · have w := w2 c9
      refine jr_aload_n (pc := 9) F (j := 2) dJ14_checkIndex_9 rfl ?_
      refine jr_iload_n (pc := 10) F (j := 0) dJ14_checkIndex_10 rfl ?_
      refine jr_iload_n (pc := 11) F (j := 1) dJ14_checkIndex_11 rfl ?_
      exact (show False from w).elim

theorem cC_J14_checkIndex {G : jj_G} {l : Launch} (J : jx_G G l) {x0 : Int} {x1 : Int} {x2 : Option Nat} {Q : Int → jj_H → Prop} {E : String → Nat → jj_H → Prop} {h : jj_H} {k : Nat} (w : fC_J14_checkIndex (jj_gk G) x0 x1 x2 Q E h k) : jj_Ct G l yJ14_checkIndex (ws_ yJ14_checkIndex cJ14_checkIndex 3 (some (.int))) 0 0 [.inl x0, .inl x1, .inr (.inr (.inl x2))] h k (jc_i Q) E := by
  refine jj_Ct.of J.1 (by decide +kernel) (Nat.le_of_ble_eq_true rfl) rfl (fun X hG hl F M O hnm => ?_)
  subst hG; subst hl
  exact sC_J14_checkIndex F M O J hnm (fun r h q => ⟨r, rfl, q⟩) (fun _ _ _ q => q) _ _ _ _ _ w
theorem hC_J14_checkIndex : yJ14_checkIndex.cls = RJ14 ∧ yJ14_checkIndex.cls ≠ "java/lang/invoke/MethodHandle" ∧ yJ14_checkIndex.cls ≠ "java/lang/invoke/VarHandle" ∧ (parseMethodDescriptor yJ14_checkIndex.desc).map (fun d => d.parameters.length) = some 3 := by decide +kernel
/-! J2_grow_2(I)[Ljava/lang/Object; -/
def fC_J2_grow_2 (gk : Nat → Nat) (x0 : Option Nat) (x1 : Int) (Q : Option Nat → jj_H → Prop) (E : String → Nat → jj_H → Prop) (h : jj_H) (k : Nat) : Prop :=
  jp_gr h x0 14 1 (fun g1 =>
  jp_ar h g1 0 (fun g2 =>
  jj_r g2 ∧ (0 < g2 → (
    fC_J11_newLength gk g2 (x1 - g2) (jj_shr g2 1) (fun r4 h5 =>
    jp_gr h5 x0 14 1 (fun g6 =>
    ∃ c7, c7 ≤ k ∧ fC_J13_copyOf_2 gk g6 r4 (fun r8 h9 =>
    jp_pr h9 x0 14 1 r8 (fun h10 =>
    Q r8 h10)) E h5 c7)) E h 0)) ∧
  (¬ 0 < g2 → (
    jp_gr h x0 14 1 (fun g11 =>
    False)))))
theorem sC_J2_grow_2 {X : jj_X} {N : Option jj_AV → jj_H → Prop} {XN : String → Nat → jj_H → Prop} (F : jj_F X RJ2 cJ2_grow_2 4) (M : jj_M X (some ((.array (.object "java/lang/Object")))) 3 104 N XN) (O : jj_no X) (J : jx_G X.1 X.2.2.1) (hi : X.2.2.2.2.2.2.2.2.2.1.name = yJ2_grow_2.name) {Q : Option Nat → jj_H → Prop} {E : String → Nat → jj_H → Prop} (hQ : ∀ r h, Q r h → N (some (.inr (.inr (.inl r)))) h) (hE : ∀ e q h, E e q h → XN e q h) (x0 : Option Nat) (x1 : Int) : ∀ (h : jj_H) (k : Nat), fC_J2_grow_2 (jj_gk X.1) x0 x1 Q E h k → jj_J X 4 0 [(0, .inr (.inr (.inl x0))), (1, .inl x1)] [] h k := by
  intro h k w
  unfold fC_J2_grow_2 at w
  refine jr_aload_n (pc := 0) F (j := 0) dJ2_grow_2_0 rfl ?_
  refine jr_gr (pc := 1) (ci := 14) (f := 1) F rfl in_J2 (Nat.le_of_ble_eq_true rfl) q536 dJ2_grow_2_1 w (fun g1 w => ?_)
  refine jr_alenR (pc := 4) F ⟨4, _, fun _ => rfl⟩ dJ2_grow_2_4 w (fun g2 w => ?_)
  refine jr_istore_n (pc := 5) F (vs' := [(2, .inl _), (0, .inr (.inr (.inl _))), (1, .inl _)]) dJ2_grow_2_5 (Nat.le_of_ble_eq_true rfl) rfl ?_
  refine jr_iload_n (pc := 6) F (j := 0) dJ2_grow_2_6 rfl ?_
  obtain ⟨hx9, w1, w2⟩ := w
  refine jr_if_gt (pc := 7) (tgt := 20) F hx9 dJ2_grow_2_7 rfl (fun c9 => ?_) (fun c9 => ?_)
  · have w := w1 c9
    refine jr_iload_n (pc := 20) F (j := 0) dJ2_grow_2_20 rfl ?_
    refine jr_iload_n (pc := 21) F (j := 2) dJ2_grow_2_21 rfl ?_
    refine jr_iload_n (pc := 22) F (j := 0) dJ2_grow_2_22 rfl ?_
    refine jr_isub (pc := 23) F dJ2_grow_2_23 ?_
    refine jr_iload_n (pc := 24) F (j := 0) dJ2_grow_2_24 rfl ?_
    refine jr_iconst (pc := 25) F dJ2_grow_2_25 ?_
    refine jr_ishr (pc := 26) F dJ2_grow_2_26 ?_
    refine jr_callS (pc := 27) (As := [_, _, _]) F M (lw_S q837 q316 q133 q317) dJ2_grow_2_27 hC_J11_newLength.2 rfl (Nat.le_of_ble_eq_true rfl) (Nat.le_of_ble_eq_true rfl) (Nat.le_of_ble_eq_true rfl) (Nat.zero_le _) (cC_J11_newLength J w) (fun v9 h5 q9 => ?_) (fun E9 q9 h9 w9 => jr_out F M O (hE _ _ _ w9))
    obtain ⟨r4, rfl, w⟩ := q9
    refine jr_istore_n (pc := 30) F (vs' := [(3, .inl _), (2, .inl _), (0, .inr (.inr (.inl _))), (1, .inl _)]) dJ2_grow_2_30 (Nat.le_of_ble_eq_true rfl) rfl ?_
    refine jr_aload_n (pc := 31) F (j := 2) dJ2_grow_2_31 rfl ?_
    refine jr_aload_n (pc := 32) F (j := 2) dJ2_grow_2_32 rfl ?_
    refine jr_gr (pc := 33) (ci := 14) (f := 1) F rfl in_J2 (Nat.le_of_ble_eq_true rfl) q536 dJ2_grow_2_33 w (fun g6 w => ?_)
    refine jr_iload_n (pc := 36) F (j := 0) dJ2_grow_2_36 rfl ?_
    obtain ⟨c7, hk9, w⟩ := w
    refine jr_callS (pc := 37) (As := [_, _]) F M (lw_S q838 q839 q135 q840) dJ2_grow_2_37 hC_J13_copyOf_2.2 rfl (Nat.le_of_ble_eq_true rfl) (Nat.le_of_ble_eq_true rfl) (Nat.le_of_ble_eq_true rfl) hk9 (cC_J13_copyOf_2 J w) (fun v9 h9 q9 => ?_) (fun E9 q9 h9 w9 => jr_out F M O (hE _ _ _ w9))
    obtain ⟨r8, rfl, w⟩ := q9
    refine jr_dup_x1 (pc := 40) F dJ2_grow_2_40 rfl rfl ?_
    refine jr_pr (pc := 41) (ci := 14) (f := 1) F rfl in_J2 tyJ2_ok nmJ2 (Nat.le_of_ble_eq_true rfl) rfl rfl q536 dJ2_grow_2_41 w (fun h10 w => ?_)
    exact jr_aret (pc := 44) F M (Or.inr ⟨_, rfl⟩) dJ2_grow_2_44 (hQ _ _ w)
  · have w := w2 c9
    refine jr_aload_n (pc := 10) F (j := 1) dJ2_grow_2_10 rfl ?_
    refine jr_gr (pc := 11) (ci := 14) (f := 1) F rfl in_J2 (Nat.le_of_ble_eq_true rfl) q536 dJ2_grow_2_11 w (fun g11 w => ?_)
    exact (show False from w).elim

theorem cC_J2_grow_2 {G : jj_G} {l : Launch} (J : jx_G G l) {x0 : Option Nat} {x1 : Int} {Q : Option Nat → jj_H → Prop} {E : String → Nat → jj_H → Prop} {h : jj_H} {k : Nat} (w : fC_J2_grow_2 (jj_gk G) x0 x1 Q E h k) : jj_Ct G l yJ2_grow_2 (ws_ yJ2_grow_2 cJ2_grow_2 4 (some ((.array (.object "java/lang/Object"))))) 3 104 [.inr (.inr (.inl x0)), .inl x1] h k (jc_r Q) E := by
  refine jj_Ct.of J.1 (by decide +kernel) (Nat.le_of_ble_eq_true rfl) rfl (fun X hG hl F M O hnm => ?_)
  subst hG; subst hl
  exact sC_J2_grow_2 F M O J hnm (fun r h q => ⟨r, rfl, q⟩) (fun _ _ _ q => q) _ _ _ _ w
theorem hC_J2_grow_2 : yJ2_grow_2.cls = RJ2 ∧ yJ2_grow_2.cls ≠ "java/lang/invoke/MethodHandle" ∧ yJ2_grow_2.cls ≠ "java/lang/invoke/VarHandle" ∧ (parseMethodDescriptor yJ2_grow_2.desc).map (fun d => d.parameters.length) = some 1 := by decide +kernel
/-! J2_grow()[Ljava/lang/Object; -/
def fC_J2_grow (gk : Nat → Nat) (x0 : Option Nat) (Q : Option Nat → jj_H → Prop) (E : String → Nat → jj_H → Prop) (h : jj_H) (k : Nat) : Prop :=
  jp_gi h x0 14 2 (fun g1 =>
  jp_is h x0 14 ∧ ∃ c2, c2 ≤ k ∧ fC_J2_grow_2 gk x0 (g1 + 1) (fun r3 h4 =>
  Q r3 h4) E h c2)
theorem sC_J2_grow {X : jj_X} {N : Option jj_AV → jj_H → Prop} {XN : String → Nat → jj_H → Prop} (F : jj_F X RJ2 cJ2_grow 1) (M : jj_M X (some ((.array (.object "java/lang/Object")))) 4 127 N XN) (O : jj_no X) (J : jx_G X.1 X.2.2.1) (hi : X.2.2.2.2.2.2.2.2.2.1.name = yJ2_grow.name) {Q : Option Nat → jj_H → Prop} {E : String → Nat → jj_H → Prop} (hQ : ∀ r h, Q r h → N (some (.inr (.inr (.inl r)))) h) (hE : ∀ e q h, E e q h → XN e q h) (x0 : Option Nat) : ∀ (h : jj_H) (k : Nat), fC_J2_grow (jj_gk X.1) x0 Q E h k → jj_J X 1 0 [(0, .inr (.inr (.inl x0)))] [] h k := by
  intro h k w
  unfold fC_J2_grow at w
  refine jr_aload_n (pc := 0) F (j := 0) dJ2_grow_0 rfl ?_
  refine jr_aload_n (pc := 1) F (j := 0) dJ2_grow_1 rfl ?_
  refine jr_gi (pc := 2) (ci := 14) (f := 2) F rfl in_J2 (Nat.le_of_ble_eq_true rfl) q539 dJ2_grow_2 w (fun g1 w => ?_)
  refine jr_iconst (pc := 5) F dJ2_grow_5 ?_
  refine jr_iadd (pc := 6) F dJ2_grow_6 ?_
  obtain ⟨hi9, c2, hk9, w⟩ := w
  refine jr_cV (pc := 7) (As := [_]) (ci := 14) F M (lw_V q831 q833 qs8 q124 q834) dJ2_grow_7 hC_J2_grow_2 rfl (Nat.le_of_ble_eq_true rfl) (Nat.le_of_ble_eq_true rfl) (Nat.le_of_ble_eq_true rfl) rfl hi9 hk9 (cC_J2_grow_2 J w) (fun v9 h4 q9 => ?_) (fun E9 q9 h9 w9 => jr_out F M O (hE _ _ _ w9))
  obtain ⟨r3, rfl, w⟩ := q9
  exact jr_aret (pc := 10) F M (Or.inr ⟨_, rfl⟩) dJ2_grow_10 (hQ _ _ w)

theorem cC_J2_grow {G : jj_G} {l : Launch} (J : jx_G G l) {x0 : Option Nat} {Q : Option Nat → jj_H → Prop} {E : String → Nat → jj_H → Prop} {h : jj_H} {k : Nat} (w : fC_J2_grow (jj_gk G) x0 Q E h k) : jj_Ct G l yJ2_grow (ws_ yJ2_grow cJ2_grow 1 (some ((.array (.object "java/lang/Object"))))) 4 127 [.inr (.inr (.inl x0))] h k (jc_r Q) E := by
  refine jj_Ct.of J.1 (by decide +kernel) (Nat.le_of_ble_eq_true rfl) rfl (fun X hG hl F M O hnm => ?_)
  subst hG; subst hl
  exact sC_J2_grow F M O J hnm (fun r h q => ⟨r, rfl, q⟩) (fun _ _ _ q => q) _ _ _ w
theorem hC_J2_grow : yJ2_grow.cls = RJ2 ∧ yJ2_grow.cls ≠ "java/lang/invoke/MethodHandle" ∧ yJ2_grow.cls ≠ "java/lang/invoke/VarHandle" ∧ (parseMethodDescriptor yJ2_grow.desc).map (fun d => d.parameters.length) = some 0 := by decide +kernel
/-! J2_add_2(Ljava/lang/Object;[Ljava/lang/Object;I)V -/
def fC_J2_add_2_j11 (gk : Nat → Nat) (x0 : Option Nat) (x1 : Option Nat) (x2 : Option Nat) (x3 : Int) (Q : jj_H → Prop) (E : String → Nat → jj_H → Prop) (h : jj_H) (k : Nat) : Prop :=
  jp_ro h x2 x3 x1 (fun h1 =>
  jp_pi h1 x0 14 2 (x3 + 1) (fun h2 =>
  Q h2))
def fC_J2_add_2 (gk : Nat → Nat) (x0 : Option Nat) (x1 : Option Nat) (x2 : Option Nat) (x3 : Int) (Q : jj_H → Prop) (E : String → Nat → jj_H → Prop) (h : jj_H) (k : Nat) : Prop :=
  jp_ar h x2 0 (fun g3 =>
  jj_r x3 ∧ jj_r g3 ∧ (¬ x3 = g3 → (
    fC_J2_add_2_j11 gk x0 x1 x2 x3 Q E h k)) ∧
  (x3 = g3 → (
    jp_is h x0 14 ∧ ∃ c4, c4 ≤ k ∧ fC_J2_grow gk x0 (fun r5 h6 =>
    fC_J2_add_2_j11 gk x0 x1 r5 x3 Q E h6 (k - c4)) E h c4)))
theorem sC_J2_add_2_j11 {X : jj_X} {N : Option jj_AV → jj_H → Prop} {XN : String → Nat → jj_H → Prop} (F : jj_F X RJ2 cJ2_add_2 4) (M : jj_M X (none) 5 147 N XN) (O : jj_no X) (J : jx_G X.1 X.2.2.1) (hi : X.2.2.2.2.2.2.2.2.2.1.name = yJ2_add_2.name) {Q : jj_H → Prop} {E : String → Nat → jj_H → Prop} (hQ : ∀ h, Q h → N none h) (hE : ∀ e q h, E e q h → XN e q h) (x0 : Option Nat) (x1 : Option Nat) (x2 : Option Nat) (x3 : Int) : ∀ (h : jj_H) (k : Nat), fC_J2_add_2_j11 (jj_gk X.1) x0 x1 x2 x3 Q E h k → jj_J X 4 11 [(0, .inr (.inr (.inl x0))), (1, .inr (.inr (.inl x1))), (2, .inr (.inr (.inl x2))), (3, .inl x3)] [] h k := by
  intro h k w
  unfold fC_J2_add_2_j11 at w
  refine jr_aload_n (pc := 11) F (j := 2) dJ2_add_2_11 rfl ?_
  refine jr_iload_n (pc := 12) F (j := 3) dJ2_add_2_12 rfl ?_
  refine jr_aload_n (pc := 13) F (j := 1) dJ2_add_2_13 rfl ?_
  refine jr_aastO (pc := 14) F dJ2_add_2_14 w (fun h1 w => ?_)
  refine jr_aload_n (pc := 15) F (j := 0) dJ2_add_2_15 rfl ?_
  refine jr_iload_n (pc := 16) F (j := 3) dJ2_add_2_16 rfl ?_
  refine jr_iconst (pc := 17) F dJ2_add_2_17 ?_
  refine jr_iadd (pc := 18) F dJ2_add_2_18 ?_
  refine jr_pi (pc := 19) (ci := 14) (f := 2) F rfl in_J2 tyJ2_ok nmJ2 (Nat.le_of_ble_eq_true rfl) rfl rfl q539 dJ2_add_2_19 w (fun h2 w => ?_)
  exact jr_vret (pc := 22) F M dJ2_add_2_22 (hQ _ w)

theorem sC_J2_add_2 {X : jj_X} {N : Option jj_AV → jj_H → Prop} {XN : String → Nat → jj_H → Prop} (F : jj_F X RJ2 cJ2_add_2 4) (M : jj_M X (none) 5 147 N XN) (O : jj_no X) (J : jx_G X.1 X.2.2.1) (hi : X.2.2.2.2.2.2.2.2.2.1.name = yJ2_add_2.name) {Q : jj_H → Prop} {E : String → Nat → jj_H → Prop} (hQ : ∀ h, Q h → N none h) (hE : ∀ e q h, E e q h → XN e q h) (x0 : Option Nat) (x1 : Option Nat) (x2 : Option Nat) (x3 : Int) : ∀ (h : jj_H) (k : Nat), fC_J2_add_2 (jj_gk X.1) x0 x1 x2 x3 Q E h k → jj_J X 4 0 [(0, .inr (.inr (.inl x0))), (1, .inr (.inr (.inl x1))), (2, .inr (.inr (.inl x2))), (3, .inl x3)] [] h k := by
  intro h k w
  unfold fC_J2_add_2 at w
  refine jr_iload_n (pc := 0) F (j := 3) dJ2_add_2_0 rfl ?_
  refine jr_aload_n (pc := 1) F (j := 2) dJ2_add_2_1 rfl ?_
  refine jr_alenR (pc := 2) F ⟨4, _, fun _ => rfl⟩ dJ2_add_2_2 w (fun g3 w => ?_)
  obtain ⟨hx9, hy9, w1, w2⟩ := w
  refine jr_icmp_ne (pc := 3) (tgt := 11) F hx9 hy9 dJ2_add_2_3 rfl (fun c9 => ?_) (fun c9 => ?_)
  · have w := w1 c9
    exact sC_J2_add_2_j11 F M O J hi hQ hE _ _ _ _ _ _ w
  · have w := w2 c9
    refine jr_aload_n (pc := 6) F (j := 0) dJ2_add_2_6 rfl ?_
    obtain ⟨hi9, c4, hk9, w⟩ := w
    refine jr_cV (pc := 7) (As := []) (ci := 14) F M (lw_V q827 q829 qs7 q124 q830) dJ2_add_2_7 hC_J2_grow rfl (Nat.le_of_ble_eq_true rfl) (Nat.le_of_ble_eq_true rfl) (Nat.le_of_ble_eq_true rfl) rfl hi9 hk9 (cC_J2_grow J w) (fun v9 h6 q9 => ?_) (fun E9 q9 h9 w9 => jr_out F M O (hE _ _ _ w9))
    obtain ⟨r5, rfl, w⟩ := q9
    refine jr_astore_n (pc := 10) F (vs' := [(2, .inr (.inr (.inl _))), (0, .inr (.inr (.inl _))), (1, .inr (.inr (.inl _))), (3, .inl _)]) dJ2_add_2_10 (Nat.le_of_ble_eq_true rfl) rfl ?_
    refine jj_J.sub [1, 2, 0, 3] rfl ?_
    exact sC_J2_add_2_j11 F M O J hi hQ hE _ _ _ _ _ _ w

theorem cC_J2_add_2 {G : jj_G} {l : Launch} (J : jx_G G l) {x0 : Option Nat} {x1 : Option Nat} {x2 : Option Nat} {x3 : Int} {Q : jj_H → Prop} {E : String → Nat → jj_H → Prop} {h : jj_H} {k : Nat} (w : fC_J2_add_2 (jj_gk G) x0 x1 x2 x3 Q E h k) : jj_Ct G l yJ2_add_2 (ws_ yJ2_add_2 cJ2_add_2 4 (none)) 5 147 [.inr (.inr (.inl x0)), .inr (.inr (.inl x1)), .inr (.inr (.inl x2)), .inl x3] h k (jc_v Q) E := by
  refine jj_Ct.of J.1 (by decide +kernel) (Nat.le_of_ble_eq_true rfl) rfl (fun X hG hl F M O hnm => ?_)
  subst hG; subst hl
  exact sC_J2_add_2 F M O J hnm (fun h q => ⟨rfl, q⟩) (fun _ _ _ q => q) _ _ _ _ _ _ w
theorem hC_J2_add_2 : yJ2_add_2.cls = RJ2 ∧ yJ2_add_2.cls ≠ "java/lang/invoke/MethodHandle" ∧ yJ2_add_2.cls ≠ "java/lang/invoke/VarHandle" ∧ (parseMethodDescriptor yJ2_add_2.desc).map (fun d => d.parameters.length) = some 3 := by decide +kernel
/-! J2_add(Ljava/lang/Object;)Z -/
def fC_J2_add (gk : Nat → Nat) (x0 : Option Nat) (x1 : Option Nat) (Q : Int → jj_H → Prop) (E : String → Nat → jj_H → Prop) (h : jj_H) (k : Nat) : Prop :=
  jp_gi h x0 14 0 (fun g1 =>
  jp_pi h x0 14 0 (g1 + 1) (fun h2 =>
  jp_gr h2 x0 14 1 (fun g3 =>
  jp_gi h2 x0 14 2 (fun g4 =>
  jp_is h2 x0 14 ∧ ∃ c5, c5 ≤ k ∧ fC_J2_add_2 gk x0 x1 g3 g4 (fun h7 =>
  Q 1 h7) E h2 c5))))
theorem sC_J2_add {X : jj_X} {N : Option jj_AV → jj_H → Prop} {XN : String → Nat → jj_H → Prop} (F : jj_F X RJ2 cJ2_add 2) (M : jj_M X (some (.boolean)) 6 170 N XN) (O : jj_no X) (J : jx_G X.1 X.2.2.1) (hi : X.2.2.2.2.2.2.2.2.2.1.name = yJ2_add.name) {Q : Int → jj_H → Prop} {E : String → Nat → jj_H → Prop} (hQ : ∀ r h, Q r h → N (some (.inl r)) h) (hE : ∀ e q h, E e q h → XN e q h) (x0 : Option Nat) (x1 : Option Nat) : ∀ (h : jj_H) (k : Nat), fC_J2_add (jj_gk X.1) x0 x1 Q E h k → jj_J X 2 0 [(0, .inr (.inr (.inl x0))), (1, .inr (.inr (.inl x1)))] [] h k := by
  intro h k w
  unfold fC_J2_add at w
  refine jr_aload_n (pc := 0) F (j := 0) dJ2_add_0 rfl ?_
  refine jr_dup (pc := 1) F dJ2_add_1 rfl ?_
  refine jr_giR (pc := 2) (ci := 14) (f := 0) F rfl in_J2 (Nat.le_of_ble_eq_true rfl) q543 q542 dJ2_add_2 w (fun g1 w => ?_)
  refine jr_iconst (pc := 5) F dJ2_add_5 ?_
  refine jr_iadd (pc := 6) F dJ2_add_6 ?_
  refine jr_piR (pc := 7) (ci := 14) (f := 0) F rfl in_J2 tyJ2_ok nmJ2 (Nat.le_of_ble_eq_true rfl) rfl rfl q543 q542 dJ2_add_7 w (fun h2 w => ?_)
  refine jr_aload_n (pc := 10) F (j := 0) dJ2_add_10 rfl ?_
  refine jr_aload_n (pc := 11) F (j := 1) dJ2_add_11 rfl ?_
  refine jr_aload_n (pc := 12) F (j := 0) dJ2_add_12 rfl ?_
  refine jr_gr (pc := 13) (ci := 14) (f := 1) F rfl in_J2 (Nat.le_of_ble_eq_true rfl) q536 dJ2_add_13 w (fun g3 w => ?_)
  refine jr_aload_n (pc := 16) F (j := 0) dJ2_add_16 rfl ?_
  refine jr_gi (pc := 17) (ci := 14) (f := 2) F rfl in_J2 (Nat.le_of_ble_eq_true rfl) q539 dJ2_add_17 w (fun g4 w => ?_)
  obtain ⟨hi9, c5, hk9, w⟩ := w
  refine jr_cV (pc := 20) (As := [_, _, _]) (ci := 14) F M (lw_V q823 q825 qs6 q124 q826) dJ2_add_20 hC_J2_add_2 rfl (Nat.le_of_ble_eq_true rfl) (Nat.le_of_ble_eq_true rfl) (Nat.le_of_ble_eq_true rfl) rfl hi9 hk9 (cC_J2_add_2 J w) (fun v9 h7 q9 => ?_) (fun E9 q9 h9 w9 => jr_out F M O (hE _ _ _ w9))
  obtain ⟨rfl, w⟩ := q9
  refine jr_iconst (pc := 23) F dJ2_add_23 ?_
  exact jr_zret (pc := 24) F M dJ2_add_24 (by decide) (hQ _ _ w)

theorem cC_J2_add {G : jj_G} {l : Launch} (J : jx_G G l) {x0 : Option Nat} {x1 : Option Nat} {Q : Int → jj_H → Prop} {E : String → Nat → jj_H → Prop} {h : jj_H} {k : Nat} (w : fC_J2_add (jj_gk G) x0 x1 Q E h k) : jj_Ct G l yJ2_add (ws_ yJ2_add cJ2_add 2 (some (.boolean))) 6 170 [.inr (.inr (.inl x0)), .inr (.inr (.inl x1))] h k (jc_i Q) E := by
  refine jj_Ct.of J.1 (by decide +kernel) (Nat.le_of_ble_eq_true rfl) rfl (fun X hG hl F M O hnm => ?_)
  subst hG; subst hl
  exact sC_J2_add F M O J hnm (fun r h q => ⟨r, rfl, q⟩) (fun _ _ _ q => q) _ _ _ _ w
theorem hC_J2_add : yJ2_add.cls = RJ2 ∧ yJ2_add.cls ≠ "java/lang/invoke/MethodHandle" ∧ yJ2_add.cls ≠ "java/lang/invoke/VarHandle" ∧ (parseMethodDescriptor yJ2_add.desc).map (fun d => d.parameters.length) = some 1 := by decide +kernel
/-! J2_toArray()[Ljava/lang/Object; -/
def fC_J2_toArray (gk : Nat → Nat) (x0 : Option Nat) (Q : Option Nat → jj_H → Prop) (E : String → Nat → jj_H → Prop) (h : jj_H) (k : Nat) : Prop :=
  jp_gr h x0 14 1 (fun g1 =>
  jp_gi h x0 14 2 (fun g2 =>
  ∃ c3, c3 ≤ k ∧ fC_J13_copyOf_2 gk g1 g2 (fun r4 h5 =>
  Q r4 h5) E h c3))
theorem sC_J2_toArray {X : jj_X} {N : Option jj_AV → jj_H → Prop} {XN : String → Nat → jj_H → Prop} (F : jj_F X RJ2 cJ2_toArray 1) (M : jj_M X (some ((.array (.object "java/lang/Object")))) 3 104 N XN) (O : jj_no X) (J : jx_G X.1 X.2.2.1) (hi : X.2.2.2.2.2.2.2.2.2.1.name = yJ2_toArray.name) {Q : Option Nat → jj_H → Prop} {E : String → Nat → jj_H → Prop} (hQ : ∀ r h, Q r h → N (some (.inr (.inr (.inl r)))) h) (hE : ∀ e q h, E e q h → XN e q h) (x0 : Option Nat) : ∀ (h : jj_H) (k : Nat), fC_J2_toArray (jj_gk X.1) x0 Q E h k → jj_J X 1 0 [(0, .inr (.inr (.inl x0)))] [] h k := by
  intro h k w
  unfold fC_J2_toArray at w
  refine jr_aload_n (pc := 0) F (j := 0) dJ2_toArray_0 rfl ?_
  refine jr_gr (pc := 1) (ci := 14) (f := 1) F rfl in_J2 (Nat.le_of_ble_eq_true rfl) q536 dJ2_toArray_1 w (fun g1 w => ?_)
  refine jr_aload_n (pc := 4) F (j := 0) dJ2_toArray_4 rfl ?_
  refine jr_gi (pc := 5) (ci := 14) (f := 2) F rfl in_J2 (Nat.le_of_ble_eq_true rfl) q539 dJ2_toArray_5 w (fun g2 w => ?_)
  obtain ⟨c3, hk9, w⟩ := w
  refine jr_callS (pc := 8) (As := [_, _]) F M (lw_S q838 q839 q135 q840) dJ2_toArray_8 hC_J13_copyOf_2.2 rfl (Nat.le_of_ble_eq_true rfl) (Nat.le_of_ble_eq_true rfl) (Nat.le_of_ble_eq_true rfl) hk9 (cC_J13_copyOf_2 J w) (fun v9 h5 q9 => ?_) (fun E9 q9 h9 w9 => jr_out F M O (hE _ _ _ w9))
  obtain ⟨r4, rfl, w⟩ := q9
  exact jr_aret (pc := 11) F M (Or.inr ⟨_, rfl⟩) dJ2_toArray_11 (hQ _ _ w)

theorem cC_J2_toArray {G : jj_G} {l : Launch} (J : jx_G G l) {x0 : Option Nat} {Q : Option Nat → jj_H → Prop} {E : String → Nat → jj_H → Prop} {h : jj_H} {k : Nat} (w : fC_J2_toArray (jj_gk G) x0 Q E h k) : jj_Ct G l yJ2_toArray (ws_ yJ2_toArray cJ2_toArray 1 (some ((.array (.object "java/lang/Object"))))) 3 104 [.inr (.inr (.inl x0))] h k (jc_r Q) E := by
  refine jj_Ct.of J.1 (by decide +kernel) (Nat.le_of_ble_eq_true rfl) rfl (fun X hG hl F M O hnm => ?_)
  subst hG; subst hl
  exact sC_J2_toArray F M O J hnm (fun r h q => ⟨r, rfl, q⟩) (fun _ _ _ q => q) _ _ _ w
theorem hC_J2_toArray : yJ2_toArray.cls = RJ2 ∧ yJ2_toArray.cls ≠ "java/lang/invoke/MethodHandle" ∧ yJ2_toArray.cls ≠ "java/lang/invoke/VarHandle" ∧ (parseMethodDescriptor yJ2_toArray.desc).map (fun d => d.parameters.length) = some 0 := by decide +kernel
/-! J2_addAll(Ljava/util/Collection;)Z -/
def fC_J2_addAll_j56 (gk : Nat → Nat) (x0 : Option Nat) (x2 : Option Nat) (x3 : Int) (x4 : Option Nat) (x5 : Int) (Q : Int → jj_H → Prop) (E : String → Nat → jj_H → Prop) (h : jj_H) (k : Nat) : Prop :=
  jp_acR h x2 0 x4 x5 x3 (fun h1 =>
  jp_pi h1 x0 14 2 (x5 + x3) (fun h2 =>
  Q 1 h2))
def fC_J2_addAll (gk : Nat → Nat) (x0 : Option Nat) (x1 : Option Nat) (Q : Int → jj_H → Prop) (E : String → Nat → jj_H → Prop) (h : jj_H) (k : Nat) : Prop :=
  jp_is h x1 14 ∧ ∃ c3, c3 ≤ k ∧ fC_J2_toArray gk x1 (fun r4 h5 =>
  jp_gi h5 x0 14 0 (fun g6 =>
  jp_pi h5 x0 14 0 (g6 + 1) (fun h7 =>
  jp_ar h7 r4 0 (fun g8 =>
  jj_r g8 ∧ (¬ g8 = 0 → (
    jp_gr h7 x0 14 1 (fun g9 =>
    jp_ar h7 g9 0 (fun g10 =>
    jp_gi h7 x0 14 2 (fun g11 =>
    jj_r g8 ∧ jj_r (g10 - g11) ∧ (g8 ≤ (g10 - g11) → (
      fC_J2_addAll_j56 gk x0 r4 g8 g9 g11 Q E h7 (k - c3))) ∧
    (¬ g8 ≤ (g10 - g11) → (
      jp_is h7 x0 14 ∧ ∃ c12, c12 ≤ (k - c3) ∧ fC_J2_grow_2 gk x0 (g11 + g8) (fun r13 h14 =>
      fC_J2_addAll_j56 gk x0 r4 g8 r13 g11 Q E h14 ((k - c3) - c12)) E h7 c12))))))) ∧
  (g8 = 0 → (
    Q 0 h7)))))) E h c3
theorem sC_J2_addAll_j56 {X : jj_X} {N : Option jj_AV → jj_H → Prop} {XN : String → Nat → jj_H → Prop} (F : jj_F X RJ2 cJ2_addAll 6) (M : jj_M X (some (.boolean)) 4 127 N XN) (O : jj_no X) (J : jx_G X.1 X.2.2.1) (hi : X.2.2.2.2.2.2.2.2.2.1.name = yJ2_addAll.name) {Q : Int → jj_H → Prop} {E : String → Nat → jj_H → Prop} (hQ : ∀ r h, Q r h → N (some (.inl r)) h) (hE : ∀ e q h, E e q h → XN e q h) (x0 : Option Nat) (x2 : Option Nat) (x3 : Int) (x4 : Option Nat) (x5 : Int) : ∀ (h : jj_H) (k : Nat), fC_J2_addAll_j56 (jj_gk X.1) x0 x2 x3 x4 x5 Q E h k → jj_J X 6 56 [(0, .inr (.inr (.inl x0))), (2, .inr (.inr (.inl x2))), (3, .inl x3), (4, .inr (.inr (.inl x4))), (5, .inl x5)] [] h k := by
  intro h k w
  unfold fC_J2_addAll_j56 at w
  refine jr_aload_n (pc := 56) F (j := 1) dJ2_addAll_56 rfl ?_
  refine jr_iconst (pc := 57) F dJ2_addAll_57 ?_
  refine jr_aload (pc := 58) F (j := 3) dJ2_addAll_58 rfl ?_
  refine jr_iload (pc := 60) F (j := 4) dJ2_addAll_60 rfl ?_
  refine jr_iload_n (pc := 62) F (j := 2) dJ2_addAll_62 rfl ?_
  refine jr_acR (pc := 63) F M q1988 q341 q340 q136 (Nat.le_of_ble_eq_true rfl) (Nat.le_of_ble_eq_true rfl) (Nat.le_of_ble_eq_true rfl) dJ2_addAll_63 w (fun h1 w => ?_)
  refine jr_aload_n (pc := 66) F (j := 0) dJ2_addAll_66 rfl ?_
  refine jr_iload (pc := 67) F (j := 4) dJ2_addAll_67 rfl ?_
  refine jr_iload_n (pc := 69) F (j := 2) dJ2_addAll_69 rfl ?_
  refine jr_iadd (pc := 70) F dJ2_addAll_70 ?_
  refine jr_pi (pc := 71) (ci := 14) (f := 2) F rfl in_J2 tyJ2_ok nmJ2 (Nat.le_of_ble_eq_true rfl) rfl rfl q539 dJ2_addAll_71 w (fun h2 w => ?_)
  refine jr_iconst (pc := 74) F dJ2_addAll_74 ?_
  exact jr_zret (pc := 75) F M dJ2_addAll_75 (by decide) (hQ _ _ w)

theorem sC_J2_addAll {X : jj_X} {N : Option jj_AV → jj_H → Prop} {XN : String → Nat → jj_H → Prop} (F : jj_F X RJ2 cJ2_addAll 6) (M : jj_M X (some (.boolean)) 4 127 N XN) (O : jj_no X) (J : jx_G X.1 X.2.2.1) (hi : X.2.2.2.2.2.2.2.2.2.1.name = yJ2_addAll.name) {Q : Int → jj_H → Prop} {E : String → Nat → jj_H → Prop} (hQ : ∀ r h, Q r h → N (some (.inl r)) h) (hE : ∀ e q h, E e q h → XN e q h) (x0 : Option Nat) (x1 : Option Nat) : ∀ (h : jj_H) (k : Nat), fC_J2_addAll (jj_gk X.1) x0 x1 Q E h k → jj_J X 6 0 [(0, .inr (.inr (.inl x0))), (1, .inr (.inr (.inl x1)))] [] h k := by
  intro h k w
  unfold fC_J2_addAll at w
  refine jr_aload_n (pc := 0) F (j := 1) dJ2_addAll_0 rfl ?_
  obtain ⟨hi9, c3, hk9, w⟩ := w
  refine jr_cF (pc := 1) (As := []) (ci := 14) F M (gw_J2_toArray q1899) (jx_J2_toArray J) dJ2_addAll_1 (by decide +kernel) rfl (Nat.le_of_ble_eq_true rfl) (Nat.le_of_ble_eq_true rfl) (Nat.le_of_ble_eq_true rfl) rfl hi9 hk9 (cC_J2_toArray J w) (fun v9 h5 q9 => ?_) (fun E9 q9 h9 w9 => jr_out F M O (hE _ _ _ w9))
  obtain ⟨r4, rfl, w⟩ := q9
  refine jr_astore_n (pc := 6) F (vs' := [(2, .inr (.inr (.inl _))), (0, .inr (.inr (.inl _))), (1, .inr (.inr (.inl _)))]) dJ2_addAll_6 (Nat.le_of_ble_eq_true rfl) rfl ?_
  refine jr_aload_n (pc := 7) F (j := 1) dJ2_addAll_7 rfl ?_
  refine jr_dup (pc := 8) F dJ2_addAll_8 rfl ?_
  refine jr_giR (pc := 9) (ci := 14) (f := 0) F rfl in_J2 (Nat.le_of_ble_eq_true rfl) q543 q542 dJ2_addAll_9 w (fun g6 w => ?_)
  refine jr_iconst (pc := 12) F dJ2_addAll_12 ?_
  refine jr_iadd (pc := 13) F dJ2_addAll_13 ?_
  refine jr_piR (pc := 14) (ci := 14) (f := 0) F rfl in_J2 tyJ2_ok nmJ2 (Nat.le_of_ble_eq_true rfl) rfl rfl q543 q542 dJ2_addAll_14 w (fun h7 w => ?_)
  refine jr_aload_n (pc := 17) F (j := 0) dJ2_addAll_17 rfl ?_
  refine jr_alenR (pc := 18) F ⟨4, _, fun _ => rfl⟩ dJ2_addAll_18 w (fun g8 w => ?_)
  refine jr_istore_n (pc := 19) F (vs' := [(3, .inl _), (2, .inr (.inr (.inl _))), (0, .inr (.inr (.inl _))), (1, .inr (.inr (.inl _)))]) dJ2_addAll_19 (Nat.le_of_ble_eq_true rfl) rfl ?_
  refine jr_iload_n (pc := 20) F (j := 0) dJ2_addAll_20 rfl ?_
  obtain ⟨hx9, w1, w2⟩ := w
  refine jr_if_ne (pc := 21) (tgt := 26) F hx9 dJ2_addAll_21 rfl (fun c9 => ?_) (fun c9 => ?_)
  · have w := w1 c9
    refine jr_iload_n (pc := 26) F (j := 0) dJ2_addAll_26 rfl ?_
    refine jr_aload_n (pc := 27) F (j := 2) dJ2_addAll_27 rfl ?_
    refine jr_gr (pc := 28) (ci := 14) (f := 1) F rfl in_J2 (Nat.le_of_ble_eq_true rfl) q536 dJ2_addAll_28 w (fun g9 w => ?_)
    refine jr_dup (pc := 31) F dJ2_addAll_31 rfl ?_
    refine jr_astore (pc := 32) F (vs' := [(4, .inr (.inr (.inl _))), (3, .inl _), (2, .inr (.inr (.inl _))), (0, .inr (.inr (.inl _))), (1, .inr (.inr (.inl _)))]) dJ2_addAll_32 (Nat.le_of_ble_eq_true rfl) rfl ?_
    refine jr_alenR (pc := 34) F ⟨4, _, fun _ => rfl⟩ dJ2_addAll_34 w (fun g10 w => ?_)
    refine jr_aload_n (pc := 35) F (j := 3) dJ2_addAll_35 rfl ?_
    refine jr_gi (pc := 36) (ci := 14) (f := 2) F rfl in_J2 (Nat.le_of_ble_eq_true rfl) q539 dJ2_addAll_36 w (fun g11 w => ?_)
    refine jr_dup (pc := 39) F dJ2_addAll_39 rfl ?_
    refine jr_istore (pc := 40) F (vs' := [(5, .inl _), (4, .inr (.inr (.inl _))), (3, .inl _), (2, .inr (.inr (.inl _))), (0, .inr (.inr (.inl _))), (1, .inr (.inr (.inl _)))]) dJ2_addAll_40 (Nat.le_of_ble_eq_true rfl) rfl ?_
    refine jr_isub (pc := 42) F dJ2_addAll_42 ?_
    obtain ⟨hx9, hy9, w1, w2⟩ := w
    refine jr_icmp_le (pc := 43) (tgt := 56) F hx9 hy9 dJ2_addAll_43 rfl (fun c9 => ?_) (fun c9 => ?_)
    · have w := w1 c9
      refine jj_J.sub [4, 3, 2, 1, 0] rfl ?_
      exact sC_J2_addAll_j56 F M O J hi hQ hE _ _ _ _ _ _ _ w
    · have w := w2 c9
      refine jr_aload_n (pc := 46) F (j := 4) dJ2_addAll_46 rfl ?_
      refine jr_iload (pc := 47) F (j := 0) dJ2_addAll_47 rfl ?_
      refine jr_iload_n (pc := 49) F (j := 2) dJ2_addAll_49 rfl ?_
      refine jr_iadd (pc := 50) F dJ2_addAll_50 ?_
      obtain ⟨hi9, c12, hk9, w⟩ := w
      refine jr_cV (pc := 51) (As := [_]) (ci := 14) F M (lw_V q831 q833 qs8 q124 q834) dJ2_addAll_51 hC_J2_grow_2 rfl (Nat.le_of_ble_eq_true rfl) (Nat.le_of_ble_eq_true rfl) (Nat.le_of_ble_eq_true rfl) rfl hi9 hk9 (cC_J2_grow_2 J w) (fun v9 h14 q9 => ?_) (fun E9 q9 h9 w9 => jr_out F M O (hE _ _ _ w9))
      obtain ⟨r13, rfl, w⟩ := q9
      refine jr_astore (pc := 54) F (vs' := [(4, .inr (.inr (.inl _))), (5, .inl _), (3, .inl _), (2, .inr (.inr (.inl _))), (0, .inr (.inr (.inl _))), (1, .inr (.inr (.inl _)))]) dJ2_addAll_54 (Nat.le_of_ble_eq_true rfl) rfl ?_
      refine jj_J.sub [4, 3, 2, 0, 1] rfl ?_
      exact sC_J2_addAll_j56 F M O J hi hQ hE _ _ _ _ _ _ _ w
  · have w := w2 c9
    refine jr_iconst (pc := 24) F dJ2_addAll_24 ?_
    exact jr_zret (pc := 25) F M dJ2_addAll_25 (by decide) (hQ _ _ w)

theorem cC_J2_addAll {G : jj_G} {l : Launch} (J : jx_G G l) {x0 : Option Nat} {x1 : Option Nat} {Q : Int → jj_H → Prop} {E : String → Nat → jj_H → Prop} {h : jj_H} {k : Nat} (w : fC_J2_addAll (jj_gk G) x0 x1 Q E h k) : jj_Ct G l yJ2_addAll (ws_ yJ2_addAll cJ2_addAll 6 (some (.boolean))) 4 127 [.inr (.inr (.inl x0)), .inr (.inr (.inl x1))] h k (jc_i Q) E := by
  refine jj_Ct.of J.1 (by decide +kernel) (Nat.le_of_ble_eq_true rfl) rfl (fun X hG hl F M O hnm => ?_)
  subst hG; subst hl
  exact sC_J2_addAll F M O J hnm (fun r h q => ⟨r, rfl, q⟩) (fun _ _ _ q => q) _ _ _ _ w
theorem hC_J2_addAll : yJ2_addAll.cls = RJ2 ∧ yJ2_addAll.cls ≠ "java/lang/invoke/MethodHandle" ∧ yJ2_addAll.cls ≠ "java/lang/invoke/VarHandle" ∧ (parseMethodDescriptor yJ2_addAll.desc).map (fun d => d.parameters.length) = some 1 := by decide +kernel
/-! J2_rangeCheckForAdd(I)V -/
def fC_J2_rangeCheckForAdd (gk : Nat → Nat) (x0 : Option Nat) (x1 : Int) (Q : jj_H → Prop) (E : String → Nat → jj_H → Prop) (h : jj_H) (k : Nat) : Prop :=
  jp_gi h x0 14 2 (fun g1 =>
  jj_r x1 ∧ jj_r g1 ∧ (g1 < x1 → (
    False)) ∧
  (¬ g1 < x1 → (
    jj_r x1 ∧ (0 ≤ x1 → (
      Q h)) ∧
    (¬ 0 ≤ x1 → (
      False)))))
theorem sC_J2_rangeCheckForAdd {X : jj_X} {N : Option jj_AV → jj_H → Prop} {XN : String → Nat → jj_H → Prop} (F : jj_F X RJ2 cJ2_rangeCheckForAdd 2) (M : jj_M X (none) 0 0 N XN) (O : jj_no X) (J : jx_G X.1 X.2.2.1) (hi : X.2.2.2.2.2.2.2.2.2.1.name = yJ2_rangeCheckForAdd.name) {Q : jj_H → Prop} {E : String → Nat → jj_H → Prop} (hQ : ∀ h, Q h → N none h) (hE : ∀ e q h, E e q h → XN e q h) (x0 : Option Nat) (x1 : Int) : ∀ (h : jj_H) (k : Nat), fC_J2_rangeCheckForAdd (jj_gk X.1) x0 x1 Q E h k → jj_J X 2 0 [(0, .inr (.inr (.inl x0))), (1, .inl x1)] [] h k := by
  intro h k w
  unfold fC_J2_rangeCheckForAdd at w
  refine jr_iload_n (pc := 0) F (j := 1) dJ2_rangeCheckForAdd_0 rfl ?_
  refine jr_aload_n (pc := 1) F (j := 0) dJ2_rangeCheckForAdd_1 rfl ?_
  refine jr_gi (pc := 2) (ci := 14) (f := 2) F rfl in_J2 (Nat.le_of_ble_eq_true rfl) q539 dJ2_rangeCheckForAdd_2 w (fun g1 w => ?_)
  obtain ⟨hx9, hy9, w1, w2⟩ := w
  refine jr_icmp_gt (pc := 5) (tgt := 12) F hx9 hy9 dJ2_rangeCheckForAdd_5 rfl (fun c9 => ?_) (fun c9 => ?_)
  · have w := w1 c9
    exact (show False from w).elim
  · have w := w2 c9
    refine jr_iload_n (pc := 8) F (j := 1) dJ2_rangeCheckForAdd_8 rfl ?_
    obtain ⟨hx9, w1, w2⟩ := w
    refine jr_if_ge (pc := 9) (tgt := 25) F hx9 dJ2_rangeCheckForAdd_9 rfl (fun c9 => ?_) (fun c9 => ?_)
    · have w := w1 c9
      exact jr_vret (pc := 25) F M dJ2_rangeCheckForAdd_25 (hQ _ w)
    · have w := w2 c9
      exact (show False from w).elim

theorem cC_J2_rangeCheckForAdd {G : jj_G} {l : Launch} (J : jx_G G l) {x0 : Option Nat} {x1 : Int} {Q : jj_H → Prop} {E : String → Nat → jj_H → Prop} {h : jj_H} {k : Nat} (w : fC_J2_rangeCheckForAdd (jj_gk G) x0 x1 Q E h k) : jj_Ct G l yJ2_rangeCheckForAdd (ws_ yJ2_rangeCheckForAdd cJ2_rangeCheckForAdd 2 (none)) 0 0 [.inr (.inr (.inl x0)), .inl x1] h k (jc_v Q) E := by
  refine jj_Ct.of J.1 (by decide +kernel) (Nat.le_of_ble_eq_true rfl) rfl (fun X hG hl F M O hnm => ?_)
  subst hG; subst hl
  exact sC_J2_rangeCheckForAdd F M O J hnm (fun h q => ⟨rfl, q⟩) (fun _ _ _ q => q) _ _ _ _ w
theorem hC_J2_rangeCheckForAdd : yJ2_rangeCheckForAdd.cls = RJ2 ∧ yJ2_rangeCheckForAdd.cls ≠ "java/lang/invoke/MethodHandle" ∧ yJ2_rangeCheckForAdd.cls ≠ "java/lang/invoke/VarHandle" ∧ (parseMethodDescriptor yJ2_rangeCheckForAdd.desc).map (fun d => d.parameters.length) = some 1 := by decide +kernel
/-! J2_add_3(ILjava/lang/Object;)V -/
def fC_J2_add_3_j38 (gk : Nat → Nat) (x0 : Option Nat) (x1 : Int) (x2 : Option Nat) (x3 : Int) (x4 : Option Nat) (Q : jj_H → Prop) (E : String → Nat → jj_H → Prop) (h : jj_H) (k : Nat) : Prop :=
  jp_acR h x4 x1 x4 (x1 + 1) (x3 - x1) (fun h1 =>
  jp_ro h1 x4 x1 x2 (fun h2 =>
  jp_pi h2 x0 14 2 (x3 + 1) (fun h3 =>
  Q h3)))
def fC_J2_add_3 (gk : Nat → Nat) (x0 : Option Nat) (x1 : Int) (x2 : Option Nat) (Q : jj_H → Prop) (E : String → Nat → jj_H → Prop) (h : jj_H) (k : Nat) : Prop :=
  jp_is h x0 14 ∧ fC_J2_rangeCheckForAdd gk x0 x1 (fun h6 =>
  jp_gi h6 x0 14 0 (fun g7 =>
  jp_pi h6 x0 14 0 (g7 + 1) (fun h8 =>
  jp_gi h8 x0 14 2 (fun g9 =>
  jp_gr h8 x0 14 1 (fun g10 =>
  jp_ar h8 g10 0 (fun g11 =>
  jj_r g9 ∧ jj_r g11 ∧ (¬ g9 = g11 → (
    fC_J2_add_3_j38 gk x0 x1 x2 g9 g10 Q E h8 k)) ∧
  (g9 = g11 → (
    jp_is h8 x0 14 ∧ ∃ c12, c12 ≤ k ∧ fC_J2_grow gk x0 (fun r13 h14 =>
    fC_J2_add_3_j38 gk x0 x1 x2 g9 r13 Q E h14 (k - c12)) E h8 c12)))))))) E h 0
theorem sC_J2_add_3_j38 {X : jj_X} {N : Option jj_AV → jj_H → Prop} {XN : String → Nat → jj_H → Prop} (F : jj_F X RJ2 cJ2_add_3 5) (M : jj_M X (none) 5 147 N XN) (O : jj_no X) (J : jx_G X.1 X.2.2.1) (hi : X.2.2.2.2.2.2.2.2.2.1.name = yJ2_add_3.name) {Q : jj_H → Prop} {E : String → Nat → jj_H → Prop} (hQ : ∀ h, Q h → N none h) (hE : ∀ e q h, E e q h → XN e q h) (x0 : Option Nat) (x1 : Int) (x2 : Option Nat) (x3 : Int) (x4 : Option Nat) : ∀ (h : jj_H) (k : Nat), fC_J2_add_3_j38 (jj_gk X.1) x0 x1 x2 x3 x4 Q E h k → jj_J X 5 38 [(0, .inr (.inr (.inl x0))), (1, .inl x1), (2, .inr (.inr (.inl x2))), (3, .inl x3), (4, .inr (.inr (.inl x4)))] [] h k := by
  intro h k w
  unfold fC_J2_add_3_j38 at w
  refine jr_aload (pc := 38) F (j := 4) dJ2_add_3_38 rfl ?_
  refine jr_iload_n (pc := 40) F (j := 1) dJ2_add_3_40 rfl ?_
  refine jr_aload (pc := 41) F (j := 4) dJ2_add_3_41 rfl ?_
  refine jr_iload_n (pc := 43) F (j := 1) dJ2_add_3_43 rfl ?_
  refine jr_iconst (pc := 44) F dJ2_add_3_44 ?_
  refine jr_iadd (pc := 45) F dJ2_add_3_45 ?_
  refine jr_iload_n (pc := 46) F (j := 3) dJ2_add_3_46 rfl ?_
  refine jr_iload_n (pc := 47) F (j := 1) dJ2_add_3_47 rfl ?_
  refine jr_isub (pc := 48) F dJ2_add_3_48 ?_
  refine jr_acR (pc := 49) F M q1988 q341 q340 q136 (Nat.le_of_ble_eq_true rfl) (Nat.le_of_ble_eq_true rfl) (Nat.le_of_ble_eq_true rfl) dJ2_add_3_49 w (fun h1 w => ?_)
  refine jr_aload (pc := 52) F (j := 4) dJ2_add_3_52 rfl ?_
  refine jr_iload_n (pc := 54) F (j := 1) dJ2_add_3_54 rfl ?_
  refine jr_aload_n (pc := 55) F (j := 2) dJ2_add_3_55 rfl ?_
  refine jr_aastO (pc := 56) F dJ2_add_3_56 w (fun h2 w => ?_)
  refine jr_aload_n (pc := 57) F (j := 0) dJ2_add_3_57 rfl ?_
  refine jr_iload_n (pc := 58) F (j := 3) dJ2_add_3_58 rfl ?_
  refine jr_iconst (pc := 59) F dJ2_add_3_59 ?_
  refine jr_iadd (pc := 60) F dJ2_add_3_60 ?_
  refine jr_pi (pc := 61) (ci := 14) (f := 2) F rfl in_J2 tyJ2_ok nmJ2 (Nat.le_of_ble_eq_true rfl) rfl rfl q539 dJ2_add_3_61 w (fun h3 w => ?_)
  exact jr_vret (pc := 64) F M dJ2_add_3_64 (hQ _ w)

theorem sC_J2_add_3 {X : jj_X} {N : Option jj_AV → jj_H → Prop} {XN : String → Nat → jj_H → Prop} (F : jj_F X RJ2 cJ2_add_3 5) (M : jj_M X (none) 5 147 N XN) (O : jj_no X) (J : jx_G X.1 X.2.2.1) (hi : X.2.2.2.2.2.2.2.2.2.1.name = yJ2_add_3.name) {Q : jj_H → Prop} {E : String → Nat → jj_H → Prop} (hQ : ∀ h, Q h → N none h) (hE : ∀ e q h, E e q h → XN e q h) (x0 : Option Nat) (x1 : Int) (x2 : Option Nat) : ∀ (h : jj_H) (k : Nat), fC_J2_add_3 (jj_gk X.1) x0 x1 x2 Q E h k → jj_J X 5 0 [(0, .inr (.inr (.inl x0))), (1, .inl x1), (2, .inr (.inr (.inl x2)))] [] h k := by
  intro h k w
  unfold fC_J2_add_3 at w
  refine jr_aload_n (pc := 0) F (j := 0) dJ2_add_3_0 rfl ?_
  refine jr_iload_n (pc := 1) F (j := 1) dJ2_add_3_1 rfl ?_
  obtain ⟨hi9, w⟩ := w
  refine jr_cV (pc := 2) (As := [_]) (ci := 14) F M (lw_V q2858 q2860 qs40 q124 q2861) dJ2_add_3_2 hC_J2_rangeCheckForAdd rfl (Nat.le_of_ble_eq_true rfl) (Nat.le_of_ble_eq_true rfl) (Nat.le_of_ble_eq_true rfl) rfl hi9 (Nat.zero_le _) (cC_J2_rangeCheckForAdd J w) (fun v9 h6 q9 => ?_) (fun E9 q9 h9 w9 => jr_out F M O (hE _ _ _ w9))
  obtain ⟨rfl, w⟩ := q9
  refine jr_aload_n (pc := 5) F (j := 0) dJ2_add_3_5 rfl ?_
  refine jr_dup (pc := 6) F dJ2_add_3_6 rfl ?_
  refine jr_giR (pc := 7) (ci := 14) (f := 0) F rfl in_J2 (Nat.le_of_ble_eq_true rfl) q543 q542 dJ2_add_3_7 w (fun g7 w => ?_)
  refine jr_iconst (pc := 10) F dJ2_add_3_10 ?_
  refine jr_iadd (pc := 11) F dJ2_add_3_11 ?_
  refine jr_piR (pc := 12) (ci := 14) (f := 0) F rfl in_J2 tyJ2_ok nmJ2 (Nat.le_of_ble_eq_true rfl) rfl rfl q543 q542 dJ2_add_3_12 w (fun h8 w => ?_)
  refine jr_aload_n (pc := 15) F (j := 0) dJ2_add_3_15 rfl ?_
  refine jr_gi (pc := 16) (ci := 14) (f := 2) F rfl in_J2 (Nat.le_of_ble_eq_true rfl) q539 dJ2_add_3_16 w (fun g9 w => ?_)
  refine jr_dup (pc := 19) F dJ2_add_3_19 rfl ?_
  refine jr_istore_n (pc := 20) F (vs' := [(3, .inl _), (0, .inr (.inr (.inl _))), (1, .inl _), (2, .inr (.inr (.inl _)))]) dJ2_add_3_20 (Nat.le_of_ble_eq_true rfl) rfl ?_
  refine jr_aload_n (pc := 21) F (j := 1) dJ2_add_3_21 rfl ?_
  refine jr_gr (pc := 22) (ci := 14) (f := 1) F rfl in_J2 (Nat.le_of_ble_eq_true rfl) q536 dJ2_add_3_22 w (fun g10 w => ?_)
  refine jr_dup (pc := 25) F dJ2_add_3_25 rfl ?_
  refine jr_astore (pc := 26) F (vs' := [(4, .inr (.inr (.inl _))), (3, .inl _), (0, .inr (.inr (.inl _))), (1, .inl _), (2, .inr (.inr (.inl _)))]) dJ2_add_3_26 (Nat.le_of_ble_eq_true rfl) rfl ?_
  refine jr_alenR (pc := 28) F ⟨4, _, fun _ => rfl⟩ dJ2_add_3_28 w (fun g11 w => ?_)
  obtain ⟨hx9, hy9, w1, w2⟩ := w
  refine jr_icmp_ne (pc := 29) (tgt := 38) F hx9 hy9 dJ2_add_3_29 rfl (fun c9 => ?_) (fun c9 => ?_)
  · have w := w1 c9
    refine jj_J.sub [2, 3, 4, 1, 0] rfl ?_
    exact sC_J2_add_3_j38 F M O J hi hQ hE _ _ _ _ _ _ _ w
  · have w := w2 c9
    refine jr_aload_n (pc := 32) F (j := 2) dJ2_add_3_32 rfl ?_
    obtain ⟨hi9, c12, hk9, w⟩ := w
    refine jr_cV (pc := 33) (As := []) (ci := 14) F M (lw_V q827 q829 qs7 q124 q830) dJ2_add_3_33 hC_J2_grow rfl (Nat.le_of_ble_eq_true rfl) (Nat.le_of_ble_eq_true rfl) (Nat.le_of_ble_eq_true rfl) rfl hi9 hk9 (cC_J2_grow J w) (fun v9 h14 q9 => ?_) (fun E9 q9 h9 w9 => jr_out F M O (hE _ _ _ w9))
    obtain ⟨r13, rfl, w⟩ := q9
    refine jr_astore (pc := 36) F (vs' := [(4, .inr (.inr (.inl _))), (3, .inl _), (0, .inr (.inr (.inl _))), (1, .inl _), (2, .inr (.inr (.inl _)))]) dJ2_add_3_36 (Nat.le_of_ble_eq_true rfl) rfl ?_
    refine jj_J.sub [2, 3, 4, 1, 0] rfl ?_
    exact sC_J2_add_3_j38 F M O J hi hQ hE _ _ _ _ _ _ _ w

theorem cC_J2_add_3 {G : jj_G} {l : Launch} (J : jx_G G l) {x0 : Option Nat} {x1 : Int} {x2 : Option Nat} {Q : jj_H → Prop} {E : String → Nat → jj_H → Prop} {h : jj_H} {k : Nat} (w : fC_J2_add_3 (jj_gk G) x0 x1 x2 Q E h k) : jj_Ct G l yJ2_add_3 (ws_ yJ2_add_3 cJ2_add_3 5 (none)) 5 147 [.inr (.inr (.inl x0)), .inl x1, .inr (.inr (.inl x2))] h k (jc_v Q) E := by
  refine jj_Ct.of J.1 (by decide +kernel) (Nat.le_of_ble_eq_true rfl) rfl (fun X hG hl F M O hnm => ?_)
  subst hG; subst hl
  exact sC_J2_add_3 F M O J hnm (fun h q => ⟨rfl, q⟩) (fun _ _ _ q => q) _ _ _ _ _ w
theorem hC_J2_add_3 : yJ2_add_3.cls = RJ2 ∧ yJ2_add_3.cls ≠ "java/lang/invoke/MethodHandle" ∧ yJ2_add_3.cls ≠ "java/lang/invoke/VarHandle" ∧ (parseMethodDescriptor yJ2_add_3.desc).map (fun d => d.parameters.length) = some 2 := by decide +kernel
/-! J2_elementData(I)Ljava/lang/Object; -/
def fC_J2_elementData (gk : Nat → Nat) (x0 : Option Nat) (x1 : Int) (Q : Option Nat → jj_H → Prop) (E : String → Nat → jj_H → Prop) (h : jj_H) (k : Nat) : Prop :=
  jp_gr h x0 14 1 (fun g1 =>
  jp_rl h g1 0 x1 (fun g2 =>
  Q g2 h))
theorem sC_J2_elementData {X : jj_X} {N : Option jj_AV → jj_H → Prop} {XN : String → Nat → jj_H → Prop} (F : jj_F X RJ2 cJ2_elementData 2) (M : jj_M X (some ((.object "java/lang/Object"))) 0 0 N XN) (O : jj_no X) (J : jx_G X.1 X.2.2.1) (hi : X.2.2.2.2.2.2.2.2.2.1.name = yJ2_elementData.name) {Q : Option Nat → jj_H → Prop} {E : String → Nat → jj_H → Prop} (hQ : ∀ r h, Q r h → N (some (.inr (.inr (.inl r)))) h) (hE : ∀ e q h, E e q h → XN e q h) (x0 : Option Nat) (x1 : Int) : ∀ (h : jj_H) (k : Nat), fC_J2_elementData (jj_gk X.1) x0 x1 Q E h k → jj_J X 2 0 [(0, .inr (.inr (.inl x0))), (1, .inl x1)] [] h k := by
  intro h k w
  unfold fC_J2_elementData at w
  refine jr_aload_n (pc := 0) F (j := 0) dJ2_elementData_0 rfl ?_
  refine jr_gr (pc := 1) (ci := 14) (f := 1) F rfl in_J2 (Nat.le_of_ble_eq_true rfl) q536 dJ2_elementData_1 w (fun g1 w => ?_)
  refine jr_iload_n (pc := 4) F (j := 1) dJ2_elementData_4 rfl ?_
  refine jr_aald (pc := 5) F ⟨4, _, fun _ => rfl⟩ dJ2_elementData_5 w (fun g2 w => ?_)
  exact jr_aret (pc := 6) F M (Or.inl ⟨_, rfl⟩) dJ2_elementData_6 (hQ _ _ w)

theorem cC_J2_elementData {G : jj_G} {l : Launch} (J : jx_G G l) {x0 : Option Nat} {x1 : Int} {Q : Option Nat → jj_H → Prop} {E : String → Nat → jj_H → Prop} {h : jj_H} {k : Nat} (w : fC_J2_elementData (jj_gk G) x0 x1 Q E h k) : jj_Ct G l yJ2_elementData (ws_ yJ2_elementData cJ2_elementData 2 (some ((.object "java/lang/Object")))) 0 0 [.inr (.inr (.inl x0)), .inl x1] h k (jc_r Q) E := by
  refine jj_Ct.of J.1 (by decide +kernel) (Nat.le_of_ble_eq_true rfl) rfl (fun X hG hl F M O hnm => ?_)
  subst hG; subst hl
  exact sC_J2_elementData F M O J hnm (fun r h q => ⟨r, rfl, q⟩) (fun _ _ _ q => q) _ _ _ _ w
theorem hC_J2_elementData : yJ2_elementData.cls = RJ2 ∧ yJ2_elementData.cls ≠ "java/lang/invoke/MethodHandle" ∧ yJ2_elementData.cls ≠ "java/lang/invoke/VarHandle" ∧ (parseMethodDescriptor yJ2_elementData.desc).map (fun d => d.parameters.length) = some 1 := by decide +kernel
/-! J2_fastRemove([Ljava/lang/Object;I)V -/
def fC_J2_fastRemove_j34 (gk : Nat → Nat) (x0 : Option Nat) (x1 : Option Nat) (x3 : Int) (Q : jj_H → Prop) (E : String → Nat → jj_H → Prop) (h : jj_H) (k : Nat) : Prop :=
  jp_pi h x0 14 2 x3 (fun h1 =>
  jp_ro h1 x1 x3 none (fun h2 =>
  Q h2))
def fC_J2_fastRemove (gk : Nat → Nat) (x0 : Option Nat) (x1 : Option Nat) (x2 : Int) (Q : jj_H → Prop) (E : String → Nat → jj_H → Prop) (h : jj_H) (k : Nat) : Prop :=
  jp_gi h x0 14 0 (fun g3 =>
  jp_pi h x0 14 0 (g3 + 1) (fun h4 =>
  jp_gi h4 x0 14 2 (fun g5 =>
  ∀ v6, v6 = g5 - 1 →
  jj_r (g5 - 1) ∧ jj_r x2 ∧ ((g5 - 1) ≤ x2 → (
    fC_J2_fastRemove_j34 gk x0 x1 v6 Q E h4 k)) ∧
  (¬ (g5 - 1) ≤ x2 → (
    jp_acR h4 x1 (x2 + 1) x1 x2 (v6 - x2) (fun h7 =>
    fC_J2_fastRemove_j34 gk x0 x1 v6 Q E h7 k))))))
theorem sC_J2_fastRemove_j34 {X : jj_X} {N : Option jj_AV → jj_H → Prop} {XN : String → Nat → jj_H → Prop} (F : jj_F X RJ2 cJ2_fastRemove 4) (M : jj_M X (none) 1 60 N XN) (O : jj_no X) (J : jx_G X.1 X.2.2.1) (hi : X.2.2.2.2.2.2.2.2.2.1.name = yJ2_fastRemove.name) {Q : jj_H → Prop} {E : String → Nat → jj_H → Prop} (hQ : ∀ h, Q h → N none h) (hE : ∀ e q h, E e q h → XN e q h) (x0 : Option Nat) (x1 : Option Nat) (x3 : Int) : ∀ (h : jj_H) (k : Nat), fC_J2_fastRemove_j34 (jj_gk X.1) x0 x1 x3 Q E h k → jj_J X 4 34 [(0, .inr (.inr (.inl x0))), (1, .inr (.inr (.inl x1))), (3, .inl x3)] [] h k := by
  intro h k w
  unfold fC_J2_fastRemove_j34 at w
  refine jr_aload_n (pc := 34) F (j := 1) dJ2_fastRemove_34 rfl ?_
  refine jr_aload_n (pc := 35) F (j := 0) dJ2_fastRemove_35 rfl ?_
  refine jr_iload_n (pc := 36) F (j := 2) dJ2_fastRemove_36 rfl ?_
  refine jr_dup_x1 (pc := 37) F dJ2_fastRemove_37 rfl rfl ?_
  refine jr_pi (pc := 38) (ci := 14) (f := 2) F rfl in_J2 tyJ2_ok nmJ2 (Nat.le_of_ble_eq_true rfl) rfl rfl q539 dJ2_fastRemove_38 w (fun h1 w => ?_)
  refine jr_null (pc := 41) F dJ2_fastRemove_41 ?_
  refine jr_aastO (pc := 42) F dJ2_fastRemove_42 w (fun h2 w => ?_)
  exact jr_vret (pc := 43) F M dJ2_fastRemove_43 (hQ _ w)

theorem sC_J2_fastRemove {X : jj_X} {N : Option jj_AV → jj_H → Prop} {XN : String → Nat → jj_H → Prop} (F : jj_F X RJ2 cJ2_fastRemove 4) (M : jj_M X (none) 1 60 N XN) (O : jj_no X) (J : jx_G X.1 X.2.2.1) (hi : X.2.2.2.2.2.2.2.2.2.1.name = yJ2_fastRemove.name) {Q : jj_H → Prop} {E : String → Nat → jj_H → Prop} (hQ : ∀ h, Q h → N none h) (hE : ∀ e q h, E e q h → XN e q h) (x0 : Option Nat) (x1 : Option Nat) (x2 : Int) : ∀ (h : jj_H) (k : Nat), fC_J2_fastRemove (jj_gk X.1) x0 x1 x2 Q E h k → jj_J X 4 0 [(0, .inr (.inr (.inl x0))), (1, .inr (.inr (.inl x1))), (2, .inl x2)] [] h k := by
  intro h k w
  unfold fC_J2_fastRemove at w
  refine jr_aload_n (pc := 0) F (j := 0) dJ2_fastRemove_0 rfl ?_
  refine jr_dup (pc := 1) F dJ2_fastRemove_1 rfl ?_
  refine jr_giR (pc := 2) (ci := 14) (f := 0) F rfl in_J2 (Nat.le_of_ble_eq_true rfl) q543 q542 dJ2_fastRemove_2 w (fun g3 w => ?_)
  refine jr_iconst (pc := 5) F dJ2_fastRemove_5 ?_
  refine jr_iadd (pc := 6) F dJ2_fastRemove_6 ?_
  refine jr_piR (pc := 7) (ci := 14) (f := 0) F rfl in_J2 tyJ2_ok nmJ2 (Nat.le_of_ble_eq_true rfl) rfl rfl q543 q542 dJ2_fastRemove_7 w (fun h4 w => ?_)
  refine jr_aload_n (pc := 10) F (j := 0) dJ2_fastRemove_10 rfl ?_
  refine jr_gi (pc := 11) (ci := 14) (f := 2) F rfl in_J2 (Nat.le_of_ble_eq_true rfl) q539 dJ2_fastRemove_11 w (fun g5 w => ?_)
  refine jr_iconst (pc := 14) F dJ2_fastRemove_14 ?_
  refine jr_isub (pc := 15) F dJ2_fastRemove_15 ?_
  refine jr_dup (pc := 16) F dJ2_fastRemove_16 rfl ?_
  have w := w _ rfl
  refine jr_istore_n (pc := 17) F (vs' := [(3, .inl _), (0, .inr (.inr (.inl _))), (1, .inr (.inr (.inl _))), (2, .inl _)]) dJ2_fastRemove_17 (Nat.le_of_ble_eq_true rfl) rfl ?_
  refine jr_iload_n (pc := 18) F (j := 3) dJ2_fastRemove_18 rfl ?_
  obtain ⟨hx9, hy9, w1, w2⟩ := w
  refine jr_icmp_le (pc := 19) (tgt := 34) F hx9 hy9 dJ2_fastRemove_19 rfl (fun c9 => ?_) (fun c9 => ?_)
  · have w := w1 c9
    refine jj_J.sub [1, 2, 0] rfl ?_
    exact sC_J2_fastRemove_j34 F M O J hi hQ hE _ _ _ _ _ w
  · have w := w2 c9
    refine jr_aload_n (pc := 22) F (j := 2) dJ2_fastRemove_22 rfl ?_
    refine jr_iload_n (pc := 23) F (j := 3) dJ2_fastRemove_23 rfl ?_
    refine jr_iconst (pc := 24) F dJ2_fastRemove_24 ?_
    refine jr_iadd (pc := 25) F dJ2_fastRemove_25 ?_
    refine jr_aload_n (pc := 26) F (j := 2) dJ2_fastRemove_26 rfl ?_
    refine jr_iload_n (pc := 27) F (j := 3) dJ2_fastRemove_27 rfl ?_
    refine jr_iload_n (pc := 28) F (j := 0) dJ2_fastRemove_28 rfl ?_
    refine jr_iload_n (pc := 29) F (j := 3) dJ2_fastRemove_29 rfl ?_
    refine jr_isub (pc := 30) F dJ2_fastRemove_30 ?_
    refine jr_acR (pc := 31) F M q1988 q341 q340 q136 (Nat.le_of_ble_eq_true rfl) (Nat.le_of_ble_eq_true rfl) (Nat.le_of_ble_eq_true rfl) dJ2_fastRemove_31 w (fun h7 w => ?_)
    refine jj_J.sub [1, 2, 0] rfl ?_
    exact sC_J2_fastRemove_j34 F M O J hi hQ hE _ _ _ _ _ w

theorem cC_J2_fastRemove {G : jj_G} {l : Launch} (J : jx_G G l) {x0 : Option Nat} {x1 : Option Nat} {x2 : Int} {Q : jj_H → Prop} {E : String → Nat → jj_H → Prop} {h : jj_H} {k : Nat} (w : fC_J2_fastRemove (jj_gk G) x0 x1 x2 Q E h k) : jj_Ct G l yJ2_fastRemove (ws_ yJ2_fastRemove cJ2_fastRemove 4 (none)) 1 60 [.inr (.inr (.inl x0)), .inr (.inr (.inl x1)), .inl x2] h k (jc_v Q) E := by
  refine jj_Ct.of J.1 (by decide +kernel) (Nat.le_of_ble_eq_true rfl) rfl (fun X hG hl F M O hnm => ?_)
  subst hG; subst hl
  exact sC_J2_fastRemove F M O J hnm (fun h q => ⟨rfl, q⟩) (fun _ _ _ q => q) _ _ _ _ _ w
theorem hC_J2_fastRemove : yJ2_fastRemove.cls = RJ2 ∧ yJ2_fastRemove.cls ≠ "java/lang/invoke/MethodHandle" ∧ yJ2_fastRemove.cls ≠ "java/lang/invoke/VarHandle" ∧ (parseMethodDescriptor yJ2_fastRemove.desc).map (fun d => d.parameters.length) = some 2 := by decide +kernel
/-! J32_checkIndex(II)I -/
def fC_J32_checkIndex (gk : Nat → Nat) (x0 : Int) (x1 : Int) (Q : Int → jj_H → Prop) (E : String → Nat → jj_H → Prop) (h : jj_H) (k : Nat) : Prop :=
  fC_J14_checkIndex gk x0 x1 none (fun r2 h3 =>
  Q r2 h3) E h 0
theorem sC_J32_checkIndex {X : jj_X} {N : Option jj_AV → jj_H → Prop} {XN : String → Nat → jj_H → Prop} (F : jj_F X RJ32 cJ32_checkIndex 2) (M : jj_M X (some (.int)) 1 22 N XN) (O : jj_no X) (J : jx_G X.1 X.2.2.1) (hi : X.2.2.2.2.2.2.2.2.2.1.name = yJ32_checkIndex.name) {Q : Int → jj_H → Prop} {E : String → Nat → jj_H → Prop} (hQ : ∀ r h, Q r h → N (some (.inl r)) h) (hE : ∀ e q h, E e q h → XN e q h) (x0 : Int) (x1 : Int) : ∀ (h : jj_H) (k : Nat), fC_J32_checkIndex (jj_gk X.1) x0 x1 Q E h k → jj_J X 2 0 [(0, .inl x0), (1, .inl x1)] [] h k := by
  intro h k w
  unfold fC_J32_checkIndex at w
  refine jr_iload_n (pc := 0) F (j := 0) dJ32_checkIndex_0 rfl ?_
  refine jr_iload_n (pc := 1) F (j := 1) dJ32_checkIndex_1 rfl ?_
  refine jr_null (pc := 2) F dJ32_checkIndex_2 ?_
  refine jr_callS (pc := 3) (As := [_, _, _]) F M (lw_S q687 q688 q137 q689) dJ32_checkIndex_3 hC_J14_checkIndex.2 rfl (Nat.le_of_ble_eq_true rfl) (Nat.le_of_ble_eq_true rfl) (Nat.le_of_ble_eq_true rfl) (Nat.zero_le _) (cC_J14_checkIndex J w) (fun v9 h3 q9 => ?_) (fun E9 q9 h9 w9 => jr_out F M O (hE _ _ _ w9))
  obtain ⟨r2, rfl, w⟩ := q9
  exact jr_iret (pc := 6) F M dJ32_checkIndex_6 (hQ _ _ w)

theorem cC_J32_checkIndex {G : jj_G} {l : Launch} (J : jx_G G l) {x0 : Int} {x1 : Int} {Q : Int → jj_H → Prop} {E : String → Nat → jj_H → Prop} {h : jj_H} {k : Nat} (w : fC_J32_checkIndex (jj_gk G) x0 x1 Q E h k) : jj_Ct G l yJ32_checkIndex (ws_ yJ32_checkIndex cJ32_checkIndex 2 (some (.int))) 1 22 [.inl x0, .inl x1] h k (jc_i Q) E := by
  refine jj_Ct.of J.1 (by decide +kernel) (Nat.le_of_ble_eq_true rfl) rfl (fun X hG hl F M O hnm => ?_)
  subst hG; subst hl
  exact sC_J32_checkIndex F M O J hnm (fun r h q => ⟨r, rfl, q⟩) (fun _ _ _ q => q) _ _ _ _ w
theorem hC_J32_checkIndex : yJ32_checkIndex.cls = RJ32 ∧ yJ32_checkIndex.cls ≠ "java/lang/invoke/MethodHandle" ∧ yJ32_checkIndex.cls ≠ "java/lang/invoke/VarHandle" ∧ (parseMethodDescriptor yJ32_checkIndex.desc).map (fun d => d.parameters.length) = some 2 := by decide +kernel
/-! J2_get(I)Ljava/lang/Object; -/
def fC_J2_get (gk : Nat → Nat) (x0 : Option Nat) (x1 : Int) (Q : Option Nat → jj_H → Prop) (E : String → Nat → jj_H → Prop) (h : jj_H) (k : Nat) : Prop :=
  jp_gi h x0 14 2 (fun g1 =>
  fC_J32_checkIndex gk x1 g1 (fun r3 h4 =>
  jp_is h4 x0 14 ∧ fC_J2_elementData gk x0 x1 (fun r6 h7 =>
  Q r6 h7) E h4 0) E h 0)
theorem sC_J2_get {X : jj_X} {N : Option jj_AV → jj_H → Prop} {XN : String → Nat → jj_H → Prop} (F : jj_F X RJ2 cJ2_get 2) (M : jj_M X (some ((.object "java/lang/Object"))) 2 43 N XN) (O : jj_no X) (J : jx_G X.1 X.2.2.1) (hi : X.2.2.2.2.2.2.2.2.2.1.name = yJ2_get.name) {Q : Option Nat → jj_H → Prop} {E : String → Nat → jj_H → Prop} (hQ : ∀ r h, Q r h → N (some (.inr (.inr (.inl r)))) h) (hE : ∀ e q h, E e q h → XN e q h) (x0 : Option Nat) (x1 : Int) : ∀ (h : jj_H) (k : Nat), fC_J2_get (jj_gk X.1) x0 x1 Q E h k → jj_J X 2 0 [(0, .inr (.inr (.inl x0))), (1, .inl x1)] [] h k := by
  intro h k w
  unfold fC_J2_get at w
  refine jr_iload_n (pc := 0) F (j := 1) dJ2_get_0 rfl ?_
  refine jr_aload_n (pc := 1) F (j := 0) dJ2_get_1 rfl ?_
  refine jr_gi (pc := 2) (ci := 14) (f := 2) F rfl in_J2 (Nat.le_of_ble_eq_true rfl) q539 dJ2_get_2 w (fun g1 w => ?_)
  refine jr_callS (pc := 5) (As := [_, _]) F M (lw_S q684 q685 q158 q686) dJ2_get_5 hC_J32_checkIndex.2 rfl (Nat.le_of_ble_eq_true rfl) (Nat.le_of_ble_eq_true rfl) (Nat.le_of_ble_eq_true rfl) (Nat.zero_le _) (cC_J32_checkIndex J w) (fun v9 h4 q9 => ?_) (fun E9 q9 h9 w9 => jr_out F M O (hE _ _ _ w9))
  obtain ⟨r3, rfl, w⟩ := q9
  refine jr_pop (pc := 8) F dJ2_get_8 rfl ?_
  refine jr_aload_n (pc := 9) F (j := 0) dJ2_get_9 rfl ?_
  refine jr_iload_n (pc := 10) F (j := 1) dJ2_get_10 rfl ?_
  obtain ⟨hi9, w⟩ := w
  refine jr_cV (pc := 11) (As := [_]) (ci := 14) F M (lw_V q690 q691 q692 q124 q693) dJ2_get_11 hC_J2_elementData rfl (Nat.le_of_ble_eq_true rfl) (Nat.le_of_ble_eq_true rfl) (Nat.le_of_ble_eq_true rfl) rfl hi9 (Nat.zero_le _) (cC_J2_elementData J w) (fun v9 h7 q9 => ?_) (fun E9 q9 h9 w9 => jr_out F M O (hE _ _ _ w9))
  obtain ⟨r6, rfl, w⟩ := q9
  exact jr_aret (pc := 14) F M (Or.inl ⟨_, rfl⟩) dJ2_get_14 (hQ _ _ w)

theorem cC_J2_get {G : jj_G} {l : Launch} (J : jx_G G l) {x0 : Option Nat} {x1 : Int} {Q : Option Nat → jj_H → Prop} {E : String → Nat → jj_H → Prop} {h : jj_H} {k : Nat} (w : fC_J2_get (jj_gk G) x0 x1 Q E h k) : jj_Ct G l yJ2_get (ws_ yJ2_get cJ2_get 2 (some ((.object "java/lang/Object")))) 2 43 [.inr (.inr (.inl x0)), .inl x1] h k (jc_r Q) E := by
  refine jj_Ct.of J.1 (by decide +kernel) (Nat.le_of_ble_eq_true rfl) rfl (fun X hG hl F M O hnm => ?_)
  subst hG; subst hl
  exact sC_J2_get F M O J hnm (fun r h q => ⟨r, rfl, q⟩) (fun _ _ _ q => q) _ _ _ _ w
theorem hC_J2_get : yJ2_get.cls = RJ2 ∧ yJ2_get.cls ≠ "java/lang/invoke/MethodHandle" ∧ yJ2_get.cls ≠ "java/lang/invoke/VarHandle" ∧ (parseMethodDescriptor yJ2_get.desc).map (fun d => d.parameters.length) = some 1 := by decide +kernel
/-! J2_init(I)V -/
def fC_J2_init (gk : Nat → Nat) (x0 : Option Nat) (x1 : Int) (Q : jj_H → Prop) (E : String → Nat → jj_H → Prop) (h : jj_H) (k : Nat) : Prop :=
  jp_so x0 ∧ fC_J1_init gk x0 (fun h3 =>
  jj_r x1 ∧ (x1 ≤ 0 → (
    jj_r x1 ∧ (¬ x1 = 0 → (
      False)) ∧
    (x1 = 0 → (
      False)))) ∧
  (¬ x1 ≤ 0 → (
    jp_nr h3 k 0 x1 (fun a4 h5 k6 =>
    jp_pr h5 x0 14 1 (some a4) (fun h7 =>
    Q h7))))) E h 0
theorem sC_J2_init {X : jj_X} {N : Option jj_AV → jj_H → Prop} {XN : String → Nat → jj_H → Prop} (F : jj_F X RJ2 cJ2_init 2) (M : jj_M X (none) 3 60 N XN) (O : jj_no X) (J : jx_G X.1 X.2.2.1) (hi : X.2.2.2.2.2.2.2.2.2.1.name = yJ2_init.name) {Q : jj_H → Prop} {E : String → Nat → jj_H → Prop} (hQ : ∀ h, Q h → N none h) (hE : ∀ e q h, E e q h → XN e q h) (x0 : Option Nat) (x1 : Int) : ∀ (h : jj_H) (k : Nat), fC_J2_init (jj_gk X.1) x0 x1 Q E h k → jj_J X 2 0 [(0, .inr (.inr (.inl x0))), (1, .inl x1)] [] h k := by
  intro h k w
  unfold fC_J2_init at w
  refine jr_aload_n (pc := 0) F (j := 0) dJ2_init_0 rfl ?_
  obtain ⟨hi9, w⟩ := w
  refine jr_cI (pc := 1) (As := []) F M q205 q206 q123 q207 dJ2_init_1 rfl hC_J1_init.2 rfl (Nat.le_of_ble_eq_true rfl) (Nat.le_of_ble_eq_true rfl) (Nat.le_of_ble_eq_true rfl) hi9 (Nat.zero_le _) (cC_J1_init J w) (fun v9 h3 q9 => ?_) (fun E9 q9 h9 w9 => jr_out F M O (hE _ _ _ w9))
  obtain ⟨rfl, w⟩ := q9
  refine jr_iload_n (pc := 4) F (j := 1) dJ2_init_4 rfl ?_
  obtain ⟨hx9, w1, w2⟩ := w
  refine jr_if_le (pc := 5) (tgt := 19) F hx9 dJ2_init_5 rfl (fun c9 => ?_) (fun c9 => ?_)
  · have w := w1 c9
    refine jr_iload_n (pc := 19) F (j := 1) dJ2_init_19 rfl ?_
    obtain ⟨hx9, w1, w2⟩ := w
    refine jr_if_ne (pc := 20) (tgt := 33) F hx9 dJ2_init_20 rfl (fun c9 => ?_) (fun c9 => ?_)
    · have w := w1 c9
      exact (show False from w).elim
    · have w := w2 c9
      refine jr_aload_n (pc := 23) F (j := 0) dJ2_init_23 rfl ?_
      exact (show False from w).elim
  · have w := w2 c9
    refine jr_aload_n (pc := 8) F (j := 0) dJ2_init_8 rfl ?_
    refine jr_iload_n (pc := 9) F (j := 1) dJ2_init_9 rfl ?_
    refine jr_newR (pc := 10) F (fun _ => rfl) q212 (jx_ao0 J) dJ2_init_10 w (fun a4 h5 k6 w => ?_)
    refine jr_pr (pc := 13) (ci := 14) (f := 1) F rfl in_J2 tyJ2_ok nmJ2 (Nat.le_of_ble_eq_true rfl) rfl rfl q536 dJ2_init_13 w (fun h7 w => ?_)
    refine jr_goto (pc := 16) (tgt := 60) F dJ2_init_16 rfl ?_
    exact jr_vret (pc := 60) F M dJ2_init_60 (hQ _ w)

theorem cC_J2_init {G : jj_G} {l : Launch} (J : jx_G G l) {x0 : Option Nat} {x1 : Int} {Q : jj_H → Prop} {E : String → Nat → jj_H → Prop} {h : jj_H} {k : Nat} (w : fC_J2_init (jj_gk G) x0 x1 Q E h k) : jj_Ct G l yJ2_init (ws_ yJ2_init cJ2_init 2 (none)) 3 60 [.inr (.inr (.inl x0)), .inl x1] h k (jc_v Q) E := by
  refine jj_Ct.of J.1 (by decide +kernel) (Nat.le_of_ble_eq_true rfl) rfl (fun X hG hl F M O hnm => ?_)
  subst hG; subst hl
  exact sC_J2_init F M O J hnm (fun h q => ⟨rfl, q⟩) (fun _ _ _ q => q) _ _ _ _ w
theorem hC_J2_init : yJ2_init.cls = RJ2 ∧ yJ2_init.cls ≠ "java/lang/invoke/MethodHandle" ∧ yJ2_init.cls ≠ "java/lang/invoke/VarHandle" ∧ (parseMethodDescriptor yJ2_init.desc).map (fun d => d.parameters.length) = some 1 := by decide +kernel
/-! J2_isEmpty()Z -/
def fC_J2_isEmpty (gk : Nat → Nat) (x0 : Option Nat) (Q : Int → jj_H → Prop) (E : String → Nat → jj_H → Prop) (h : jj_H) (k : Nat) : Prop :=
  jp_gi h x0 14 2 (fun g1 =>
  jj_r g1 ∧ (¬ g1 = 0 → (
    Q 0 h)) ∧
  (g1 = 0 → (
    Q 1 h)))
theorem sC_J2_isEmpty {X : jj_X} {N : Option jj_AV → jj_H → Prop} {XN : String → Nat → jj_H → Prop} (F : jj_F X RJ2 cJ2_isEmpty 1) (M : jj_M X (some (.boolean)) 0 0 N XN) (O : jj_no X) (J : jx_G X.1 X.2.2.1) (hi : X.2.2.2.2.2.2.2.2.2.1.name = yJ2_isEmpty.name) {Q : Int → jj_H → Prop} {E : String → Nat → jj_H → Prop} (hQ : ∀ r h, Q r h → N (some (.inl r)) h) (hE : ∀ e q h, E e q h → XN e q h) (x0 : Option Nat) : ∀ (h : jj_H) (k : Nat), fC_J2_isEmpty (jj_gk X.1) x0 Q E h k → jj_J X 1 0 [(0, .inr (.inr (.inl x0)))] [] h k := by
  intro h k w
  unfold fC_J2_isEmpty at w
  refine jr_aload_n (pc := 0) F (j := 0) dJ2_isEmpty_0 rfl ?_
  refine jr_gi (pc := 1) (ci := 14) (f := 2) F rfl in_J2 (Nat.le_of_ble_eq_true rfl) q539 dJ2_isEmpty_1 w (fun g1 w => ?_)
  obtain ⟨hx9, w1, w2⟩ := w
  refine jr_if_ne (pc := 4) (tgt := 11) F hx9 dJ2_isEmpty_4 rfl (fun c9 => ?_) (fun c9 => ?_)
  · have w := w1 c9
    refine jr_iconst (pc := 11) F dJ2_isEmpty_11 ?_
    exact jr_zret (pc := 12) F M dJ2_isEmpty_12 (by decide) (hQ _ _ w)
  · have w := w2 c9
    refine jr_iconst (pc := 7) F dJ2_isEmpty_7 ?_
    refine jr_goto (pc := 8) (tgt := 12) F dJ2_isEmpty_8 rfl ?_
    exact jr_zret (pc := 12) F M dJ2_isEmpty_12 (by decide) (hQ _ _ w)

theorem cC_J2_isEmpty {G : jj_G} {l : Launch} (J : jx_G G l) {x0 : Option Nat} {Q : Int → jj_H → Prop} {E : String → Nat → jj_H → Prop} {h : jj_H} {k : Nat} (w : fC_J2_isEmpty (jj_gk G) x0 Q E h k) : jj_Ct G l yJ2_isEmpty (ws_ yJ2_isEmpty cJ2_isEmpty 1 (some (.boolean))) 0 0 [.inr (.inr (.inl x0))] h k (jc_i Q) E := by
  refine jj_Ct.of J.1 (by decide +kernel) (Nat.le_of_ble_eq_true rfl) rfl (fun X hG hl F M O hnm => ?_)
  subst hG; subst hl
  exact sC_J2_isEmpty F M O J hnm (fun r h q => ⟨r, rfl, q⟩) (fun _ _ _ q => q) _ _ _ w
theorem hC_J2_isEmpty : yJ2_isEmpty.cls = RJ2 ∧ yJ2_isEmpty.cls ≠ "java/lang/invoke/MethodHandle" ∧ yJ2_isEmpty.cls ≠ "java/lang/invoke/VarHandle" ∧ (parseMethodDescriptor yJ2_isEmpty.desc).map (fun d => d.parameters.length) = some 0 := by decide +kernel
/-! J21_init(Ljava/util/ArrayList;)V -/
def fC_J21_init (gk : Nat → Nat) (x0 : Option Nat) (x1 : Option Nat) (Q : jj_H → Prop) (E : String → Nat → jj_H → Prop) (h : jj_H) (k : Nat) : Prop :=
  jp_pr h x0 15 3 x1 (fun h1 =>
  jp_so x0 ∧
  jp_pi h1 x0 15 1 (-1) (fun h2 =>
  jp_gr h2 x0 15 3 (fun g3 =>
  jp_gi h2 g3 14 0 (fun g4 =>
  jp_pi h2 x0 15 2 g4 (fun h5 =>
  Q h5)))))
theorem sC_J21_init {X : jj_X} {N : Option jj_AV → jj_H → Prop} {XN : String → Nat → jj_H → Prop} (F : jj_F X RJ21 cJ21_init 2) (M : jj_M X (none) 1 20 N XN) (O : jj_no X) (J : jx_G X.1 X.2.2.1) (hi : X.2.2.2.2.2.2.2.2.2.1.name = yJ21_init.name) {Q : jj_H → Prop} {E : String → Nat → jj_H → Prop} (hQ : ∀ h, Q h → N none h) (hE : ∀ e q h, E e q h → XN e q h) (x0 : Option Nat) (x1 : Option Nat) : ∀ (h : jj_H) (k : Nat), fC_J21_init (jj_gk X.1) x0 x1 Q E h k → jj_J X 2 0 [(0, .inr (.inr (.inl x0))), (1, .inr (.inr (.inl x1)))] [] h k := by
  intro h k w
  unfold fC_J21_init at w
  refine jr_aload_n (pc := 0) F (j := 0) dJ21_init_0 rfl ?_
  refine jr_aload_n (pc := 1) F (j := 1) dJ21_init_1 rfl ?_
  refine jr_prF (pc := 2) (ci := 15) (f := 3) F rfl in_J21 tyJ21_ok nmJ21 (Nat.le_of_ble_eq_true rfl) rfl rfl rfl hi q1628 dJ21_init_2 w (fun h1 w => ?_)
  refine jr_aload_n (pc := 5) F (j := 0) dJ21_init_5 rfl ?_
  obtain ⟨ha9, w⟩ := w
  refine jr_objInitO (pc := 6) F M q1624 q192 q193 ha9 (Nat.le_of_ble_eq_true rfl) (Nat.le_of_ble_eq_true rfl) (Nat.le_of_ble_eq_true rfl) dJ21_init_6 ?_
  refine jr_aload_n (pc := 9) F (j := 0) dJ21_init_9 rfl ?_
  refine jr_iconst (pc := 10) F dJ21_init_10 ?_
  refine jr_pi (pc := 11) (ci := 15) (f := 1) F rfl in_J21 tyJ21_ok nmJ21 (Nat.le_of_ble_eq_true rfl) rfl rfl q1626 dJ21_init_11 w (fun h2 w => ?_)
  refine jr_aload_n (pc := 14) F (j := 0) dJ21_init_14 rfl ?_
  refine jr_aload_n (pc := 15) F (j := 0) dJ21_init_15 rfl ?_
  refine jr_gr (pc := 16) (ci := 15) (f := 3) F rfl in_J21 (Nat.le_of_ble_eq_true rfl) q1628 dJ21_init_16 w (fun g3 w => ?_)
  refine jr_giR (pc := 19) (ci := 14) (f := 0) F rfl in_J2 (Nat.le_of_ble_eq_true rfl) q541 q542 dJ21_init_19 w (fun g4 w => ?_)
  refine jr_pi (pc := 22) (ci := 15) (f := 2) F rfl in_J21 tyJ21_ok nmJ21 (Nat.le_of_ble_eq_true rfl) rfl rfl q1627 dJ21_init_22 w (fun h5 w => ?_)
  exact jr_vret (pc := 25) F M dJ21_init_25 (hQ _ w)

theorem cC_J21_init {G : jj_G} {l : Launch} (J : jx_G G l) {x0 : Option Nat} {x1 : Option Nat} {Q : jj_H → Prop} {E : String → Nat → jj_H → Prop} {h : jj_H} {k : Nat} (w : fC_J21_init (jj_gk G) x0 x1 Q E h k) : jj_Ct G l yJ21_init (ws_ yJ21_init cJ21_init 2 (none)) 1 20 [.inr (.inr (.inl x0)), .inr (.inr (.inl x1))] h k (jc_v Q) E := by
  refine jj_Ct.of J.1 (by decide +kernel) (Nat.le_of_ble_eq_true rfl) rfl (fun X hG hl F M O hnm => ?_)
  subst hG; subst hl
  exact sC_J21_init F M O J hnm (fun h q => ⟨rfl, q⟩) (fun _ _ _ q => q) _ _ _ _ w
theorem hC_J21_init : yJ21_init.cls = RJ21 ∧ yJ21_init.cls ≠ "java/lang/invoke/MethodHandle" ∧ yJ21_init.cls ≠ "java/lang/invoke/VarHandle" ∧ (parseMethodDescriptor yJ21_init.desc).map (fun d => d.parameters.length) = some 1 := by decide +kernel
/-! J2_iterator()Ljava/util/Iterator; -/
def fC_J2_iterator (gk : Nat → Nat) (x0 : Option Nat) (Q : Option Nat → jj_H → Prop) (E : String → Nat → jj_H → Prop) (h : jj_H) (k : Nat) : Prop :=
  jp_nw h k 15 1 df_J21 (fun a1 h2 k3 =>
  jp_so (some a1) ∧ fC_J21_init gk (some a1) x0 (fun h6 =>
  Q (some a1) h6) E h2 0)
theorem sC_J2_iterator {X : jj_X} {N : Option jj_AV → jj_H → Prop} {XN : String → Nat → jj_H → Prop} (F : jj_F X RJ2 cJ2_iterator 1) (M : jj_M X (some ((.object "java/util/Iterator"))) 2 41 N XN) (O : jj_no X) (J : jx_G X.1 X.2.2.1) (hi : X.2.2.2.2.2.2.2.2.2.1.name = yJ2_iterator.name) {Q : Option Nat → jj_H → Prop} {E : String → Nat → jj_H → Prop} (hQ : ∀ r h, Q r h → N (some (.inr (.inr (.inl r)))) h) (hE : ∀ e q h, E e q h → XN e q h) (x0 : Option Nat) : ∀ (h : jj_H) (k : Nat), fC_J2_iterator (jj_gk X.1) x0 Q E h k → jj_J X 1 0 [(0, .inr (.inr (.inl x0)))] [] h k := by
  intro h k w
  unfold fC_J2_iterator at w
  refine jr_new (pc := 0) (ci := 15) F rfl in_J21 tyJ21_ok q1619 q1620 q146 dfo_J21 rfl ⟨by decide, by decide⟩ dJ2_iterator_0 w (fun a1 h2 k3 w => ?_)
  refine jr_dup (pc := 3) F dJ2_iterator_3 rfl ?_
  refine jr_aload_n (pc := 4) F (j := 0) dJ2_iterator_4 rfl ?_
  obtain ⟨hi9, w⟩ := w
  refine jr_cI (pc := 5) (As := [_]) F M q1621 q1622 q146 q1623 dJ2_iterator_5 rfl hC_J21_init.2 rfl (Nat.le_of_ble_eq_true rfl) (Nat.le_of_ble_eq_true rfl) (Nat.le_of_ble_eq_true rfl) hi9 (Nat.zero_le _) (cC_J21_init J w) (fun v9 h6 q9 => ?_) (fun E9 q9 h9 w9 => jr_out F M O (hE _ _ _ w9))
  obtain ⟨rfl, w⟩ := q9
  exact jr_aret (pc := 8) F M (Or.inl ⟨_, rfl⟩) dJ2_iterator_8 (hQ _ _ w)

theorem cC_J2_iterator {G : jj_G} {l : Launch} (J : jx_G G l) {x0 : Option Nat} {Q : Option Nat → jj_H → Prop} {E : String → Nat → jj_H → Prop} {h : jj_H} {k : Nat} (w : fC_J2_iterator (jj_gk G) x0 Q E h k) : jj_Ct G l yJ2_iterator (ws_ yJ2_iterator cJ2_iterator 1 (some ((.object "java/util/Iterator")))) 2 41 [.inr (.inr (.inl x0))] h k (jc_r Q) E := by
  refine jj_Ct.of J.1 (by decide +kernel) (Nat.le_of_ble_eq_true rfl) rfl (fun X hG hl F M O hnm => ?_)
  subst hG; subst hl
  exact sC_J2_iterator F M O J hnm (fun r h q => ⟨r, rfl, q⟩) (fun _ _ _ q => q) _ _ _ w
theorem hC_J2_iterator : yJ2_iterator.cls = RJ2 ∧ yJ2_iterator.cls ≠ "java/lang/invoke/MethodHandle" ∧ yJ2_iterator.cls ≠ "java/lang/invoke/VarHandle" ∧ (parseMethodDescriptor yJ2_iterator.desc).map (fun d => d.parameters.length) = some 0 := by decide +kernel
/-! J2_remove(I)Ljava/lang/Object; -/
def fC_J2_remove (gk : Nat → Nat) (x0 : Option Nat) (x1 : Int) (Q : Option Nat → jj_H → Prop) (E : String → Nat → jj_H → Prop) (h : jj_H) (k : Nat) : Prop :=
  jp_gi h x0 14 2 (fun g1 =>
  fC_J32_checkIndex gk x1 g1 (fun r3 h4 =>
  jp_gr h4 x0 14 1 (fun g5 =>
  jp_rl h4 g5 0 x1 (fun g6 =>
  jp_is h4 x0 14 ∧ fC_J2_fastRemove gk x0 g5 x1 (fun h9 =>
  Q g6 h9) E h4 0))) E h 0)
theorem sC_J2_remove {X : jj_X} {N : Option jj_AV → jj_H → Prop} {XN : String → Nat → jj_H → Prop} (F : jj_F X RJ2 cJ2_remove 4) (M : jj_M X (some ((.object "java/lang/Object"))) 2 83 N XN) (O : jj_no X) (J : jx_G X.1 X.2.2.1) (hi : X.2.2.2.2.2.2.2.2.2.1.name = yJ2_remove.name) {Q : Option Nat → jj_H → Prop} {E : String → Nat → jj_H → Prop} (hQ : ∀ r h, Q r h → N (some (.inr (.inr (.inl r)))) h) (hE : ∀ e q h, E e q h → XN e q h) (x0 : Option Nat) (x1 : Int) : ∀ (h : jj_H) (k : Nat), fC_J2_remove (jj_gk X.1) x0 x1 Q E h k → jj_J X 4 0 [(0, .inr (.inr (.inl x0))), (1, .inl x1)] [] h k := by
  intro h k w
  unfold fC_J2_remove at w
  refine jr_iload_n (pc := 0) F (j := 1) dJ2_remove_0 rfl ?_
  refine jr_aload_n (pc := 1) F (j := 0) dJ2_remove_1 rfl ?_
  refine jr_gi (pc := 2) (ci := 14) (f := 2) F rfl in_J2 (Nat.le_of_ble_eq_true rfl) q539 dJ2_remove_2 w (fun g1 w => ?_)
  refine jr_callS (pc := 5) (As := [_, _]) F M (lw_S q684 q685 q158 q686) dJ2_remove_5 hC_J32_checkIndex.2 rfl (Nat.le_of_ble_eq_true rfl) (Nat.le_of_ble_eq_true rfl) (Nat.le_of_ble_eq_true rfl) (Nat.zero_le _) (cC_J32_checkIndex J w) (fun v9 h4 q9 => ?_) (fun E9 q9 h9 w9 => jr_out F M O (hE _ _ _ w9))
  obtain ⟨r3, rfl, w⟩ := q9
  refine jr_pop (pc := 8) F dJ2_remove_8 rfl ?_
  refine jr_aload_n (pc := 9) F (j := 0) dJ2_remove_9 rfl ?_
  refine jr_gr (pc := 10) (ci := 14) (f := 1) F rfl in_J2 (Nat.le_of_ble_eq_true rfl) q536 dJ2_remove_10 w (fun g5 w => ?_)
  refine jr_astore_n (pc := 13) F (vs' := [(2, .inr (.inr (.inl _))), (0, .inr (.inr (.inl _))), (1, .inl _)]) dJ2_remove_13 (Nat.le_of_ble_eq_true rfl) rfl ?_
  refine jr_aload_n (pc := 14) F (j := 0) dJ2_remove_14 rfl ?_
  refine jr_iload_n (pc := 15) F (j := 2) dJ2_remove_15 rfl ?_
  refine jr_aald (pc := 16) F ⟨4, _, fun _ => rfl⟩ dJ2_remove_16 w (fun g6 w => ?_)
  refine jr_astore_n (pc := 17) F (vs' := [(3, .inr (.inr (.inl _))), (2, .inr (.inr (.inl _))), (0, .inr (.inr (.inl _))), (1, .inl _)]) dJ2_remove_17 (Nat.le_of_ble_eq_true rfl) rfl ?_
  refine jr_aload_n (pc := 18) F (j := 2) dJ2_remove_18 rfl ?_
  refine jr_aload_n (pc := 19) F (j := 1) dJ2_remove_19 rfl ?_
  refine jr_iload_n (pc := 20) F (j := 3) dJ2_remove_20 rfl ?_
  obtain ⟨hi9, w⟩ := w
  refine jr_cV (pc := 21) (As := [_, _]) (ci := 14) F M (lw_V q2891 q2893 qs42 q124 q2894) dJ2_remove_21 hC_J2_fastRemove rfl (Nat.le_of_ble_eq_true rfl) (Nat.le_of_ble_eq_true rfl) (Nat.le_of_ble_eq_true rfl) rfl hi9 (Nat.zero_le _) (cC_J2_fastRemove J w) (fun v9 h9 q9 => ?_) (fun E9 q9 h9 w9 => jr_out F M O (hE _ _ _ w9))
  obtain ⟨rfl, w⟩ := q9
  refine jr_aload_n (pc := 24) F (j := 0) dJ2_remove_24 rfl ?_
  exact jr_aret (pc := 25) F M (Or.inl ⟨_, rfl⟩) dJ2_remove_25 (hQ _ _ w)

theorem cC_J2_remove {G : jj_G} {l : Launch} (J : jx_G G l) {x0 : Option Nat} {x1 : Int} {Q : Option Nat → jj_H → Prop} {E : String → Nat → jj_H → Prop} {h : jj_H} {k : Nat} (w : fC_J2_remove (jj_gk G) x0 x1 Q E h k) : jj_Ct G l yJ2_remove (ws_ yJ2_remove cJ2_remove 4 (some ((.object "java/lang/Object")))) 2 83 [.inr (.inr (.inl x0)), .inl x1] h k (jc_r Q) E := by
  refine jj_Ct.of J.1 (by decide +kernel) (Nat.le_of_ble_eq_true rfl) rfl (fun X hG hl F M O hnm => ?_)
  subst hG; subst hl
  exact sC_J2_remove F M O J hnm (fun r h q => ⟨r, rfl, q⟩) (fun _ _ _ q => q) _ _ _ _ w
theorem hC_J2_remove : yJ2_remove.cls = RJ2 ∧ yJ2_remove.cls ≠ "java/lang/invoke/MethodHandle" ∧ yJ2_remove.cls ≠ "java/lang/invoke/VarHandle" ∧ (parseMethodDescriptor yJ2_remove.desc).map (fun d => d.parameters.length) = some 1 := by decide +kernel
/-! J2_set(ILjava/lang/Object;)Ljava/lang/Object; -/
def fC_J2_set (gk : Nat → Nat) (x0 : Option Nat) (x1 : Int) (x2 : Option Nat) (Q : Option Nat → jj_H → Prop) (E : String → Nat → jj_H → Prop) (h : jj_H) (k : Nat) : Prop :=
  jp_gi h x0 14 2 (fun g1 =>
  fC_J32_checkIndex gk x1 g1 (fun r3 h4 =>
  jp_is h4 x0 14 ∧ fC_J2_elementData gk x0 x1 (fun r6 h7 =>
  jp_gr h7 x0 14 1 (fun g8 =>
  jp_ro h7 g8 x1 x2 (fun h9 =>
  Q r6 h9))) E h4 0) E h 0)
theorem sC_J2_set {X : jj_X} {N : Option jj_AV → jj_H → Prop} {XN : String → Nat → jj_H → Prop} (F : jj_F X RJ2 cJ2_set 4) (M : jj_M X (some ((.object "java/lang/Object"))) 2 43 N XN) (O : jj_no X) (J : jx_G X.1 X.2.2.1) (hi : X.2.2.2.2.2.2.2.2.2.1.name = yJ2_set.name) {Q : Option Nat → jj_H → Prop} {E : String → Nat → jj_H → Prop} (hQ : ∀ r h, Q r h → N (some (.inr (.inr (.inl r)))) h) (hE : ∀ e q h, E e q h → XN e q h) (x0 : Option Nat) (x1 : Int) (x2 : Option Nat) : ∀ (h : jj_H) (k : Nat), fC_J2_set (jj_gk X.1) x0 x1 x2 Q E h k → jj_J X 4 0 [(0, .inr (.inr (.inl x0))), (1, .inl x1), (2, .inr (.inr (.inl x2)))] [] h k := by
  intro h k w
  unfold fC_J2_set at w
  refine jr_iload_n (pc := 0) F (j := 1) dJ2_set_0 rfl ?_
  refine jr_aload_n (pc := 1) F (j := 0) dJ2_set_1 rfl ?_
  refine jr_gi (pc := 2) (ci := 14) (f := 2) F rfl in_J2 (Nat.le_of_ble_eq_true rfl) q539 dJ2_set_2 w (fun g1 w => ?_)
  refine jr_callS (pc := 5) (As := [_, _]) F M (lw_S q684 q685 q158 q686) dJ2_set_5 hC_J32_checkIndex.2 rfl (Nat.le_of_ble_eq_true rfl) (Nat.le_of_ble_eq_true rfl) (Nat.le_of_ble_eq_true rfl) (Nat.zero_le _) (cC_J32_checkIndex J w) (fun v9 h4 q9 => ?_) (fun E9 q9 h9 w9 => jr_out F M O (hE _ _ _ w9))
  obtain ⟨r3, rfl, w⟩ := q9
  refine jr_pop (pc := 8) F dJ2_set_8 rfl ?_
  refine jr_aload_n (pc := 9) F (j := 0) dJ2_set_9 rfl ?_
  refine jr_iload_n (pc := 10) F (j := 1) dJ2_set_10 rfl ?_
  obtain ⟨hi9, w⟩ := w
  refine jr_cV (pc := 11) (As := [_]) (ci := 14) F M (lw_V q690 q691 q692 q124 q693) dJ2_set_11 hC_J2_elementData rfl (Nat.le_of_ble_eq_true rfl) (Nat.le_of_ble_eq_true rfl) (Nat.le_of_ble_eq_true rfl) rfl hi9 (Nat.zero_le _) (cC_J2_elementData J w) (fun v9 h7 q9 => ?_) (fun E9 q9 h9 w9 => jr_out F M O (hE _ _ _ w9))
  obtain ⟨r6, rfl, w⟩ := q9
  refine jr_astore_n (pc := 14) F (vs' := [(3, .inr (.inr (.inl _))), (0, .inr (.inr (.inl _))), (1, .inl _), (2, .inr (.inr (.inl _)))]) dJ2_set_14 (Nat.le_of_ble_eq_true rfl) rfl ?_
  refine jr_aload_n (pc := 15) F (j := 1) dJ2_set_15 rfl ?_
  refine jr_gr (pc := 16) (ci := 14) (f := 1) F rfl in_J2 (Nat.le_of_ble_eq_true rfl) q536 dJ2_set_16 w (fun g8 w => ?_)
  refine jr_iload_n (pc := 19) F (j := 2) dJ2_set_19 rfl ?_
  refine jr_aload_n (pc := 20) F (j := 3) dJ2_set_20 rfl ?_
  refine jr_aastO (pc := 21) F dJ2_set_21 w (fun h9 w => ?_)
  refine jr_aload_n (pc := 22) F (j := 0) dJ2_set_22 rfl ?_
  exact jr_aret (pc := 23) F M (Or.inl ⟨_, rfl⟩) dJ2_set_23 (hQ _ _ w)

theorem cC_J2_set {G : jj_G} {l : Launch} (J : jx_G G l) {x0 : Option Nat} {x1 : Int} {x2 : Option Nat} {Q : Option Nat → jj_H → Prop} {E : String → Nat → jj_H → Prop} {h : jj_H} {k : Nat} (w : fC_J2_set (jj_gk G) x0 x1 x2 Q E h k) : jj_Ct G l yJ2_set (ws_ yJ2_set cJ2_set 4 (some ((.object "java/lang/Object")))) 2 43 [.inr (.inr (.inl x0)), .inl x1, .inr (.inr (.inl x2))] h k (jc_r Q) E := by
  refine jj_Ct.of J.1 (by decide +kernel) (Nat.le_of_ble_eq_true rfl) rfl (fun X hG hl F M O hnm => ?_)
  subst hG; subst hl
  exact sC_J2_set F M O J hnm (fun r h q => ⟨r, rfl, q⟩) (fun _ _ _ q => q) _ _ _ _ _ w
theorem hC_J2_set : yJ2_set.cls = RJ2 ∧ yJ2_set.cls ≠ "java/lang/invoke/MethodHandle" ∧ yJ2_set.cls ≠ "java/lang/invoke/VarHandle" ∧ (parseMethodDescriptor yJ2_set.desc).map (fun d => d.parameters.length) = some 2 := by decide +kernel
/-! J2_size()I -/
def fC_J2_size (gk : Nat → Nat) (x0 : Option Nat) (Q : Int → jj_H → Prop) (E : String → Nat → jj_H → Prop) (h : jj_H) (k : Nat) : Prop :=
  jp_gi h x0 14 2 (fun g1 =>
  Q g1 h)
theorem sC_J2_size {X : jj_X} {N : Option jj_AV → jj_H → Prop} {XN : String → Nat → jj_H → Prop} (F : jj_F X RJ2 cJ2_size 1) (M : jj_M X (some (.int)) 0 0 N XN) (O : jj_no X) (J : jx_G X.1 X.2.2.1) (hi : X.2.2.2.2.2.2.2.2.2.1.name = yJ2_size.name) {Q : Int → jj_H → Prop} {E : String → Nat → jj_H → Prop} (hQ : ∀ r h, Q r h → N (some (.inl r)) h) (hE : ∀ e q h, E e q h → XN e q h) (x0 : Option Nat) : ∀ (h : jj_H) (k : Nat), fC_J2_size (jj_gk X.1) x0 Q E h k → jj_J X 1 0 [(0, .inr (.inr (.inl x0)))] [] h k := by
  intro h k w
  unfold fC_J2_size at w
  refine jr_aload_n (pc := 0) F (j := 0) dJ2_size_0 rfl ?_
  refine jr_gi (pc := 1) (ci := 14) (f := 2) F rfl in_J2 (Nat.le_of_ble_eq_true rfl) q539 dJ2_size_1 w (fun g1 w => ?_)
  exact jr_iret (pc := 4) F M dJ2_size_4 (hQ _ _ w)

theorem cC_J2_size {G : jj_G} {l : Launch} (J : jx_G G l) {x0 : Option Nat} {Q : Int → jj_H → Prop} {E : String → Nat → jj_H → Prop} {h : jj_H} {k : Nat} (w : fC_J2_size (jj_gk G) x0 Q E h k) : jj_Ct G l yJ2_size (ws_ yJ2_size cJ2_size 1 (some (.int))) 0 0 [.inr (.inr (.inl x0))] h k (jc_i Q) E := by
  refine jj_Ct.of J.1 (by decide +kernel) (Nat.le_of_ble_eq_true rfl) rfl (fun X hG hl F M O hnm => ?_)
  subst hG; subst hl
  exact sC_J2_size F M O J hnm (fun r h q => ⟨r, rfl, q⟩) (fun _ _ _ q => q) _ _ _ w
theorem hC_J2_size : yJ2_size.cls = RJ2 ∧ yJ2_size.cls ≠ "java/lang/invoke/MethodHandle" ∧ yJ2_size.cls ≠ "java/lang/invoke/VarHandle" ∧ (parseMethodDescriptor yJ2_size.desc).map (fun d => d.parameters.length) = some 0 := by decide +kernel
/-! J21_checkForComodification()V -/
def fC_J21_checkForComodification (gk : Nat → Nat) (x0 : Option Nat) (Q : jj_H → Prop) (E : String → Nat → jj_H → Prop) (h : jj_H) (k : Nat) : Prop :=
  jp_gr h x0 15 3 (fun g1 =>
  jp_gi h g1 14 0 (fun g2 =>
  jp_gi h x0 15 2 (fun g3 =>
  (g2 = g3 ∨ (jj_r g2 ∧ jj_r g3)) ∧ (g2 = g3 → (
    Q h)) ∧
  (¬ g2 = g3 → (
    False)))))
theorem sC_J21_checkForComodification {X : jj_X} {N : Option jj_AV → jj_H → Prop} {XN : String → Nat → jj_H → Prop} (F : jj_F X RJ21 cJ21_checkForComodification 1) (M : jj_M X (none) 0 0 N XN) (O : jj_no X) (J : jx_G X.1 X.2.2.1) (hi : X.2.2.2.2.2.2.2.2.2.1.name = yJ21_checkForComodification.name) {Q : jj_H → Prop} {E : String → Nat → jj_H → Prop} (hQ : ∀ h, Q h → N none h) (hE : ∀ e q h, E e q h → XN e q h) (x0 : Option Nat) : ∀ (h : jj_H) (k : Nat), fC_J21_checkForComodification (jj_gk X.1) x0 Q E h k → jj_J X 1 0 [(0, .inr (.inr (.inl x0)))] [] h k := by
  intro h k w
  unfold fC_J21_checkForComodification at w
  refine jr_aload_n (pc := 0) F (j := 0) dJ21_checkForComodification_0 rfl ?_
  refine jr_gr (pc := 1) (ci := 15) (f := 3) F rfl in_J21 (Nat.le_of_ble_eq_true rfl) q1628 dJ21_checkForComodification_1 w (fun g1 w => ?_)
  refine jr_giR (pc := 4) (ci := 14) (f := 0) F rfl in_J2 (Nat.le_of_ble_eq_true rfl) q541 q542 dJ21_checkForComodification_4 w (fun g2 w => ?_)
  refine jr_aload_n (pc := 7) F (j := 0) dJ21_checkForComodification_7 rfl ?_
  refine jr_gi (pc := 8) (ci := 15) (f := 2) F rfl in_J21 (Nat.le_of_ble_eq_true rfl) q1627 dJ21_checkForComodification_8 w (fun g3 w => ?_)
  obtain ⟨hx9, w1, w2⟩ := w
  refine jr_icmp_eqS (pc := 11) (tgt := 22) F hx9 dJ21_checkForComodification_11 rfl (fun c9 => ?_) (fun c9 => ?_)
  · have w := w1 c9
    exact jr_vret (pc := 22) F M dJ21_checkForComodification_22 (hQ _ w)
  · have w := w2 c9
    exact (show False from w).elim

theorem cC_J21_checkForComodification {G : jj_G} {l : Launch} (J : jx_G G l) {x0 : Option Nat} {Q : jj_H → Prop} {E : String → Nat → jj_H → Prop} {h : jj_H} {k : Nat} (w : fC_J21_checkForComodification (jj_gk G) x0 Q E h k) : jj_Ct G l yJ21_checkForComodification (ws_ yJ21_checkForComodification cJ21_checkForComodification 1 (none)) 0 0 [.inr (.inr (.inl x0))] h k (jc_v Q) E := by
  refine jj_Ct.of J.1 (by decide +kernel) (Nat.le_of_ble_eq_true rfl) rfl (fun X hG hl F M O hnm => ?_)
  subst hG; subst hl
  exact sC_J21_checkForComodification F M O J hnm (fun h q => ⟨rfl, q⟩) (fun _ _ _ q => q) _ _ _ w
theorem hC_J21_checkForComodification : yJ21_checkForComodification.cls = RJ21 ∧ yJ21_checkForComodification.cls ≠ "java/lang/invoke/MethodHandle" ∧ yJ21_checkForComodification.cls ≠ "java/lang/invoke/VarHandle" ∧ (parseMethodDescriptor yJ21_checkForComodification.desc).map (fun d => d.parameters.length) = some 0 := by decide +kernel
/-! J21_hasNext()Z -/
def fC_J21_hasNext (gk : Nat → Nat) (x0 : Option Nat) (Q : Int → jj_H → Prop) (E : String → Nat → jj_H → Prop) (h : jj_H) (k : Nat) : Prop :=
  jp_gi h x0 15 0 (fun g1 =>
  jp_gr h x0 15 3 (fun g2 =>
  jp_gi h g2 14 2 (fun g3 =>
  jj_r g1 ∧ jj_r g3 ∧ (g1 = g3 → (
    Q 0 h)) ∧
  (¬ g1 = g3 → (
    Q 1 h)))))
theorem sC_J21_hasNext {X : jj_X} {N : Option jj_AV → jj_H → Prop} {XN : String → Nat → jj_H → Prop} (F : jj_F X RJ21 cJ21_hasNext 1) (M : jj_M X (some (.boolean)) 0 0 N XN) (O : jj_no X) (J : jx_G X.1 X.2.2.1) (hi : X.2.2.2.2.2.2.2.2.2.1.name = yJ21_hasNext.name) {Q : Int → jj_H → Prop} {E : String → Nat → jj_H → Prop} (hQ : ∀ r h, Q r h → N (some (.inl r)) h) (hE : ∀ e q h, E e q h → XN e q h) (x0 : Option Nat) : ∀ (h : jj_H) (k : Nat), fC_J21_hasNext (jj_gk X.1) x0 Q E h k → jj_J X 1 0 [(0, .inr (.inr (.inl x0)))] [] h k := by
  intro h k w
  unfold fC_J21_hasNext at w
  refine jr_aload_n (pc := 0) F (j := 0) dJ21_hasNext_0 rfl ?_
  refine jr_gi (pc := 1) (ci := 15) (f := 0) F rfl in_J21 (Nat.le_of_ble_eq_true rfl) q1625 dJ21_hasNext_1 w (fun g1 w => ?_)
  refine jr_aload_n (pc := 4) F (j := 0) dJ21_hasNext_4 rfl ?_
  refine jr_gr (pc := 5) (ci := 15) (f := 3) F rfl in_J21 (Nat.le_of_ble_eq_true rfl) q1628 dJ21_hasNext_5 w (fun g2 w => ?_)
  refine jr_giN (pc := 8) (ci := 14) (f := 2) F rfl in_J2 (Nat.le_of_ble_eq_true rfl) q538 dJ21_hasNext_8 w (fun g3 w => ?_)
  obtain ⟨hx9, hy9, w1, w2⟩ := w
  refine jr_icmp_eq (pc := 11) (tgt := 18) F hx9 hy9 dJ21_hasNext_11 rfl (fun c9 => ?_) (fun c9 => ?_)
  · have w := w1 c9
    refine jr_iconst (pc := 18) F dJ21_hasNext_18 ?_
    exact jr_zret (pc := 19) F M dJ21_hasNext_19 (by decide) (hQ _ _ w)
  · have w := w2 c9
    refine jr_iconst (pc := 14) F dJ21_hasNext_14 ?_
    refine jr_goto (pc := 15) (tgt := 19) F dJ21_hasNext_15 rfl ?_
    exact jr_zret (pc := 19) F M dJ21_hasNext_19 (by decide) (hQ _ _ w)

theorem cC_J21_hasNext {G : jj_G} {l : Launch} (J : jx_G G l) {x0 : Option Nat} {Q : Int → jj_H → Prop} {E : String → Nat → jj_H → Prop} {h : jj_H} {k : Nat} (w : fC_J21_hasNext (jj_gk G) x0 Q E h k) : jj_Ct G l yJ21_hasNext (ws_ yJ21_hasNext cJ21_hasNext 1 (some (.boolean))) 0 0 [.inr (.inr (.inl x0))] h k (jc_i Q) E := by
  refine jj_Ct.of J.1 (by decide +kernel) (Nat.le_of_ble_eq_true rfl) rfl (fun X hG hl F M O hnm => ?_)
  subst hG; subst hl
  exact sC_J21_hasNext F M O J hnm (fun r h q => ⟨r, rfl, q⟩) (fun _ _ _ q => q) _ _ _ w
theorem hC_J21_hasNext : yJ21_hasNext.cls = RJ21 ∧ yJ21_hasNext.cls ≠ "java/lang/invoke/MethodHandle" ∧ yJ21_hasNext.cls ≠ "java/lang/invoke/VarHandle" ∧ (parseMethodDescriptor yJ21_hasNext.desc).map (fun d => d.parameters.length) = some 0 := by decide +kernel
/-! J21_next()Ljava/lang/Object; -/
def fC_J21_next (gk : Nat → Nat) (x0 : Option Nat) (Q : Option Nat → jj_H → Prop) (E : String → Nat → jj_H → Prop) (h : jj_H) (k : Nat) : Prop :=
  jp_is h x0 15 ∧ fC_J21_checkForComodification gk x0 (fun h3 =>
  jp_gi h3 x0 15 0 (fun g4 =>
  jp_gr h3 x0 15 3 (fun g5 =>
  jp_gi h3 g5 14 2 (fun g6 =>
  jj_r g4 ∧ jj_r g6 ∧ (g4 < g6 → (
    jp_gr h3 x0 15 3 (fun g7 =>
    jp_gr h3 g7 14 1 (fun g8 =>
    jp_ar h3 g8 0 (fun g9 =>
    jj_r g4 ∧ jj_r g9 ∧ (g4 < g9 → (
      jp_pi h3 x0 15 0 (g4 + 1) (fun h10 =>
      jp_pi h10 x0 15 1 g4 (fun h11 =>
      jp_rl h11 g8 0 g4 (fun g12 =>
      Q g12 h11))))) ∧
    (¬ g4 < g9 → (
      False))))))) ∧
  (¬ g4 < g6 → (
    False)))))) E h 0
theorem sC_J21_next {X : jj_X} {N : Option jj_AV → jj_H → Prop} {XN : String → Nat → jj_H → Prop} (F : jj_F X RJ21 cJ21_next 3) (M : jj_M X (some ((.object "java/lang/Object"))) 1 20 N XN) (O : jj_no X) (J : jx_G X.1 X.2.2.1) (hi : X.2.2.2.2.2.2.2.2.2.1.name = yJ21_next.name) {Q : Option Nat → jj_H → Prop} {E : String → Nat → jj_H → Prop} (hQ : ∀ r h, Q r h → N (some (.inr (.inr (.inl r)))) h) (hE : ∀ e q h, E e q h → XN e q h) (x0 : Option Nat) : ∀ (h : jj_H) (k : Nat), fC_J21_next (jj_gk X.1) x0 Q E h k → jj_J X 3 0 [(0, .inr (.inr (.inl x0)))] [] h k := by
  intro h k w
  unfold fC_J21_next at w
  refine jr_aload_n (pc := 0) F (j := 0) dJ21_next_0 rfl ?_
  obtain ⟨hi9, w⟩ := w
  refine jr_cV (pc := 1) (As := []) (ci := 15) F M (lw_V q1111 q1112 q1113 q146 q1114) dJ21_next_1 hC_J21_checkForComodification rfl (Nat.le_of_ble_eq_true rfl) (Nat.le_of_ble_eq_true rfl) (Nat.le_of_ble_eq_true rfl) rfl hi9 (Nat.zero_le _) (cC_J21_checkForComodification J w) (fun v9 h3 q9 => ?_) (fun E9 q9 h9 w9 => jr_out F M O (hE _ _ _ w9))
  obtain ⟨rfl, w⟩ := q9
  refine jr_aload_n (pc := 4) F (j := 0) dJ21_next_4 rfl ?_
  refine jr_gi (pc := 5) (ci := 15) (f := 0) F rfl in_J21 (Nat.le_of_ble_eq_true rfl) q1625 dJ21_next_5 w (fun g4 w => ?_)
  refine jr_istore_n (pc := 8) F (vs' := [(1, .inl _), (0, .inr (.inr (.inl _)))]) dJ21_next_8 (Nat.le_of_ble_eq_true rfl) rfl ?_
  refine jr_iload_n (pc := 9) F (j := 0) dJ21_next_9 rfl ?_
  refine jr_aload_n (pc := 10) F (j := 1) dJ21_next_10 rfl ?_
  refine jr_gr (pc := 11) (ci := 15) (f := 3) F rfl in_J21 (Nat.le_of_ble_eq_true rfl) q1628 dJ21_next_11 w (fun g5 w => ?_)
  refine jr_giN (pc := 14) (ci := 14) (f := 2) F rfl in_J2 (Nat.le_of_ble_eq_true rfl) q538 dJ21_next_14 w (fun g6 w => ?_)
  obtain ⟨hx9, hy9, w1, w2⟩ := w
  refine jr_icmp_lt (pc := 17) (tgt := 28) F hx9 hy9 dJ21_next_17 rfl (fun c9 => ?_) (fun c9 => ?_)
  · have w := w1 c9
    refine jr_aload_n (pc := 28) F (j := 1) dJ21_next_28 rfl ?_
    refine jr_gr (pc := 29) (ci := 15) (f := 3) F rfl in_J21 (Nat.le_of_ble_eq_true rfl) q1628 dJ21_next_29 w (fun g7 w => ?_)
    refine jr_gr (pc := 32) (ci := 14) (f := 1) F rfl in_J2 (Nat.le_of_ble_eq_true rfl) q537 dJ21_next_32 w (fun g8 w => ?_)
    refine jr_astore_n (pc := 35) F (vs' := [(2, .inr (.inr (.inl _))), (1, .inl _), (0, .inr (.inr (.inl _)))]) dJ21_next_35 (Nat.le_of_ble_eq_true rfl) rfl ?_
    refine jr_iload_n (pc := 36) F (j := 1) dJ21_next_36 rfl ?_
    refine jr_aload_n (pc := 37) F (j := 0) dJ21_next_37 rfl ?_
    refine jr_alenR (pc := 38) F ⟨4, _, fun _ => rfl⟩ dJ21_next_38 w (fun g9 w => ?_)
    obtain ⟨hx9, hy9, w1, w2⟩ := w
    refine jr_icmp_lt (pc := 39) (tgt := 50) F hx9 hy9 dJ21_next_39 rfl (fun c9 => ?_) (fun c9 => ?_)
    · have w := w1 c9
      refine jr_aload_n (pc := 50) F (j := 2) dJ21_next_50 rfl ?_
      refine jr_iload_n (pc := 51) F (j := 1) dJ21_next_51 rfl ?_
      refine jr_iconst (pc := 52) F dJ21_next_52 ?_
      refine jr_iadd (pc := 53) F dJ21_next_53 ?_
      refine jr_pi (pc := 54) (ci := 15) (f := 0) F rfl in_J21 tyJ21_ok nmJ21 (Nat.le_of_ble_eq_true rfl) rfl rfl q1625 dJ21_next_54 w (fun h10 w => ?_)
      refine jr_aload_n (pc := 57) F (j := 0) dJ21_next_57 rfl ?_
      refine jr_aload_n (pc := 58) F (j := 2) dJ21_next_58 rfl ?_
      refine jr_iload_n (pc := 59) F (j := 1) dJ21_next_59 rfl ?_
      refine jr_dup_x1 (pc := 60) F dJ21_next_60 rfl rfl ?_
      refine jr_pi (pc := 61) (ci := 15) (f := 1) F rfl in_J21 tyJ21_ok nmJ21 (Nat.le_of_ble_eq_true rfl) rfl rfl q1626 dJ21_next_61 w (fun h11 w => ?_)
      refine jr_aald (pc := 64) F ⟨4, _, fun _ => rfl⟩ dJ21_next_64 w (fun g12 w => ?_)
      exact jr_aret (pc := 65) F M (Or.inl ⟨_, rfl⟩) dJ21_next_65 (hQ _ _ w)
    · have w := w2 c9
      exact (show False from w).elim
  · have w := w2 c9
    exact (show False from w).elim

theorem cC_J21_next {G : jj_G} {l : Launch} (J : jx_G G l) {x0 : Option Nat} {Q : Option Nat → jj_H → Prop} {E : String → Nat → jj_H → Prop} {h : jj_H} {k : Nat} (w : fC_J21_next (jj_gk G) x0 Q E h k) : jj_Ct G l yJ21_next (ws_ yJ21_next cJ21_next 3 (some ((.object "java/lang/Object")))) 1 20 [.inr (.inr (.inl x0))] h k (jc_r Q) E := by
  refine jj_Ct.of J.1 (by decide +kernel) (Nat.le_of_ble_eq_true rfl) rfl (fun X hG hl F M O hnm => ?_)
  subst hG; subst hl
  exact sC_J21_next F M O J hnm (fun r h q => ⟨r, rfl, q⟩) (fun _ _ _ q => q) _ _ _ w
theorem hC_J21_next : yJ21_next.cls = RJ21 ∧ yJ21_next.cls ≠ "java/lang/invoke/MethodHandle" ∧ yJ21_next.cls ≠ "java/lang/invoke/VarHandle" ∧ (parseMethodDescriptor yJ21_next.desc).map (fun d => d.parameters.length) = some 0 := by decide +kernel
