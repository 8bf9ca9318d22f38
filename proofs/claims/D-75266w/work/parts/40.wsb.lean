set_option maxRecDepth 100000
/-! J13_checkLength(II)V -/
def fC_J13_checkLength (gk : Nat → Nat) (x0 : Int) (x1 : Int) (Q : jj_H → Prop) (E : String → Nat → jj_H → Prop) (h : jj_H) (k : Nat) : Prop :=
  jj_r x1 ∧ jj_r x0 ∧ (x0 ≤ x1 → (
    Q h)) ∧
  (¬ x0 ≤ x1 → (
    False))
theorem sC_J13_checkLength {X : jj_X} {N : Option jj_AV → jj_H → Prop} {XN : String → Nat → jj_H → Prop} (F : jj_F X RJ13 cJ13_checkLength 2) (M : jj_M X (none) 0 0 N XN) (O : jj_no X) (J : jx_G X.1 X.2.2.1) (hi : X.2.2.2.2.2.2.2.2.2.1.name = yJ13_checkLength.name) {Q : jj_H → Prop} {E : String → Nat → jj_H → Prop} (hQ : ∀ h, Q h → N none h) (hE : ∀ e q h, E e q h → XN e q h) (x0 : Int) (x1 : Int) : ∀ (h : jj_H) (k : Nat), fC_J13_checkLength (jj_gk X.1) x0 x1 Q E h k → jj_J X 2 0 [(0, .inl x0), (1, .inl x1)] [] h k := by
  intro h k w
  unfold fC_J13_checkLength at w
  refine jr_iload_n (pc := 0) F (j := 1) dJ13_checkLength_0 rfl ?_
  refine jr_iload_n (pc := 1) F (j := 0) dJ13_checkLength_1 rfl ?_
  obtain ⟨hx9, hy9, w1, w2⟩ := w
  refine jr_icmp_ge (pc := 2) (tgt := 37) F hx9 hy9 dJ13_checkLength_2 rfl (fun c9 => ?_) (fun c9 => ?_)
  · have w := w1 c9
    exact jr_vret (pc := 37) F M dJ13_checkLength_37 (hQ _ w)
  · have w := w2 c9
    exact (show False from w).elim

theorem cC_J13_checkLength {G : jj_G} {l : Launch} (J : jx_G G l) {x0 : Int} {x1 : Int} {Q : jj_H → Prop} {E : String → Nat → jj_H → Prop} {h : jj_H} {k : Nat} (w : fC_J13_checkLength (jj_gk G) x0 x1 Q E h k) : jj_Ct G l yJ13_checkLength (ws_ yJ13_checkLength cJ13_checkLength 2 (none)) 0 0 [.inl x0, .inl x1] h k (jc_v Q) E := by
  refine jj_Ct.of J.1 (by decide +kernel) (Nat.le_of_ble_eq_true rfl) rfl (fun X hG hl F M O hnm => ?_)
  subst hG; subst hl
  exact sC_J13_checkLength F M O J hnm (fun h q => ⟨rfl, q⟩) (fun _ _ _ q => q) _ _ _ _ w
theorem hC_J13_checkLength : yJ13_checkLength.cls = RJ13 ∧ yJ13_checkLength.cls ≠ "java/lang/invoke/MethodHandle" ∧ yJ13_checkLength.cls ≠ "java/lang/invoke/VarHandle" ∧ (parseMethodDescriptor yJ13_checkLength.desc).map (fun d => d.parameters.length) = some 2 := by decide +kernel
/-! J13_copyOf([BI)[B -/
def fC_J13_copyOf (gk : Nat → Nat) (x0 : Option Nat) (x1 : Int) (Q : Option Nat → jj_H → Prop) (E : String → Nat → jj_H → Prop) (h : jj_H) (k : Nat) : Prop :=
  jp_ai h x0 2 (fun g1 =>
  jj_r x1 ∧ jj_r g1 ∧ (¬ x1 = g1 → (
    jp_ni h k 2 x1 (fun a2 h3 k4 =>
    jp_ai h3 x0 2 (fun g5 =>
    jj_r g5 ∧ jj_r x1 ∧
    jp_acB h3 x0 0 (some a2) 0 (min g5 x1) (fun h6 =>
    Q (some a2) h6))))) ∧
  (x1 = g1 → (
    False)))
theorem sC_J13_copyOf {X : jj_X} {N : Option jj_AV → jj_H → Prop} {XN : String → Nat → jj_H → Prop} (F : jj_F X RJ13 cJ13_copyOf 3) (M : jj_M X (some ((.array .byte))) 1 60 N XN) (O : jj_no X) (J : jx_G X.1 X.2.2.1) (hi : X.2.2.2.2.2.2.2.2.2.1.name = yJ13_copyOf.name) {Q : Option Nat → jj_H → Prop} {E : String → Nat → jj_H → Prop} (hQ : ∀ r h, Q r h → N (some (.inr (.inr (.inl r)))) h) (hE : ∀ e q h, E e q h → XN e q h) (x0 : Option Nat) (x1 : Int) : ∀ (h : jj_H) (k : Nat), fC_J13_copyOf (jj_gk X.1) x0 x1 Q E h k → jj_J X 3 0 [(0, .inr (.inr (.inl x0))), (1, .inl x1)] [] h k := by
  intro h k w
  unfold fC_J13_copyOf at w
  refine jr_iload_n (pc := 0) F (j := 1) dJ13_copyOf_0 rfl ?_
  refine jr_aload_n (pc := 1) F (j := 0) dJ13_copyOf_1 rfl ?_
  refine jr_alenI (pc := 2) F ⟨2, _, fun _ => rfl⟩ dJ13_copyOf_2 w (fun g1 w => ?_)
  obtain ⟨hx9, hy9, w1, w2⟩ := w
  refine jr_icmp_ne (pc := 3) (tgt := 14) F hx9 hy9 dJ13_copyOf_3 rfl (fun c9 => ?_) (fun c9 => ?_)
  · have w := w1 c9
    refine jr_iload_n (pc := 14) F (j := 1) dJ13_copyOf_14 rfl ?_
    refine jr_newB (pc := 15) F q294 dJ13_copyOf_15 w (fun a2 h3 k4 w => ?_)
    refine jr_astore_n (pc := 17) F (vs' := [(2, .inr (.inr (.inl _))), (0, .inr (.inr (.inl _))), (1, .inl _)]) dJ13_copyOf_17 (Nat.le_of_ble_eq_true rfl) rfl ?_
    refine jr_aload_n (pc := 18) F (j := 1) dJ13_copyOf_18 rfl ?_
    refine jr_iconst (pc := 19) F dJ13_copyOf_19 ?_
    refine jr_aload_n (pc := 20) F (j := 0) dJ13_copyOf_20 rfl ?_
    refine jr_iconst (pc := 21) F dJ13_copyOf_21 ?_
    refine jr_aload_n (pc := 22) F (j := 1) dJ13_copyOf_22 rfl ?_
    refine jr_alenI (pc := 23) F ⟨2, _, fun _ => rfl⟩ dJ13_copyOf_23 w (fun g5 w => ?_)
    refine jr_iload_n (pc := 24) F (j := 2) dJ13_copyOf_24 rfl ?_
    obtain ⟨hx9, hy9, w⟩ := w
    refine jr_mmin (pc := 25) F M hx9 hy9 q336 (Nat.le_of_ble_eq_true rfl) (Nat.le_of_ble_eq_true rfl) (Nat.le_of_ble_eq_true rfl) dJ13_copyOf_25 ?_
    refine jr_acB (pc := 28) F M J q339 q341 q340 q136 (Nat.le_of_ble_eq_true rfl) (Nat.le_of_ble_eq_true rfl) (Nat.le_of_ble_eq_true rfl) dJ13_copyOf_28 w (fun h6 w => ?_)
    refine jr_aload_n (pc := 31) F (j := 0) dJ13_copyOf_31 rfl ?_
    exact jr_aret (pc := 32) F M (Or.inr ⟨_, rfl⟩) dJ13_copyOf_32 (hQ _ _ w)
  · have w := w2 c9
    refine jr_aload_n (pc := 6) F (j := 0) dJ13_copyOf_6 rfl ?_
    exact (show False from w).elim

theorem cC_J13_copyOf {G : jj_G} {l : Launch} (J : jx_G G l) {x0 : Option Nat} {x1 : Int} {Q : Option Nat → jj_H → Prop} {E : String → Nat → jj_H → Prop} {h : jj_H} {k : Nat} (w : fC_J13_copyOf (jj_gk G) x0 x1 Q E h k) : jj_Ct G l yJ13_copyOf (ws_ yJ13_copyOf cJ13_copyOf 3 (some ((.array .byte)))) 1 60 [.inr (.inr (.inl x0)), .inl x1] h k (jc_r Q) E := by
  refine jj_Ct.of J.1 (by decide +kernel) (Nat.le_of_ble_eq_true rfl) rfl (fun X hG hl F M O hnm => ?_)
  subst hG; subst hl
  exact sC_J13_copyOf F M O J hnm (fun r h q => ⟨r, rfl, q⟩) (fun _ _ _ q => q) _ _ _ _ w
theorem hC_J13_copyOf : yJ13_copyOf.cls = RJ13 ∧ yJ13_copyOf.cls ≠ "java/lang/invoke/MethodHandle" ∧ yJ13_copyOf.cls ≠ "java/lang/invoke/VarHandle" ∧ (parseMethodDescriptor yJ13_copyOf.desc).map (fun d => d.parameters.length) = some 2 := by decide +kernel
/-! J13_copyOfRangeByte([BII)[B -/
def fC_J13_copyOfRangeByte (gk : Nat → Nat) (x0 : Option Nat) (x1 : Int) (x2 : Int) (Q : Option Nat → jj_H → Prop) (E : String → Nat → jj_H → Prop) (h : jj_H) (k : Nat) : Prop :=
  fC_J13_checkLength gk x1 x2 (fun h3 =>
  ∀ v4, v4 = x2 - x1 →
  jp_ni h3 k 2 v4 (fun a5 h6 k7 =>
  jp_ai h6 x0 2 (fun g8 =>
  jj_r (g8 - x1) ∧ jj_r v4 ∧
  jp_acB h6 x0 x1 (some a5) 0 (min (g8 - x1) v4) (fun h9 =>
  Q (some a5) h9)))) E h 0
theorem sC_J13_copyOfRangeByte {X : jj_X} {N : Option jj_AV → jj_H → Prop} {XN : String → Nat → jj_H → Prop} (F : jj_F X RJ13 cJ13_copyOfRangeByte 5) (M : jj_M X (some ((.array .byte))) 1 60 N XN) (O : jj_no X) (J : jx_G X.1 X.2.2.1) (hi : X.2.2.2.2.2.2.2.2.2.1.name = yJ13_copyOfRangeByte.name) {Q : Option Nat → jj_H → Prop} {E : String → Nat → jj_H → Prop} (hQ : ∀ r h, Q r h → N (some (.inr (.inr (.inl r)))) h) (hE : ∀ e q h, E e q h → XN e q h) (x0 : Option Nat) (x1 : Int) (x2 : Int) : ∀ (h : jj_H) (k : Nat), fC_J13_copyOfRangeByte (jj_gk X.1) x0 x1 x2 Q E h k → jj_J X 5 0 [(0, .inr (.inr (.inl x0))), (1, .inl x1), (2, .inl x2)] [] h k := by
  intro h k w
  unfold fC_J13_copyOfRangeByte at w
  refine jr_iload_n (pc := 0) F (j := 1) dJ13_copyOfRangeByte_0 rfl ?_
  refine jr_iload_n (pc := 1) F (j := 2) dJ13_copyOfRangeByte_1 rfl ?_
  refine jr_callS (pc := 2) (As := [_, _]) F M (lw_S q474 q475 q135 q476) dJ13_copyOfRangeByte_2 hC_J13_checkLength.2 rfl (Nat.le_of_ble_eq_true rfl) (Nat.le_of_ble_eq_true rfl) (Nat.le_of_ble_eq_true rfl) (Nat.zero_le _) (cC_J13_checkLength J w) (fun v9 h3 q9 => ?_) (fun E9 q9 h9 w9 => jr_out F M O (hE _ _ _ w9))
  obtain ⟨rfl, w⟩ := q9
  refine jr_iload_n (pc := 5) F (j := 2) dJ13_copyOfRangeByte_5 rfl ?_
  refine jr_iload_n (pc := 6) F (j := 1) dJ13_copyOfRangeByte_6 rfl ?_
  refine jr_isub (pc := 7) F dJ13_copyOfRangeByte_7 ?_
  have w := w _ rfl
  refine jr_istore_n (pc := 8) F (vs' := [(3, .inl _), (0, .inr (.inr (.inl _))), (1, .inl _), (2, .inl _)]) dJ13_copyOfRangeByte_8 (Nat.le_of_ble_eq_true rfl) rfl ?_
  refine jr_iload_n (pc := 9) F (j := 0) dJ13_copyOfRangeByte_9 rfl ?_
  refine jr_newB (pc := 10) F q294 dJ13_copyOfRangeByte_10 w (fun a5 h6 k7 w => ?_)
  refine jr_astore (pc := 12) F (vs' := [(4, .inr (.inr (.inl _))), (3, .inl _), (0, .inr (.inr (.inl _))), (1, .inl _), (2, .inl _)]) dJ13_copyOfRangeByte_12 (Nat.le_of_ble_eq_true rfl) rfl ?_
  refine jr_aload_n (pc := 14) F (j := 2) dJ13_copyOfRangeByte_14 rfl ?_
  refine jr_iload_n (pc := 15) F (j := 3) dJ13_copyOfRangeByte_15 rfl ?_
  refine jr_aload (pc := 16) F (j := 0) dJ13_copyOfRangeByte_16 rfl ?_
  refine jr_iconst (pc := 18) F dJ13_copyOfRangeByte_18 ?_
  refine jr_aload_n (pc := 19) F (j := 2) dJ13_copyOfRangeByte_19 rfl ?_
  refine jr_alenI (pc := 20) F ⟨2, _, fun _ => rfl⟩ dJ13_copyOfRangeByte_20 w (fun g8 w => ?_)
  refine jr_iload_n (pc := 21) F (j := 3) dJ13_copyOfRangeByte_21 rfl ?_
  refine jr_isub (pc := 22) F dJ13_copyOfRangeByte_22 ?_
  refine jr_iload_n (pc := 23) F (j := 1) dJ13_copyOfRangeByte_23 rfl ?_
  obtain ⟨hx9, hy9, w⟩ := w
  refine jr_mmin (pc := 24) F M hx9 hy9 q336 (Nat.le_of_ble_eq_true rfl) (Nat.le_of_ble_eq_true rfl) (Nat.le_of_ble_eq_true rfl) dJ13_copyOfRangeByte_24 ?_
  refine jr_acB (pc := 27) F M J q339 q341 q340 q136 (Nat.le_of_ble_eq_true rfl) (Nat.le_of_ble_eq_true rfl) (Nat.le_of_ble_eq_true rfl) dJ13_copyOfRangeByte_27 w (fun h9 w => ?_)
  refine jr_aload (pc := 30) F (j := 0) dJ13_copyOfRangeByte_30 rfl ?_
  exact jr_aret (pc := 32) F M (Or.inr ⟨_, rfl⟩) dJ13_copyOfRangeByte_32 (hQ _ _ w)

theorem cC_J13_copyOfRangeByte {G : jj_G} {l : Launch} (J : jx_G G l) {x0 : Option Nat} {x1 : Int} {x2 : Int} {Q : Option Nat → jj_H → Prop} {E : String → Nat → jj_H → Prop} {h : jj_H} {k : Nat} (w : fC_J13_copyOfRangeByte (jj_gk G) x0 x1 x2 Q E h k) : jj_Ct G l yJ13_copyOfRangeByte (ws_ yJ13_copyOfRangeByte cJ13_copyOfRangeByte 5 (some ((.array .byte)))) 1 60 [.inr (.inr (.inl x0)), .inl x1, .inl x2] h k (jc_r Q) E := by
  refine jj_Ct.of J.1 (by decide +kernel) (Nat.le_of_ble_eq_true rfl) rfl (fun X hG hl F M O hnm => ?_)
  subst hG; subst hl
  exact sC_J13_copyOfRangeByte F M O J hnm (fun r h q => ⟨r, rfl, q⟩) (fun _ _ _ q => q) _ _ _ _ _ w
theorem hC_J13_copyOfRangeByte : yJ13_copyOfRangeByte.cls = RJ13 ∧ yJ13_copyOfRangeByte.cls ≠ "java/lang/invoke/MethodHandle" ∧ yJ13_copyOfRangeByte.cls ≠ "java/lang/invoke/VarHandle" ∧ (parseMethodDescriptor yJ13_copyOfRangeByte.desc).map (fun d => d.parameters.length) = some 3 := by decide +kernel
/-! J13_copyOfRange([BII)[B -/
def fC_J13_copyOfRange_j10 (gk : Nat → Nat) (x0 : Option Nat) (x1 : Int) (x2 : Int) (Q : Option Nat → jj_H → Prop) (E : String → Nat → jj_H → Prop) (h : jj_H) (k : Nat) : Prop :=
  ∃ c1, c1 ≤ k ∧ fC_J13_copyOfRangeByte gk x0 x1 x2 (fun r2 h3 =>
  Q r2 h3) E h c1
def fC_J13_copyOfRange (gk : Nat → Nat) (x0 : Option Nat) (x1 : Int) (x2 : Int) (Q : Option Nat → jj_H → Prop) (E : String → Nat → jj_H → Prop) (h : jj_H) (k : Nat) : Prop :=
  jj_r x1 ∧ (¬ x1 = 0 → (
    fC_J13_copyOfRange_j10 gk x0 x1 x2 Q E h k)) ∧
  (x1 = 0 → (
    jp_ai h x0 2 (fun g4 =>
    jj_r x2 ∧ jj_r g4 ∧ (x2 = g4 → (
      jp_clB h k x0 (fun a5 h6 k7 =>
      (∃ d n f, (some a5) = some d ∧ jp_byS h6 d n f) ∧
      Q (some a5) h6))) ∧
    (¬ x2 = g4 → (
      fC_J13_copyOfRange_j10 gk x0 x1 x2 Q E h k)))))
theorem sC_J13_copyOfRange_j10 {X : jj_X} {N : Option jj_AV → jj_H → Prop} {XN : String → Nat → jj_H → Prop} (F : jj_F X RJ13 cJ13_copyOfRange 3) (M : jj_M X (some ((.array .byte))) 2 84 N XN) (O : jj_no X) (J : jx_G X.1 X.2.2.1) (hi : X.2.2.2.2.2.2.2.2.2.1.name = yJ13_copyOfRange.name) {Q : Option Nat → jj_H → Prop} {E : String → Nat → jj_H → Prop} (hQ : ∀ r h, Q r h → N (some (.inr (.inr (.inl r)))) h) (hE : ∀ e q h, E e q h → XN e q h) (x0 : Option Nat) (x1 : Int) (x2 : Int) : ∀ (h : jj_H) (k : Nat), fC_J13_copyOfRange_j10 (jj_gk X.1) x0 x1 x2 Q E h k → jj_J X 3 10 [(0, .inr (.inr (.inl x0))), (1, .inl x1), (2, .inl x2)] [] h k := by
  intro h k w
  unfold fC_J13_copyOfRange_j10 at w
  refine jr_aload_n (pc := 10) F (j := 0) dJ13_copyOfRange_10 rfl ?_
  refine jr_iload_n (pc := 11) F (j := 1) dJ13_copyOfRange_11 rfl ?_
  refine jr_iload_n (pc := 12) F (j := 2) dJ13_copyOfRange_12 rfl ?_
  obtain ⟨c1, hk9, w⟩ := w
  refine jr_callS (pc := 13) (As := [_, _, _]) F M (lw_S q471 q472 q135 q473) dJ13_copyOfRange_13 hC_J13_copyOfRangeByte.2 rfl (Nat.le_of_ble_eq_true rfl) (Nat.le_of_ble_eq_true rfl) (Nat.le_of_ble_eq_true rfl) hk9 (cC_J13_copyOfRangeByte J w) (fun v9 h3 q9 => ?_) (fun E9 q9 h9 w9 => jr_out F M O (hE _ _ _ w9))
  obtain ⟨r2, rfl, w⟩ := q9
  exact jr_aret (pc := 16) F M (Or.inr ⟨_, rfl⟩) dJ13_copyOfRange_16 (hQ _ _ w)

theorem sC_J13_copyOfRange {X : jj_X} {N : Option jj_AV → jj_H → Prop} {XN : String → Nat → jj_H → Prop} (F : jj_F X RJ13 cJ13_copyOfRange 3) (M : jj_M X (some ((.array .byte))) 2 84 N XN) (O : jj_no X) (J : jx_G X.1 X.2.2.1) (hi : X.2.2.2.2.2.2.2.2.2.1.name = yJ13_copyOfRange.name) {Q : Option Nat → jj_H → Prop} {E : String → Nat → jj_H → Prop} (hQ : ∀ r h, Q r h → N (some (.inr (.inr (.inl r)))) h) (hE : ∀ e q h, E e q h → XN e q h) (x0 : Option Nat) (x1 : Int) (x2 : Int) : ∀ (h : jj_H) (k : Nat), fC_J13_copyOfRange (jj_gk X.1) x0 x1 x2 Q E h k → jj_J X 3 0 [(0, .inr (.inr (.inl x0))), (1, .inl x1), (2, .inl x2)] [] h k := by
  intro h k w
  unfold fC_J13_copyOfRange at w
  refine jr_iload_n (pc := 0) F (j := 1) dJ13_copyOfRange_0 rfl ?_
  obtain ⟨hx9, w1, w2⟩ := w
  refine jr_if_ne (pc := 1) (tgt := 10) F hx9 dJ13_copyOfRange_1 rfl (fun c9 => ?_) (fun c9 => ?_)
  · have w := w1 c9
    exact sC_J13_copyOfRange_j10 F M O J hi hQ hE _ _ _ _ _ w
  · have w := w2 c9
    refine jr_iload_n (pc := 4) F (j := 2) dJ13_copyOfRange_4 rfl ?_
    refine jr_aload_n (pc := 5) F (j := 0) dJ13_copyOfRange_5 rfl ?_
    refine jr_alenI (pc := 6) F ⟨2, _, fun _ => rfl⟩ dJ13_copyOfRange_6 w (fun g4 w => ?_)
    obtain ⟨hx9, hy9, w1, w2⟩ := w
    refine jr_icmp_eq (pc := 7) (tgt := 17) F hx9 hy9 dJ13_copyOfRange_7 rfl (fun c9 => ?_) (fun c9 => ?_)
    · have w := w1 c9
      refine jr_aload_n (pc := 17) F (j := 0) dJ13_copyOfRange_17 rfl ?_
      refine jr_cloneB (pc := 18) F M q329 (Nat.le_of_ble_eq_true rfl) (Nat.le_of_ble_eq_true rfl) (Nat.le_of_ble_eq_true rfl) dJ13_copyOfRange_18 w (fun a5 h6 k7 w => ?_)
      obtain ⟨hi9, w⟩ := w
      refine jr_castB (pc := 21) F J q335 dJ13_copyOfRange_21 hi9 ?_
      exact jr_aret (pc := 24) F M (Or.inr ⟨_, rfl⟩) dJ13_copyOfRange_24 (hQ _ _ w)
    · have w := w2 c9
      exact sC_J13_copyOfRange_j10 F M O J hi hQ hE _ _ _ _ _ w

theorem cC_J13_copyOfRange {G : jj_G} {l : Launch} (J : jx_G G l) {x0 : Option Nat} {x1 : Int} {x2 : Int} {Q : Option Nat → jj_H → Prop} {E : String → Nat → jj_H → Prop} {h : jj_H} {k : Nat} (w : fC_J13_copyOfRange (jj_gk G) x0 x1 x2 Q E h k) : jj_Ct G l yJ13_copyOfRange (ws_ yJ13_copyOfRange cJ13_copyOfRange 3 (some ((.array .byte)))) 2 84 [.inr (.inr (.inl x0)), .inl x1, .inl x2] h k (jc_r Q) E := by
  refine jj_Ct.of J.1 (by decide +kernel) (Nat.le_of_ble_eq_true rfl) rfl (fun X hG hl F M O hnm => ?_)
  subst hG; subst hl
  exact sC_J13_copyOfRange F M O J hnm (fun r h q => ⟨r, rfl, q⟩) (fun _ _ _ q => q) _ _ _ _ _ w
theorem hC_J13_copyOfRange : yJ13_copyOfRange.cls = RJ13 ∧ yJ13_copyOfRange.cls ≠ "java/lang/invoke/MethodHandle" ∧ yJ13_copyOfRange.cls ≠ "java/lang/invoke/VarHandle" ∧ (parseMethodDescriptor yJ13_copyOfRange.desc).map (fun d => d.parameters.length) = some 3 := by decide +kernel
/-! J13_rangeCheck(III)V -/
def fC_J13_rangeCheck (gk : Nat → Nat) (x0 : Int) (x1 : Int) (x2 : Int) (Q : jj_H → Prop) (E : String → Nat → jj_H → Prop) (h : jj_H) (k : Nat) : Prop :=
  jj_r x1 ∧ jj_r x2 ∧ (x1 ≤ x2 → (
    jj_r x1 ∧ (0 ≤ x1 → (
      jj_r x2 ∧ jj_r x0 ∧ (x2 ≤ x0 → (
        Q h)) ∧
      (¬ x2 ≤ x0 → (
        False)))) ∧
    (¬ 0 ≤ x1 → (
      False)))) ∧
  (¬ x1 ≤ x2 → (
    False))
theorem sC_J13_rangeCheck {X : jj_X} {N : Option jj_AV → jj_H → Prop} {XN : String → Nat → jj_H → Prop} (F : jj_F X RJ13 cJ13_rangeCheck 3) (M : jj_M X (none) 0 0 N XN) (O : jj_no X) (J : jx_G X.1 X.2.2.1) (hi : X.2.2.2.2.2.2.2.2.2.1.name = yJ13_rangeCheck.name) {Q : jj_H → Prop} {E : String → Nat → jj_H → Prop} (hQ : ∀ h, Q h → N none h) (hE : ∀ e q h, E e q h → XN e q h) (x0 : Int) (x1 : Int) (x2 : Int) : ∀ (h : jj_H) (k : Nat), fC_J13_rangeCheck (jj_gk X.1) x0 x1 x2 Q E h k → jj_J X 3 0 [(0, .inl x0), (1, .inl x1), (2, .inl x2)] [] h k := by
  intro h k w
  unfold fC_J13_rangeCheck at w
  refine jr_iload_n (pc := 0) F (j := 1) dJ13_rangeCheck_0 rfl ?_
  refine jr_iload_n (pc := 1) F (j := 2) dJ13_rangeCheck_1 rfl ?_
  obtain ⟨hx9, hy9, w1, w2⟩ := w
  refine jr_icmp_le (pc := 2) (tgt := 46) F hx9 hy9 dJ13_rangeCheck_2 rfl (fun c9 => ?_) (fun c9 => ?_)
  · have w := w1 c9
    refine jr_iload_n (pc := 46) F (j := 1) dJ13_rangeCheck_46 rfl ?_
    obtain ⟨hx9, w1, w2⟩ := w
    refine jr_if_ge (pc := 47) (tgt := 59) F hx9 dJ13_rangeCheck_47 rfl (fun c9 => ?_) (fun c9 => ?_)
    · have w := w1 c9
      refine jr_iload_n (pc := 59) F (j := 2) dJ13_rangeCheck_59 rfl ?_
      refine jr_iload_n (pc := 60) F (j := 0) dJ13_rangeCheck_60 rfl ?_
      obtain ⟨hx9, hy9, w1, w2⟩ := w
      refine jr_icmp_le (pc := 61) (tgt := 73) F hx9 hy9 dJ13_rangeCheck_61 rfl (fun c9 => ?_) (fun c9 => ?_)
      · have w := w1 c9
        exact jr_vret (pc := 73) F M dJ13_rangeCheck_73 (hQ _ w)
      · have w := w2 c9
        exact (show False from w).elim
    · have w := w2 c9
      exact (show False from w).elim
  · have w := w2 c9
    exact (show False from w).elim

theorem cC_J13_rangeCheck {G : jj_G} {l : Launch} (J : jx_G G l) {x0 : Int} {x1 : Int} {x2 : Int} {Q : jj_H → Prop} {E : String → Nat → jj_H → Prop} {h : jj_H} {k : Nat} (w : fC_J13_rangeCheck (jj_gk G) x0 x1 x2 Q E h k) : jj_Ct G l yJ13_rangeCheck (ws_ yJ13_rangeCheck cJ13_rangeCheck 3 (none)) 0 0 [.inl x0, .inl x1, .inl x2] h k (jc_v Q) E := by
  refine jj_Ct.of J.1 (by decide +kernel) (Nat.le_of_ble_eq_true rfl) rfl (fun X hG hl F M O hnm => ?_)
  subst hG; subst hl
  exact sC_J13_rangeCheck F M O J hnm (fun h q => ⟨rfl, q⟩) (fun _ _ _ q => q) _ _ _ _ _ w
theorem hC_J13_rangeCheck : yJ13_rangeCheck.cls = RJ13 ∧ yJ13_rangeCheck.cls ≠ "java/lang/invoke/MethodHandle" ∧ yJ13_rangeCheck.cls ≠ "java/lang/invoke/VarHandle" ∧ (parseMethodDescriptor yJ13_rangeCheck.desc).map (fun d => d.parameters.length) = some 3 := by decide +kernel
/-! J13_fill([BIIB)V -/
def fC_J13_fill_l10 (gk : Nat → Nat) (x0 : Option Nat) (x2 : Int) (x3 : Int) (Q : jj_H → Prop) (E : String → Nat → jj_H → Prop) : Nat → Int → jj_H → Nat → Prop
  | 0, _, _, _ => False
  | n + 1, x4, h, k =>
  jj_r x4 ∧ jj_r x2 ∧ (x2 ≤ x4 → (
    Q h)) ∧
  (¬ x2 ≤ x4 → (
    (-128 ≤ x3 ∧ x3 < 128) ∧
    jp_as h x0 2 x4 x3 (fun h1 =>
    ∀ v2, v2 = x4 + 1 →
    fC_J13_fill_l10 gk x0 x2 x3 Q E n v2 h1 k)))
def fC_J13_fill (gk : Nat → Nat) (x0 : Option Nat) (x1 : Int) (x2 : Int) (x3 : Int) (Q : jj_H → Prop) (E : String → Nat → jj_H → Prop) (h : jj_H) (k : Nat) : Prop :=
  jp_ai h x0 2 (fun g3 =>
  fC_J13_rangeCheck gk g3 x1 x2 (fun h6 =>
  ∃ n9, fC_J13_fill_l10 gk x0 x2 x3 Q E n9 x1 h6 k) E h 0)
theorem sC_J13_fill_l10 {X : jj_X} {N : Option jj_AV → jj_H → Prop} {XN : String → Nat → jj_H → Prop} (F : jj_F X RJ13 cJ13_fill 5) (M : jj_M X (none) 1 22 N XN) (O : jj_no X) (J : jx_G X.1 X.2.2.1) (hi : X.2.2.2.2.2.2.2.2.2.1.name = yJ13_fill.name) {Q : jj_H → Prop} {E : String → Nat → jj_H → Prop} (hQ : ∀ h, Q h → N none h) (hE : ∀ e q h, E e q h → XN e q h) (x0 : Option Nat) (x2 : Int) (x3 : Int) : ∀ (n : Nat) (x4 : Int) (h : jj_H) (k : Nat), fC_J13_fill_l10 (jj_gk X.1) x0 x2 x3 Q E n x4 h k → jj_J X 5 10 [(0, .inr (.inr (.inl x0))), (2, .inl x2), (3, .inl x3), (4, .inl x4)] [] h k := by
  intro n
  induction n with
  | zero =>
    intro x4 h k w
    exact (show False from w).elim
  | succ n ih =>
    intro x4 h k w
    rw [fC_J13_fill_l10] at w
    refine jr_iload (pc := 10) F (j := 3) dJ13_fill_10 rfl ?_
    refine jr_iload_n (pc := 12) F (j := 1) dJ13_fill_12 rfl ?_
    obtain ⟨hx9, hy9, w1, w2⟩ := w
    refine jr_icmp_ge (pc := 13) (tgt := 27) F hx9 hy9 dJ13_fill_13 rfl (fun c9 => ?_) (fun c9 => ?_)
    · have w := w1 c9
      exact jr_vret (pc := 27) F M dJ13_fill_27 (hQ _ w)
    · have w := w2 c9
      refine jr_aload_n (pc := 16) F (j := 0) dJ13_fill_16 rfl ?_
      refine jr_iload (pc := 17) F (j := 3) dJ13_fill_17 rfl ?_
      refine jr_iload_n (pc := 19) F (j := 2) dJ13_fill_19 rfl ?_
      obtain ⟨hb9, w⟩ := w
      refine jr_bast (pc := 20) F dJ13_fill_20 hb9 w (fun h1 w => ?_)
      have w := w _ rfl
      refine jr_iinc (pc := 21) F (j := 3) (vs' := [(4, .inl _), (0, .inr (.inr (.inl _))), (2, .inl _), (3, .inl _)]) dJ13_fill_21 rfl rfl (Nat.le_of_ble_eq_true rfl) rfl ?_
      refine jr_goto (pc := 24) (tgt := 10) F dJ13_fill_24 rfl ?_
      refine jj_J.sub [1, 2, 3, 0] rfl ?_
      exact ih _ _ _ w

theorem sC_J13_fill {X : jj_X} {N : Option jj_AV → jj_H → Prop} {XN : String → Nat → jj_H → Prop} (F : jj_F X RJ13 cJ13_fill 5) (M : jj_M X (none) 1 22 N XN) (O : jj_no X) (J : jx_G X.1 X.2.2.1) (hi : X.2.2.2.2.2.2.2.2.2.1.name = yJ13_fill.name) {Q : jj_H → Prop} {E : String → Nat → jj_H → Prop} (hQ : ∀ h, Q h → N none h) (hE : ∀ e q h, E e q h → XN e q h) (x0 : Option Nat) (x1 : Int) (x2 : Int) (x3 : Int) : ∀ (h : jj_H) (k : Nat), fC_J13_fill (jj_gk X.1) x0 x1 x2 x3 Q E h k → jj_J X 5 0 [(0, .inr (.inr (.inl x0))), (1, .inl x1), (2, .inl x2), (3, .inl x3)] [] h k := by
  intro h k w
  unfold fC_J13_fill at w
  refine jr_aload_n (pc := 0) F (j := 0) dJ13_fill_0 rfl ?_
  refine jr_alenI (pc := 1) F ⟨2, _, fun _ => rfl⟩ dJ13_fill_1 w (fun g3 w => ?_)
  refine jr_iload_n (pc := 2) F (j := 1) dJ13_fill_2 rfl ?_
  refine jr_iload_n (pc := 3) F (j := 2) dJ13_fill_3 rfl ?_
  refine jr_callS (pc := 4) (As := [_, _, _]) F M (lw_S q2712 q2713 q135 q2714) dJ13_fill_4 hC_J13_rangeCheck.2 rfl (Nat.le_of_ble_eq_true rfl) (Nat.le_of_ble_eq_true rfl) (Nat.le_of_ble_eq_true rfl) (Nat.zero_le _) (cC_J13_rangeCheck J w) (fun v9 h6 q9 => ?_) (fun E9 q9 h9 w9 => jr_out F M O (hE _ _ _ w9))
  obtain ⟨rfl, w⟩ := q9
  refine jr_iload_n (pc := 7) F (j := 1) dJ13_fill_7 rfl ?_
  refine jr_istore (pc := 8) F (vs' := [(4, .inl _), (0, .inr (.inr (.inl _))), (1, .inl _), (2, .inl _), (3, .inl _)]) dJ13_fill_8 (Nat.le_of_ble_eq_true rfl) rfl ?_
  refine jj_J.sub [1, 3, 4, 0] rfl ?_
  obtain ⟨n9, w⟩ := w
  exact sC_J13_fill_l10 F M O J hi hQ hE _ _ _ n9 _ _ _ w

theorem cC_J13_fill {G : jj_G} {l : Launch} (J : jx_G G l) {x0 : Option Nat} {x1 : Int} {x2 : Int} {x3 : Int} {Q : jj_H → Prop} {E : String → Nat → jj_H → Prop} {h : jj_H} {k : Nat} (w : fC_J13_fill (jj_gk G) x0 x1 x2 x3 Q E h k) : jj_Ct G l yJ13_fill (ws_ yJ13_fill cJ13_fill 5 (none)) 1 22 [.inr (.inr (.inl x0)), .inl x1, .inl x2, .inl x3] h k (jc_v Q) E := by
  refine jj_Ct.of J.1 (by decide +kernel) (Nat.le_of_ble_eq_true rfl) rfl (fun X hG hl F M O hnm => ?_)
  subst hG; subst hl
  exact sC_J13_fill F M O J hnm (fun h q => ⟨rfl, q⟩) (fun _ _ _ q => q) _ _ _ _ _ _ w
theorem hC_J13_fill : yJ13_fill.cls = RJ13 ∧ yJ13_fill.cls ≠ "java/lang/invoke/MethodHandle" ∧ yJ13_fill.cls ≠ "java/lang/invoke/VarHandle" ∧ (parseMethodDescriptor yJ13_fill.desc).map (fun d => d.parameters.length) = some 4 := by decide +kernel
/-! J15_canEncode(C)Z -/
def fC_J15_canEncode (gk : Nat → Nat) (x0 : Int) (Q : Int → jj_H → Prop) (E : String → Nat → jj_H → Prop) (h : jj_H) (k : Nat) : Prop :=
  jj_r x0 ∧ (255 < x0 → (
    Q 0 h)) ∧
  (¬ 255 < x0 → (
    Q 1 h))
theorem sC_J15_canEncode {X : jj_X} {N : Option jj_AV → jj_H → Prop} {XN : String → Nat → jj_H → Prop} (F : jj_F X RJ15 cJ15_canEncode 1) (M : jj_M X (some (.boolean)) 0 0 N XN) (O : jj_no X) (J : jx_G X.1 X.2.2.1) (hi : X.2.2.2.2.2.2.2.2.2.1.name = yJ15_canEncode.name) {Q : Int → jj_H → Prop} {E : String → Nat → jj_H → Prop} (hQ : ∀ r h, Q r h → N (some (.inl r)) h) (hE : ∀ e q h, E e q h → XN e q h) (x0 : Int) : ∀ (h : jj_H) (k : Nat), fC_J15_canEncode (jj_gk X.1) x0 Q E h k → jj_J X 1 0 [(0, .inl x0)] [] h k := by
  intro h k w
  unfold fC_J15_canEncode at w
  refine jr_iload_n (pc := 0) F (j := 0) dJ15_canEncode_0 rfl ?_
  refine jr_sipush (pc := 1) F dJ15_canEncode_1 (by decide +kernel) ?_
  obtain ⟨hx9, w1, w2⟩ := w
  refine jr_icmp_gt (pc := 4) (tgt := 11) F hx9 ⟨by decide, by decide⟩ dJ15_canEncode_4 rfl (fun c9 => ?_) (fun c9 => ?_)
  · have w := w1 c9
    refine jr_iconst (pc := 11) F dJ15_canEncode_11 ?_
    exact jr_zret (pc := 12) F M dJ15_canEncode_12 (by decide) (hQ _ _ w)
  · have w := w2 c9
    refine jr_iconst (pc := 7) F dJ15_canEncode_7 ?_
    refine jr_goto (pc := 8) (tgt := 12) F dJ15_canEncode_8 rfl ?_
    exact jr_zret (pc := 12) F M dJ15_canEncode_12 (by decide) (hQ _ _ w)

theorem cC_J15_canEncode {G : jj_G} {l : Launch} (J : jx_G G l) {x0 : Int} {Q : Int → jj_H → Prop} {E : String → Nat → jj_H → Prop} {h : jj_H} {k : Nat} (w : fC_J15_canEncode (jj_gk G) x0 Q E h k) : jj_Ct G l yJ15_canEncode (ws_ yJ15_canEncode cJ15_canEncode 1 (some (.boolean))) 0 0 [.inl x0] h k (jc_i Q) E := by
  refine jj_Ct.of J.1 (by decide +kernel) (Nat.le_of_ble_eq_true rfl) rfl (fun X hG hl F M O hnm => ?_)
  subst hG; subst hl
  exact sC_J15_canEncode F M O J hnm (fun r h q => ⟨r, rfl, q⟩) (fun _ _ _ q => q) _ _ _ w
theorem hC_J15_canEncode : yJ15_canEncode.cls = RJ15 ∧ yJ15_canEncode.cls ≠ "java/lang/invoke/MethodHandle" ∧ yJ15_canEncode.cls ≠ "java/lang/invoke/VarHandle" ∧ (parseMethodDescriptor yJ15_canEncode.desc).map (fun d => d.parameters.length) = some 1 := by decide +kernel
/-! J15_fillNull([BII)V -/
def fC_J15_fillNull (gk : Nat → Nat) (x0 : Option Nat) (x1 : Int) (x2 : Int) (Q : jj_H → Prop) (E : String → Nat → jj_H → Prop) (h : jj_H) (k : Nat) : Prop :=
  fC_J13_fill gk x0 x1 x2 0 (fun h3 =>
  Q h3) E h 0
theorem sC_J15_fillNull {X : jj_X} {N : Option jj_AV → jj_H → Prop} {XN : String → Nat → jj_H → Prop} (F : jj_F X RJ15 cJ15_fillNull 3) (M : jj_M X (none) 2 46 N XN) (O : jj_no X) (J : jx_G X.1 X.2.2.1) (hi : X.2.2.2.2.2.2.2.2.2.1.name = yJ15_fillNull.name) {Q : jj_H → Prop} {E : String → Nat → jj_H → Prop} (hQ : ∀ h, Q h → N none h) (hE : ∀ e q h, E e q h → XN e q h) (x0 : Option Nat) (x1 : Int) (x2 : Int) : ∀ (h : jj_H) (k : Nat), fC_J15_fillNull (jj_gk X.1) x0 x1 x2 Q E h k → jj_J X 3 0 [(0, .inr (.inr (.inl x0))), (1, .inl x1), (2, .inl x2)] [] h k := by
  intro h k w
  unfold fC_J15_fillNull at w
  refine jr_aload_n (pc := 0) F (j := 0) dJ15_fillNull_0 rfl ?_
  refine jr_iload_n (pc := 1) F (j := 1) dJ15_fillNull_1 rfl ?_
  refine jr_iload_n (pc := 2) F (j := 2) dJ15_fillNull_2 rfl ?_
  refine jr_iconst (pc := 3) F dJ15_fillNull_3 ?_
  refine jr_callS (pc := 4) (As := [_, _, _, _]) F M (lw_S q2709 q2710 q135 q2711) dJ15_fillNull_4 hC_J13_fill.2 rfl (Nat.le_of_ble_eq_true rfl) (Nat.le_of_ble_eq_true rfl) (Nat.le_of_ble_eq_true rfl) (Nat.zero_le _) (cC_J13_fill J w) (fun v9 h3 q9 => ?_) (fun E9 q9 h9 w9 => jr_out F M O (hE _ _ _ w9))
  obtain ⟨rfl, w⟩ := q9
  exact jr_vret (pc := 7) F M dJ15_fillNull_7 (hQ _ w)

theorem cC_J15_fillNull {G : jj_G} {l : Launch} (J : jx_G G l) {x0 : Option Nat} {x1 : Int} {x2 : Int} {Q : jj_H → Prop} {E : String → Nat → jj_H → Prop} {h : jj_H} {k : Nat} (w : fC_J15_fillNull (jj_gk G) x0 x1 x2 Q E h k) : jj_Ct G l yJ15_fillNull (ws_ yJ15_fillNull cJ15_fillNull 3 (none)) 2 46 [.inr (.inr (.inl x0)), .inl x1, .inl x2] h k (jc_v Q) E := by
  refine jj_Ct.of J.1 (by decide +kernel) (Nat.le_of_ble_eq_true rfl) rfl (fun X hG hl F M O hnm => ?_)
  subst hG; subst hl
  exact sC_J15_fillNull F M O J hnm (fun h q => ⟨rfl, q⟩) (fun _ _ _ q => q) _ _ _ _ _ w
theorem hC_J15_fillNull : yJ15_fillNull.cls = RJ15 ∧ yJ15_fillNull.cls ≠ "java/lang/invoke/MethodHandle" ∧ yJ15_fillNull.cls ≠ "java/lang/invoke/VarHandle" ∧ (parseMethodDescriptor yJ15_fillNull.desc).map (fun d => d.parameters.length) = some 3 := by decide +kernel
/-! J7_newCapacity(I)I -/
def fC_J7_newCapacity (gk : Nat → Nat) (x0 : Option Nat) (x1 : Int) (Q : Int → jj_H → Prop) (E : String → Nat → jj_H → Prop) (h : jj_H) (k : Nat) : Prop :=
  jp_gr h x0 26 0 (fun g1 =>
  jp_ai h g1 2 (fun g2 =>
  jp_gi h x0 26 1 (fun g3 =>
  ∀ v4, v4 = jj_shl x1 g3 →
  ∀ v5, v5 = v4 - g2 →
  jp_gi h x0 26 1 (fun g6 =>
  fC_J11_newLength gk g2 v5 (g2 + (jj_shl 2 g6)) (fun r8 h9 =>
  jj_r r8 ∧ (¬ r8 = 2147483647 → (
    jp_gi h9 x0 26 1 (fun g10 =>
    Q (jj_shr r8 g10) h9))) ∧
  (r8 = 2147483647 → (
    False))) E h 0))))
theorem sC_J7_newCapacity {X : jj_X} {N : Option jj_AV → jj_H → Prop} {XN : String → Nat → jj_H → Prop} (F : jj_F X RJ7 cJ7_newCapacity 6) (M : jj_M X (some (.int)) 2 45 N XN) (O : jj_no X) (J : jx_G X.1 X.2.2.1) (hi : X.2.2.2.2.2.2.2.2.2.1.name = yJ7_newCapacity.name) {Q : Int → jj_H → Prop} {E : String → Nat → jj_H → Prop} (hQ : ∀ r h, Q r h → N (some (.inl r)) h) (hE : ∀ e q h, E e q h → XN e q h) (x0 : Option Nat) (x1 : Int) : ∀ (h : jj_H) (k : Nat), fC_J7_newCapacity (jj_gk X.1) x0 x1 Q E h k → jj_J X 6 0 [(0, .inr (.inr (.inl x0))), (1, .inl x1)] [] h k := by
  intro h k w
  unfold fC_J7_newCapacity at w
  refine jr_aload_n (pc := 0) F (j := 0) dJ7_newCapacity_0 rfl ?_
  refine jr_gr (pc := 1) (ci := 26) (f := 0) F rfl in_J8 (Nat.le_of_ble_eq_true rfl) q280 dJ7_newCapacity_1 w (fun g1 w => ?_)
  refine jr_alenI (pc := 4) F ⟨2, _, fun _ => rfl⟩ dJ7_newCapacity_4 w (fun g2 w => ?_)
  refine jr_istore_n (pc := 5) F (vs' := [(2, .inl _), (0, .inr (.inr (.inl _))), (1, .inl _)]) dJ7_newCapacity_5 (Nat.le_of_ble_eq_true rfl) rfl ?_
  refine jr_iload_n (pc := 6) F (j := 2) dJ7_newCapacity_6 rfl ?_
  refine jr_aload_n (pc := 7) F (j := 1) dJ7_newCapacity_7 rfl ?_
  refine jr_gi (pc := 8) (ci := 26) (f := 1) F rfl in_J8 (Nat.le_of_ble_eq_true rfl) q281 dJ7_newCapacity_8 w (fun g3 w => ?_)
  refine jr_ishl (pc := 11) F dJ7_newCapacity_11 ?_
  have w := w _ rfl
  refine jr_istore_n (pc := 12) F (vs' := [(3, .inl _), (2, .inl _), (0, .inr (.inr (.inl _))), (1, .inl _)]) dJ7_newCapacity_12 (Nat.le_of_ble_eq_true rfl) rfl ?_
  refine jr_iload_n (pc := 13) F (j := 0) dJ7_newCapacity_13 rfl ?_
  refine jr_iload_n (pc := 14) F (j := 1) dJ7_newCapacity_14 rfl ?_
  refine jr_isub (pc := 15) F dJ7_newCapacity_15 ?_
  have w := w _ rfl
  refine jr_istore (pc := 16) F (vs' := [(4, .inl _), (3, .inl _), (2, .inl _), (0, .inr (.inr (.inl _))), (1, .inl _)]) dJ7_newCapacity_16 (Nat.le_of_ble_eq_true rfl) rfl ?_
  refine jr_iload_n (pc := 18) F (j := 2) dJ7_newCapacity_18 rfl ?_
  refine jr_iload (pc := 19) F (j := 0) dJ7_newCapacity_19 rfl ?_
  refine jr_iload_n (pc := 21) F (j := 2) dJ7_newCapacity_21 rfl ?_
  refine jr_iconst (pc := 22) F dJ7_newCapacity_22 ?_
  refine jr_aload_n (pc := 23) F (j := 3) dJ7_newCapacity_23 rfl ?_
  refine jr_gi (pc := 24) (ci := 26) (f := 1) F rfl in_J8 (Nat.le_of_ble_eq_true rfl) q281 dJ7_newCapacity_24 w (fun g6 w => ?_)
  refine jr_ishl (pc := 27) F dJ7_newCapacity_27 ?_
  refine jr_iadd (pc := 28) F dJ7_newCapacity_28 ?_
  refine jr_callS (pc := 29) (As := [_, _, _]) F M (lw_S q315 q316 q133 q317) dJ7_newCapacity_29 hC_J11_newLength.2 rfl (Nat.le_of_ble_eq_true rfl) (Nat.le_of_ble_eq_true rfl) (Nat.le_of_ble_eq_true rfl) (Nat.zero_le _) (cC_J11_newLength J w) (fun v9 h9 q9 => ?_) (fun E9 q9 h9 w9 => jr_out F M O (hE _ _ _ w9))
  obtain ⟨r8, rfl, w⟩ := q9
  refine jr_istore (pc := 32) F (vs' := [(5, .inl _), (4, .inl _), (3, .inl _), (2, .inl _), (0, .inr (.inr (.inl _))), (1, .inl _)]) dJ7_newCapacity_32 (Nat.le_of_ble_eq_true rfl) rfl ?_
  refine jr_iload (pc := 34) F (j := 0) dJ7_newCapacity_34 rfl ?_
  refine jr_ldc (pc := 36) F (x := 2147483647) q325 dJ7_newCapacity_36 (by decide +kernel) ?_
  obtain ⟨hx9, w1, w2⟩ := w
  refine jr_icmp_ne (pc := 38) (tgt := 51) F hx9 ⟨by decide, by decide⟩ dJ7_newCapacity_38 rfl (fun c9 => ?_) (fun c9 => ?_)
  · have w := w1 c9
    refine jr_iload (pc := 51) F (j := 0) dJ7_newCapacity_51 rfl ?_
    refine jr_aload_n (pc := 53) F (j := 4) dJ7_newCapacity_53 rfl ?_
    refine jr_gi (pc := 54) (ci := 26) (f := 1) F rfl in_J8 (Nat.le_of_ble_eq_true rfl) q281 dJ7_newCapacity_54 w (fun g10 w => ?_)
    refine jr_ishr (pc := 57) F dJ7_newCapacity_57 ?_
    exact jr_iret (pc := 58) F M dJ7_newCapacity_58 (hQ _ _ w)
  · have w := w2 c9
    exact (show False from w).elim

theorem cC_J7_newCapacity {G : jj_G} {l : Launch} (J : jx_G G l) {x0 : Option Nat} {x1 : Int} {Q : Int → jj_H → Prop} {E : String → Nat → jj_H → Prop} {h : jj_H} {k : Nat} (w : fC_J7_newCapacity (jj_gk G) x0 x1 Q E h k) : jj_Ct G l yJ7_newCapacity (ws_ yJ7_newCapacity cJ7_newCapacity 6 (some (.int))) 2 45 [.inr (.inr (.inl x0)), .inl x1] h k (jc_i Q) E := by
  refine jj_Ct.of J.1 (by decide +kernel) (Nat.le_of_ble_eq_true rfl) rfl (fun X hG hl F M O hnm => ?_)
  subst hG; subst hl
  exact sC_J7_newCapacity F M O J hnm (fun r h q => ⟨r, rfl, q⟩) (fun _ _ _ q => q) _ _ _ _ w
theorem hC_J7_newCapacity : yJ7_newCapacity.cls = RJ7 ∧ yJ7_newCapacity.cls ≠ "java/lang/invoke/MethodHandle" ∧ yJ7_newCapacity.cls ≠ "java/lang/invoke/VarHandle" ∧ (parseMethodDescriptor yJ7_newCapacity.desc).map (fun d => d.parameters.length) = some 1 := by decide +kernel
/-! J7_ensureCapacityInternal(I)V -/
def fC_J7_ensureCapacityInternal (gk : Nat → Nat) (x0 : Option Nat) (x1 : Int) (Q : jj_H → Prop) (E : String → Nat → jj_H → Prop) (h : jj_H) (k : Nat) : Prop :=
  jp_gr h x0 26 0 (fun g1 =>
  jp_ai h g1 2 (fun g2 =>
  jp_gi h x0 26 1 (fun g3 =>
  ∀ v4, v4 = jj_shr g2 g3 →
  jj_r (x1 - v4) ∧ ((x1 - v4) ≤ 0 → (
    Q h)) ∧
  (¬ (x1 - v4) ≤ 0 → (
    jp_gr h x0 26 0 (fun g5 =>
    jp_is h x0 26 ∧ fC_J7_newCapacity gk x0 x1 (fun r7 h8 =>
    jp_gi h8 x0 26 1 (fun g9 =>
    ∃ c10, c10 ≤ k ∧ fC_J13_copyOf gk g5 (jj_shl r7 g9) (fun r11 h12 =>
    jp_pr h12 x0 26 0 r11 (fun h13 =>
    Q h13)) E h8 c10)) E h 0))))))
theorem sC_J7_ensureCapacityInternal {X : jj_X} {N : Option jj_AV → jj_H → Prop} {XN : String → Nat → jj_H → Prop} (F : jj_F X RJ7 cJ7_ensureCapacityInternal 3) (M : jj_M X (none) 3 82 N XN) (O : jj_no X) (J : jx_G X.1 X.2.2.1) (hi : X.2.2.2.2.2.2.2.2.2.1.name = yJ7_ensureCapacityInternal.name) {Q : jj_H → Prop} {E : String → Nat → jj_H → Prop} (hQ : ∀ h, Q h → N none h) (hE : ∀ e q h, E e q h → XN e q h) (x0 : Option Nat) (x1 : Int) : ∀ (h : jj_H) (k : Nat), fC_J7_ensureCapacityInternal (jj_gk X.1) x0 x1 Q E h k → jj_J X 3 0 [(0, .inr (.inr (.inl x0))), (1, .inl x1)] [] h k := by
  intro h k w
  unfold fC_J7_ensureCapacityInternal at w
  refine jr_aload_n (pc := 0) F (j := 0) dJ7_ensureCapacityInternal_0 rfl ?_
  refine jr_gr (pc := 1) (ci := 26) (f := 0) F rfl in_J8 (Nat.le_of_ble_eq_true rfl) q280 dJ7_ensureCapacityInternal_1 w (fun g1 w => ?_)
  refine jr_alenI (pc := 4) F ⟨2, _, fun _ => rfl⟩ dJ7_ensureCapacityInternal_4 w (fun g2 w => ?_)
  refine jr_aload_n (pc := 5) F (j := 0) dJ7_ensureCapacityInternal_5 rfl ?_
  refine jr_gi (pc := 6) (ci := 26) (f := 1) F rfl in_J8 (Nat.le_of_ble_eq_true rfl) q281 dJ7_ensureCapacityInternal_6 w (fun g3 w => ?_)
  refine jr_ishr (pc := 9) F dJ7_ensureCapacityInternal_9 ?_
  have w := w _ rfl
  refine jr_istore_n (pc := 10) F (vs' := [(2, .inl _), (0, .inr (.inr (.inl _))), (1, .inl _)]) dJ7_ensureCapacityInternal_10 (Nat.le_of_ble_eq_true rfl) rfl ?_
  refine jr_iload_n (pc := 11) F (j := 2) dJ7_ensureCapacityInternal_11 rfl ?_
  refine jr_iload_n (pc := 12) F (j := 0) dJ7_ensureCapacityInternal_12 rfl ?_
  refine jr_isub (pc := 13) F dJ7_ensureCapacityInternal_13 ?_
  obtain ⟨hx9, w1, w2⟩ := w
  refine jr_if_le (pc := 14) (tgt := 38) F hx9 dJ7_ensureCapacityInternal_14 rfl (fun c9 => ?_) (fun c9 => ?_)
  · have w := w1 c9
    exact jr_vret (pc := 38) F M dJ7_ensureCapacityInternal_38 (hQ _ w)
  · have w := w2 c9
    refine jr_aload_n (pc := 17) F (j := 1) dJ7_ensureCapacityInternal_17 rfl ?_
    refine jr_aload_n (pc := 18) F (j := 1) dJ7_ensureCapacityInternal_18 rfl ?_
    refine jr_gr (pc := 19) (ci := 26) (f := 0) F rfl in_J8 (Nat.le_of_ble_eq_true rfl) q280 dJ7_ensureCapacityInternal_19 w (fun g5 w => ?_)
    refine jr_aload_n (pc := 22) F (j := 1) dJ7_ensureCapacityInternal_22 rfl ?_
    refine jr_iload_n (pc := 23) F (j := 2) dJ7_ensureCapacityInternal_23 rfl ?_
    obtain ⟨hi9, w⟩ := w
    refine jr_cP (pc := 24) (As := [_]) (ci := 26) F M J (lw_P q311 q3773 q313 q129 q314) (jx_pvm 1 rfl) dJ7_ensureCapacityInternal_24 hC_J7_newCapacity.2 rfl (Nat.le_of_ble_eq_true rfl) (Nat.le_of_ble_eq_true rfl) (Nat.le_of_ble_eq_true rfl) rfl hi9 (Nat.zero_le _) (cC_J7_newCapacity J w) (fun v9 h8 q9 => ?_) (fun E9 q9 h9 w9 => jr_out F M O (hE _ _ _ w9))
    obtain ⟨r7, rfl, w⟩ := q9
    refine jr_aload_n (pc := 27) F (j := 1) dJ7_ensureCapacityInternal_27 rfl ?_
    refine jr_gi (pc := 28) (ci := 26) (f := 1) F rfl in_J8 (Nat.le_of_ble_eq_true rfl) q281 dJ7_ensureCapacityInternal_28 w (fun g9 w => ?_)
    refine jr_ishl (pc := 31) F dJ7_ensureCapacityInternal_31 ?_
    obtain ⟨c10, hk9, w⟩ := w
    refine jr_callS (pc := 32) (As := [_, _]) F M (lw_S q326 q327 q135 q328) dJ7_ensureCapacityInternal_32 hC_J13_copyOf.2 rfl (Nat.le_of_ble_eq_true rfl) (Nat.le_of_ble_eq_true rfl) (Nat.le_of_ble_eq_true rfl) hk9 (cC_J13_copyOf J w) (fun v9 h12 q9 => ?_) (fun E9 q9 h9 w9 => jr_out F M O (hE _ _ _ w9))
    obtain ⟨r11, rfl, w⟩ := q9
    refine jr_pr (pc := 35) (ci := 26) (f := 0) F rfl in_J8 tyJ8_ok nmJ8 (Nat.le_of_ble_eq_true rfl) rfl rfl q280 dJ7_ensureCapacityInternal_35 w (fun h13 w => ?_)
    exact jr_vret (pc := 38) F M dJ7_ensureCapacityInternal_38 (hQ _ w)

theorem cC_J7_ensureCapacityInternal {G : jj_G} {l : Launch} (J : jx_G G l) {x0 : Option Nat} {x1 : Int} {Q : jj_H → Prop} {E : String → Nat → jj_H → Prop} {h : jj_H} {k : Nat} (w : fC_J7_ensureCapacityInternal (jj_gk G) x0 x1 Q E h k) : jj_Ct G l yJ7_ensureCapacityInternal (ws_ yJ7_ensureCapacityInternal cJ7_ensureCapacityInternal 3 (none)) 3 82 [.inr (.inr (.inl x0)), .inl x1] h k (jc_v Q) E := by
  refine jj_Ct.of J.1 (by decide +kernel) (Nat.le_of_ble_eq_true rfl) rfl (fun X hG hl F M O hnm => ?_)
  subst hG; subst hl
  exact sC_J7_ensureCapacityInternal F M O J hnm (fun h q => ⟨rfl, q⟩) (fun _ _ _ q => q) _ _ _ _ w
theorem hC_J7_ensureCapacityInternal : yJ7_ensureCapacityInternal.cls = RJ7 ∧ yJ7_ensureCapacityInternal.cls ≠ "java/lang/invoke/MethodHandle" ∧ yJ7_ensureCapacityInternal.cls ≠ "java/lang/invoke/VarHandle" ∧ (parseMethodDescriptor yJ7_ensureCapacityInternal.desc).map (fun d => d.parameters.length) = some 1 := by decide +kernel
/-! J7_inflateIfNeededFor(Ljava/lang/String;)V -/
def fC_J7_inflateIfNeededFor (gk : Nat → Nat) (x0 : Option Nat) (x1 : Option Nat) (Q : jj_H → Prop) (E : String → Nat → jj_H → Prop) (h : jj_H) (k : Nat) : Prop :=
  jj_r (1 : Int) ∧ ((1 : Int) = 0 → (
    Q h)) ∧
  (¬ (1 : Int) = 0 → (
    jp_gi h x0 26 1 (fun g1 =>
    jq_J9_coder x1 (fun r4 h2 k3 =>
    jj_r g1 ∧ jj_r r4 ∧ (g1 = r4 → (
      Q h2)) ∧
    (¬ g1 = r4 → (
      False))) h k)))
theorem sC_J7_inflateIfNeededFor {X : jj_X} {N : Option jj_AV → jj_H → Prop} {XN : String → Nat → jj_H → Prop} (F : jj_F X RJ7 cJ7_inflateIfNeededFor 2) (M : jj_M X (none) 1 20 N XN) (O : jj_no X) (J : jx_G X.1 X.2.2.1) (hi : X.2.2.2.2.2.2.2.2.2.1.name = yJ7_inflateIfNeededFor.name) {Q : jj_H → Prop} {E : String → Nat → jj_H → Prop} (hQ : ∀ h, Q h → N none h) (hE : ∀ e q h, E e q h → XN e q h) (x0 : Option Nat) (x1 : Option Nat) : ∀ (h : jj_H) (k : Nat), fC_J7_inflateIfNeededFor (jj_gk X.1) x0 x1 Q E h k → jj_J X 2 0 [(0, .inr (.inr (.inl x0))), (1, .inr (.inr (.inl x1)))] [] h k := by
  intro h k w
  unfold fC_J7_inflateIfNeededFor at w
  refine jr_gst (pc := 0) F J 0 rfl q271 dJ7_inflateIfNeededFor_0 ?_
  obtain ⟨hx9, w1, w2⟩ := w
  refine jr_if_eq (pc := 3) (tgt := 21) F hx9 dJ7_inflateIfNeededFor_3 rfl (fun c9 => ?_) (fun c9 => ?_)
  · have w := w1 c9
    exact jr_vret (pc := 21) F M dJ7_inflateIfNeededFor_21 (hQ _ w)
  · have w := w2 c9
    refine jr_aload_n (pc := 6) F (j := 0) dJ7_inflateIfNeededFor_6 rfl ?_
    refine jr_gi (pc := 7) (ci := 26) (f := 1) F rfl in_J8 (Nat.le_of_ble_eq_true rfl) q281 dJ7_inflateIfNeededFor_7 w (fun g1 w => ?_)
    refine jr_aload_n (pc := 10) F (j := 1) dJ7_inflateIfNeededFor_10 rfl ?_
    refine jr_jVR (pc := 11) (As := []) (ci := 25) F M (lw_V q390 q378 q379 q131 q380) dJ7_inflateIfNeededFor_11 hj_J9_coder rfl (Nat.le_of_ble_eq_true rfl) (Nat.le_of_ble_eq_true rfl) (Nat.le_of_ble_eq_true rfl) rfl (cb_J9_coder J (fr := 0) (lo := 0) (Nat.le_of_ble_eq_true rfl) (Nat.le_of_ble_eq_true rfl) _ _ _ _ w) (fun v9 h2 k3 q9 => ?_)
    obtain ⟨r4, rfl, w⟩ := q9
    obtain ⟨hx9, hy9, w1, w2⟩ := w
    refine jr_icmp_eq (pc := 14) (tgt := 21) F hx9 hy9 dJ7_inflateIfNeededFor_14 rfl (fun c9 => ?_) (fun c9 => ?_)
    · have w := w1 c9
      exact jr_vret (pc := 21) F M dJ7_inflateIfNeededFor_21 (hQ _ w)
    · have w := w2 c9
      refine jr_aload_n (pc := 17) F (j := 0) dJ7_inflateIfNeededFor_17 rfl ?_
      exact (show False from w).elim

theorem cC_J7_inflateIfNeededFor {G : jj_G} {l : Launch} (J : jx_G G l) {x0 : Option Nat} {x1 : Option Nat} {Q : jj_H → Prop} {E : String → Nat → jj_H → Prop} {h : jj_H} {k : Nat} (w : fC_J7_inflateIfNeededFor (jj_gk G) x0 x1 Q E h k) : jj_Ct G l yJ7_inflateIfNeededFor (ws_ yJ7_inflateIfNeededFor cJ7_inflateIfNeededFor 2 (none)) 1 20 [.inr (.inr (.inl x0)), .inr (.inr (.inl x1))] h k (jc_v Q) E := by
  refine jj_Ct.of J.1 (by decide +kernel) (Nat.le_of_ble_eq_true rfl) rfl (fun X hG hl F M O hnm => ?_)
  subst hG; subst hl
  exact sC_J7_inflateIfNeededFor F M O J hnm (fun h q => ⟨rfl, q⟩) (fun _ _ _ q => q) _ _ _ _ w
theorem hC_J7_inflateIfNeededFor : yJ7_inflateIfNeededFor.cls = RJ7 ∧ yJ7_inflateIfNeededFor.cls ≠ "java/lang/invoke/MethodHandle" ∧ yJ7_inflateIfNeededFor.cls ≠ "java/lang/invoke/VarHandle" ∧ (parseMethodDescriptor yJ7_inflateIfNeededFor.desc).map (fun d => d.parameters.length) = some 1 := by decide +kernel
/-! J7_putStringAt(ILjava/lang/String;)V -/
def fC_J7_putStringAt (gk : Nat → Nat) (x0 : Option Nat) (x1 : Int) (x2 : Option Nat) (Q : jj_H → Prop) (E : String → Nat → jj_H → Prop) (h : jj_H) (k : Nat) : Prop :=
  jp_is h x0 26 ∧ fC_J7_inflateIfNeededFor gk x0 x2 (fun h3 =>
  jp_gr h3 x0 26 0 (fun g4 =>
  jp_gi h3 x0 26 1 (fun g5 =>
  jq_J9_getBytes x2 g4 x1 g5 (fun h6 k7 =>
  Q h6) h3 k))) E h 0
theorem sC_J7_putStringAt {X : jj_X} {N : Option jj_AV → jj_H → Prop} {XN : String → Nat → jj_H → Prop} (F : jj_F X RJ7 cJ7_putStringAt 3) (M : jj_M X (none) 2 83 N XN) (O : jj_no X) (J : jx_G X.1 X.2.2.1) (hi : X.2.2.2.2.2.2.2.2.2.1.name = yJ7_putStringAt.name) {Q : jj_H → Prop} {E : String → Nat → jj_H → Prop} (hQ : ∀ h, Q h → N none h) (hE : ∀ e q h, E e q h → XN e q h) (x0 : Option Nat) (x1 : Int) (x2 : Option Nat) : ∀ (h : jj_H) (k : Nat), fC_J7_putStringAt (jj_gk X.1) x0 x1 x2 Q E h k → jj_J X 3 0 [(0, .inr (.inr (.inl x0))), (1, .inl x1), (2, .inr (.inr (.inl x2)))] [] h k := by
  intro h k w
  unfold fC_J7_putStringAt at w
  refine jr_aload_n (pc := 0) F (j := 0) dJ7_putStringAt_0 rfl ?_
  refine jr_aload_n (pc := 1) F (j := 2) dJ7_putStringAt_1 rfl ?_
  obtain ⟨hi9, w⟩ := w
  refine jr_cP (pc := 2) (As := [_]) (ci := 26) F M J (lw_P q386 q3775 q388 q129 q389) (jx_pvm 3 rfl) dJ7_putStringAt_2 hC_J7_inflateIfNeededFor.2 rfl (Nat.le_of_ble_eq_true rfl) (Nat.le_of_ble_eq_true rfl) (Nat.le_of_ble_eq_true rfl) rfl hi9 (Nat.zero_le _) (cC_J7_inflateIfNeededFor J w) (fun v9 h3 q9 => ?_) (fun E9 q9 h9 w9 => jr_out F M O (hE _ _ _ w9))
  obtain ⟨rfl, w⟩ := q9
  refine jr_aload_n (pc := 5) F (j := 2) dJ7_putStringAt_5 rfl ?_
  refine jr_aload_n (pc := 6) F (j := 0) dJ7_putStringAt_6 rfl ?_
  refine jr_gr (pc := 7) (ci := 26) (f := 0) F rfl in_J8 (Nat.le_of_ble_eq_true rfl) q280 dJ7_putStringAt_7 w (fun g4 w => ?_)
  refine jr_iload_n (pc := 10) F (j := 1) dJ7_putStringAt_10 rfl ?_
  refine jr_aload_n (pc := 11) F (j := 0) dJ7_putStringAt_11 rfl ?_
  refine jr_gi (pc := 12) (ci := 26) (f := 1) F rfl in_J8 (Nat.le_of_ble_eq_true rfl) q281 dJ7_putStringAt_12 w (fun g5 w => ?_)
  refine jr_jVR (pc := 15) (As := [_, _, _]) (ci := 25) F M (lw_V q410 q411 q412 q131 q413) dJ7_putStringAt_15 hj_J9_getBytes rfl (Nat.le_of_ble_eq_true rfl) (Nat.le_of_ble_eq_true rfl) (Nat.le_of_ble_eq_true rfl) rfl (cb_J9_getBytes J (fr := 1) (lo := 60) (Nat.le_of_ble_eq_true rfl) (Nat.le_of_ble_eq_true rfl) _ _ _ _ _ _ _ w) (fun v9 h6 k7 q9 => ?_)
  obtain ⟨rfl, w⟩ := q9
  exact jr_vret (pc := 18) F M dJ7_putStringAt_18 (hQ _ w)

theorem cC_J7_putStringAt {G : jj_G} {l : Launch} (J : jx_G G l) {x0 : Option Nat} {x1 : Int} {x2 : Option Nat} {Q : jj_H → Prop} {E : String → Nat → jj_H → Prop} {h : jj_H} {k : Nat} (w : fC_J7_putStringAt (jj_gk G) x0 x1 x2 Q E h k) : jj_Ct G l yJ7_putStringAt (ws_ yJ7_putStringAt cJ7_putStringAt 3 (none)) 2 83 [.inr (.inr (.inl x0)), .inl x1, .inr (.inr (.inl x2))] h k (jc_v Q) E := by
  refine jj_Ct.of J.1 (by decide +kernel) (Nat.le_of_ble_eq_true rfl) rfl (fun X hG hl F M O hnm => ?_)
  subst hG; subst hl
  exact sC_J7_putStringAt F M O J hnm (fun h q => ⟨rfl, q⟩) (fun _ _ _ q => q) _ _ _ _ _ w
theorem hC_J7_putStringAt : yJ7_putStringAt.cls = RJ7 ∧ yJ7_putStringAt.cls ≠ "java/lang/invoke/MethodHandle" ∧ yJ7_putStringAt.cls ≠ "java/lang/invoke/VarHandle" ∧ (parseMethodDescriptor yJ7_putStringAt.desc).map (fun d => d.parameters.length) = some 2 := by decide +kernel
/-! J7_append(Ljava/lang/String;)Ljava/lang/AbstractStringBuilder; -/
def fC_J7_append (gk : Nat → Nat) (x0 : Option Nat) (x1 : Option Nat) (Q : Option Nat → jj_H → Prop) (E : String → Nat → jj_H → Prop) (h : jj_H) (k : Nat) : Prop :=
  (¬ x1 = none → (
    jq_J9_length x1 (fun r3 h1 k2 =>
    jp_gi h1 x0 26 3 (fun g4 =>
    jp_is h1 x0 26 ∧ ∃ c5, c5 ≤ k2 ∧ fC_J7_ensureCapacityInternal gk x0 (g4 + r3) (fun h7 =>
    jp_gi h7 x0 26 3 (fun g8 =>
    jp_is h7 x0 26 ∧ fC_J7_putStringAt gk x0 g8 x1 (fun h11 =>
    jp_gi h11 x0 26 3 (fun g12 =>
    jp_pi h11 x0 26 3 (g12 + r3) (fun h13 =>
    Q x0 h13))) E h7 0)) E h1 c5)) h k)) ∧
  (x1 = none → (
    False))
theorem sC_J7_append {X : jj_X} {N : Option jj_AV → jj_H → Prop} {XN : String → Nat → jj_H → Prop} (F : jj_F X RJ7 cJ7_append 3) (M : jj_M X (some ((.object "java/lang/AbstractStringBuilder"))) 4 105 N XN) (O : jj_no X) (J : jx_G X.1 X.2.2.1) (hi : X.2.2.2.2.2.2.2.2.2.1.name = yJ7_append.name) {Q : Option Nat → jj_H → Prop} {E : String → Nat → jj_H → Prop} (hQ : ∀ r h, Q r h → N (some (.inr (.inr (.inl r)))) h) (hE : ∀ e q h, E e q h → XN e q h) (x0 : Option Nat) (x1 : Option Nat) : ∀ (h : jj_H) (k : Nat), fC_J7_append (jj_gk X.1) x0 x1 Q E h k → jj_J X 3 0 [(0, .inr (.inr (.inl x0))), (1, .inr (.inr (.inl x1)))] [] h k := by
  intro h k w
  unfold fC_J7_append at w
  refine jr_aload_n (pc := 0) F (j := 1) dJ7_append_0 rfl ?_
  obtain ⟨w1, w2⟩ := w
  refine jr_ifnonnull (pc := 1) (tgt := 9) F dJ7_append_1 rfl (fun c9 => ?_) (fun c9 => ?_)
  · have w := w1 c9
    refine jr_aload_n (pc := 9) F (j := 1) dJ7_append_9 rfl ?_
    refine jr_jVR (pc := 10) (As := []) (ci := 25) F M (lw_V q373 q374 q375 q131 q376) dJ7_append_10 hj_J9_length rfl (Nat.le_of_ble_eq_true rfl) (Nat.le_of_ble_eq_true rfl) (Nat.le_of_ble_eq_true rfl) rfl (cb_J9_length J (fr := 1) (lo := 20) (Nat.le_of_ble_eq_true rfl) (Nat.le_of_ble_eq_true rfl) _ _ _ _ w) (fun v9 h1 k2 q9 => ?_)
    obtain ⟨r3, rfl, w⟩ := q9
    refine jr_istore_n (pc := 13) F (vs' := [(2, .inl _), (0, .inr (.inr (.inl _))), (1, .inr (.inr (.inl _)))]) dJ7_append_13 (Nat.le_of_ble_eq_true rfl) rfl ?_
    refine jr_aload_n (pc := 14) F (j := 1) dJ7_append_14 rfl ?_
    refine jr_aload_n (pc := 15) F (j := 1) dJ7_append_15 rfl ?_
    refine jr_gi (pc := 16) (ci := 26) (f := 3) F rfl in_J8 (Nat.le_of_ble_eq_true rfl) q284 dJ7_append_16 w (fun g4 w => ?_)
    refine jr_iload_n (pc := 19) F (j := 0) dJ7_append_19 rfl ?_
    refine jr_iadd (pc := 20) F dJ7_append_20 ?_
    obtain ⟨hi9, c5, hk9, w⟩ := w
    refine jr_cP (pc := 21) (As := [_]) (ci := 26) F M J (lw_P q307 q3772 q309 q129 q310) (jx_pvm 0 rfl) dJ7_append_21 hC_J7_ensureCapacityInternal.2 rfl (Nat.le_of_ble_eq_true rfl) (Nat.le_of_ble_eq_true rfl) (Nat.le_of_ble_eq_true rfl) rfl hi9 hk9 (cC_J7_ensureCapacityInternal J w) (fun v9 h7 q9 => ?_) (fun E9 q9 h9 w9 => jr_out F M O (hE _ _ _ w9))
    obtain ⟨rfl, w⟩ := q9
    refine jr_aload_n (pc := 24) F (j := 1) dJ7_append_24 rfl ?_
    refine jr_aload_n (pc := 25) F (j := 1) dJ7_append_25 rfl ?_
    refine jr_gi (pc := 26) (ci := 26) (f := 3) F rfl in_J8 (Nat.le_of_ble_eq_true rfl) q284 dJ7_append_26 w (fun g8 w => ?_)
    refine jr_aload_n (pc := 29) F (j := 2) dJ7_append_29 rfl ?_
    obtain ⟨hi9, w⟩ := w
    refine jr_cP (pc := 30) (As := [_, _]) (ci := 26) F M J (lw_P q382 q3774 q384 q129 q385) (jx_pvm 2 rfl) dJ7_append_30 hC_J7_putStringAt.2 rfl (Nat.le_of_ble_eq_true rfl) (Nat.le_of_ble_eq_true rfl) (Nat.le_of_ble_eq_true rfl) rfl hi9 (Nat.zero_le _) (cC_J7_putStringAt J w) (fun v9 h11 q9 => ?_) (fun E9 q9 h9 w9 => jr_out F M O (hE _ _ _ w9))
    obtain ⟨rfl, w⟩ := q9
    refine jr_aload_n (pc := 33) F (j := 1) dJ7_append_33 rfl ?_
    refine jr_dup (pc := 34) F dJ7_append_34 rfl ?_
    refine jr_gi (pc := 35) (ci := 26) (f := 3) F rfl in_J8 (Nat.le_of_ble_eq_true rfl) q284 dJ7_append_35 w (fun g12 w => ?_)
    refine jr_iload_n (pc := 38) F (j := 0) dJ7_append_38 rfl ?_
    refine jr_iadd (pc := 39) F dJ7_append_39 ?_
    refine jr_pi (pc := 40) (ci := 26) (f := 3) F rfl in_J8 tyJ8_ok nmJ8 (Nat.le_of_ble_eq_true rfl) rfl rfl q284 dJ7_append_40 w (fun h13 w => ?_)
    refine jr_aload_n (pc := 43) F (j := 1) dJ7_append_43 rfl ?_
    exact jr_aret (pc := 44) F M (Or.inl ⟨_, rfl⟩) dJ7_append_44 (hQ _ _ w)
  · have w := w2 c9
    refine jr_aload_n (pc := 4) F (j := 0) dJ7_append_4 rfl ?_
    exact (show False from w).elim

theorem cC_J7_append {G : jj_G} {l : Launch} (J : jx_G G l) {x0 : Option Nat} {x1 : Option Nat} {Q : Option Nat → jj_H → Prop} {E : String → Nat → jj_H → Prop} {h : jj_H} {k : Nat} (w : fC_J7_append (jj_gk G) x0 x1 Q E h k) : jj_Ct G l yJ7_append (ws_ yJ7_append cJ7_append 3 (some ((.object "java/lang/AbstractStringBuilder")))) 4 105 [.inr (.inr (.inl x0)), .inr (.inr (.inl x1))] h k (jc_r Q) E := by
  refine jj_Ct.of J.1 (by decide +kernel) (Nat.le_of_ble_eq_true rfl) rfl (fun X hG hl F M O hnm => ?_)
  subst hG; subst hl
  exact sC_J7_append F M O J hnm (fun r h q => ⟨r, rfl, q⟩) (fun _ _ _ q => q) _ _ _ _ w
theorem hC_J7_append : yJ7_append.cls = RJ7 ∧ yJ7_append.cls ≠ "java/lang/invoke/MethodHandle" ∧ yJ7_append.cls ≠ "java/lang/invoke/VarHandle" ∧ (parseMethodDescriptor yJ7_append.desc).map (fun d => d.parameters.length) = some 1 := by decide +kernel
/-! J7_isLatin1()Z -/
def fC_J7_isLatin1 (gk : Nat → Nat) (x0 : Option Nat) (Q : Int → jj_H → Prop) (E : String → Nat → jj_H → Prop) (h : jj_H) (k : Nat) : Prop :=
  jj_r (1 : Int) ∧ ((1 : Int) = 0 → (
    Q 0 h)) ∧
  (¬ (1 : Int) = 0 → (
    jp_gi h x0 26 1 (fun g1 =>
    jj_r g1 ∧ (¬ g1 = 0 → (
      Q 0 h)) ∧
    (g1 = 0 → (
      Q 1 h)))))
theorem sC_J7_isLatin1 {X : jj_X} {N : Option jj_AV → jj_H → Prop} {XN : String → Nat → jj_H → Prop} (F : jj_F X RJ7 cJ7_isLatin1 1) (M : jj_M X (some (.boolean)) 0 0 N XN) (O : jj_no X) (J : jx_G X.1 X.2.2.1) (hi : X.2.2.2.2.2.2.2.2.2.1.name = yJ7_isLatin1.name) {Q : Int → jj_H → Prop} {E : String → Nat → jj_H → Prop} (hQ : ∀ r h, Q r h → N (some (.inl r)) h) (hE : ∀ e q h, E e q h → XN e q h) (x0 : Option Nat) : ∀ (h : jj_H) (k : Nat), fC_J7_isLatin1 (jj_gk X.1) x0 Q E h k → jj_J X 1 0 [(0, .inr (.inr (.inl x0)))] [] h k := by
  intro h k w
  unfold fC_J7_isLatin1 at w
  refine jr_gst (pc := 0) F J 0 rfl q271 dJ7_isLatin1_0 ?_
  obtain ⟨hx9, w1, w2⟩ := w
  refine jr_if_eq (pc := 3) (tgt := 17) F hx9 dJ7_isLatin1_3 rfl (fun c9 => ?_) (fun c9 => ?_)
  · have w := w1 c9
    refine jr_iconst (pc := 17) F dJ7_isLatin1_17 ?_
    exact jr_zret (pc := 18) F M dJ7_isLatin1_18 (by decide) (hQ _ _ w)
  · have w := w2 c9
    refine jr_aload_n (pc := 6) F (j := 0) dJ7_isLatin1_6 rfl ?_
    refine jr_gi (pc := 7) (ci := 26) (f := 1) F rfl in_J8 (Nat.le_of_ble_eq_true rfl) q281 dJ7_isLatin1_7 w (fun g1 w => ?_)
    obtain ⟨hx9, w1, w2⟩ := w
    refine jr_if_ne (pc := 10) (tgt := 17) F hx9 dJ7_isLatin1_10 rfl (fun c9 => ?_) (fun c9 => ?_)
    · have w := w1 c9
      refine jr_iconst (pc := 17) F dJ7_isLatin1_17 ?_
      exact jr_zret (pc := 18) F M dJ7_isLatin1_18 (by decide) (hQ _ _ w)
    · have w := w2 c9
      refine jr_iconst (pc := 13) F dJ7_isLatin1_13 ?_
      refine jr_goto (pc := 14) (tgt := 18) F dJ7_isLatin1_14 rfl ?_
      exact jr_zret (pc := 18) F M dJ7_isLatin1_18 (by decide) (hQ _ _ w)

theorem cC_J7_isLatin1 {G : jj_G} {l : Launch} (J : jx_G G l) {x0 : Option Nat} {Q : Int → jj_H → Prop} {E : String → Nat → jj_H → Prop} {h : jj_H} {k : Nat} (w : fC_J7_isLatin1 (jj_gk G) x0 Q E h k) : jj_Ct G l yJ7_isLatin1 (ws_ yJ7_isLatin1 cJ7_isLatin1 1 (some (.boolean))) 0 0 [.inr (.inr (.inl x0))] h k (jc_i Q) E := by
  refine jj_Ct.of J.1 (by decide +kernel) (Nat.le_of_ble_eq_true rfl) rfl (fun X hG hl F M O hnm => ?_)
  subst hG; subst hl
  exact sC_J7_isLatin1 F M O J hnm (fun r h q => ⟨r, rfl, q⟩) (fun _ _ _ q => q) _ _ _ w
theorem hC_J7_isLatin1 : yJ7_isLatin1.cls = RJ7 ∧ yJ7_isLatin1.cls ≠ "java/lang/invoke/MethodHandle" ∧ yJ7_isLatin1.cls ≠ "java/lang/invoke/VarHandle" ∧ (parseMethodDescriptor yJ7_isLatin1.desc).map (fun d => d.parameters.length) = some 0 := by decide +kernel
/-! J7_append_3(C)Ljava/lang/AbstractStringBuilder; -/
def fC_J7_append_3_j45 (gk : Nat → Nat) (x0 : Option Nat) (x1 : Int) (Q : Option Nat → jj_H → Prop) (E : String → Nat → jj_H → Prop) (h : jj_H) (k : Nat) : Prop :=
  jp_is h x0 26 ∧ fC_J7_isLatin1 gk x0 (fun r2 h3 =>
  jj_r r2 ∧ (r2 = 0 → (
    jp_gr h3 x0 26 0 (fun g4 =>
    jp_gi h3 x0 26 3 (fun g5 =>
    jp_pi h3 x0 26 3 (g5 + 1) (fun h6 =>
    False))))) ∧
  (¬ r2 = 0 → (
    False))) E h 0
def fC_J7_append_3 (gk : Nat → Nat) (x0 : Option Nat) (x1 : Int) (Q : Option Nat → jj_H → Prop) (E : String → Nat → jj_H → Prop) (h : jj_H) (k : Nat) : Prop :=
  jp_gi h x0 26 3 (fun g7 =>
  jp_is h x0 26 ∧ ∃ c8, c8 ≤ k ∧ fC_J7_ensureCapacityInternal gk x0 (g7 + 1) (fun h10 =>
  jp_is h10 x0 26 ∧ fC_J7_isLatin1 gk x0 (fun r12 h13 =>
  jj_r r12 ∧ (r12 = 0 → (
    fC_J7_append_3_j45 gk x0 x1 Q E h13 (k - c8))) ∧
  (¬ r12 = 0 → (
    fC_J15_canEncode gk x1 (fun r15 h16 =>
    jj_r r15 ∧ (r15 = 0 → (
      fC_J7_append_3_j45 gk x0 x1 Q E h16 (k - c8))) ∧
    (¬ r15 = 0 → (
      jp_gr h16 x0 26 0 (fun g17 =>
      jp_gi h16 x0 26 3 (fun g18 =>
      jp_pi h16 x0 26 3 (g18 + 1) (fun h19 =>
      (-128 ≤ jj_i2b x1 ∧ (jj_i2b x1) < 128) ∧
      jp_as h19 g17 2 g18 (jj_i2b x1) (fun h20 =>
      Q x0 h20))))))) E h13 0))) E h10 0) E h c8)
theorem sC_J7_append_3_j45 {X : jj_X} {N : Option jj_AV → jj_H → Prop} {XN : String → Nat → jj_H → Prop} (F : jj_F X RJ7 cJ7_append_3 2) (M : jj_M X (some ((.object "java/lang/AbstractStringBuilder"))) 4 104 N XN) (O : jj_no X) (J : jx_G X.1 X.2.2.1) (hi : X.2.2.2.2.2.2.2.2.2.1.name = yJ7_append_3.name) {Q : Option Nat → jj_H → Prop} {E : String → Nat → jj_H → Prop} (hQ : ∀ r h, Q r h → N (some (.inr (.inr (.inl r)))) h) (hE : ∀ e q h, E e q h → XN e q h) (x0 : Option Nat) (x1 : Int) : ∀ (h : jj_H) (k : Nat), fC_J7_append_3_j45 (jj_gk X.1) x0 x1 Q E h k → jj_J X 2 45 [(0, .inr (.inr (.inl x0))), (1, .inl x1)] [] h k := by
  intro h k w
  unfold fC_J7_append_3_j45 at w
  refine jr_aload_n (pc := 45) F (j := 0) dJ7_append_3_45 rfl ?_
  obtain ⟨hi9, w⟩ := w
  refine jr_cU (pc := 46) (As := []) (ci := 26) F M (lw_U q342 q344 q343 q345 q343 q129 q346) q346 dJ7_append_3_46 (by decide +kernel) rfl (Nat.le_of_ble_eq_true rfl) (Nat.le_of_ble_eq_true rfl) (Nat.le_of_ble_eq_true rfl) rfl hi9 (Nat.zero_le _) (cC_J7_isLatin1 J w) (fun v9 h3 q9 => ?_) (fun E9 q9 h9 w9 => jr_out F M O (hE _ _ _ w9))
  obtain ⟨r2, rfl, w⟩ := q9
  obtain ⟨hx9, w1, w2⟩ := w
  refine jr_if_eq (pc := 49) (tgt := 56) F hx9 dJ7_append_3_49 rfl (fun c9 => ?_) (fun c9 => ?_)
  · have w := w1 c9
    refine jr_aload_n (pc := 56) F (j := 0) dJ7_append_3_56 rfl ?_
    refine jr_gr (pc := 57) (ci := 26) (f := 0) F rfl in_J8 (Nat.le_of_ble_eq_true rfl) q280 dJ7_append_3_57 w (fun g4 w => ?_)
    refine jr_aload_n (pc := 60) F (j := 0) dJ7_append_3_60 rfl ?_
    refine jr_dup (pc := 61) F dJ7_append_3_61 rfl ?_
    refine jr_gi (pc := 62) (ci := 26) (f := 3) F rfl in_J8 (Nat.le_of_ble_eq_true rfl) q284 dJ7_append_3_62 w (fun g5 w => ?_)
    refine jr_dup_x1 (pc := 65) F dJ7_append_3_65 rfl rfl ?_
    refine jr_iconst (pc := 66) F dJ7_append_3_66 ?_
    refine jr_iadd (pc := 67) F dJ7_append_3_67 ?_
    refine jr_pi (pc := 68) (ci := 26) (f := 3) F rfl in_J8 tyJ8_ok nmJ8 (Nat.le_of_ble_eq_true rfl) rfl rfl q284 dJ7_append_3_68 w (fun h6 w => ?_)
    refine jr_iload_n (pc := 71) F (j := 1) dJ7_append_3_71 rfl ?_
    exact (show False from w).elim
  · have w := w2 c9
    refine jr_aload_n (pc := 52) F (j := 0) dJ7_append_3_52 rfl ?_
    exact (show False from w).elim

theorem sC_J7_append_3 {X : jj_X} {N : Option jj_AV → jj_H → Prop} {XN : String → Nat → jj_H → Prop} (F : jj_F X RJ7 cJ7_append_3 2) (M : jj_M X (some ((.object "java/lang/AbstractStringBuilder"))) 4 104 N XN) (O : jj_no X) (J : jx_G X.1 X.2.2.1) (hi : X.2.2.2.2.2.2.2.2.2.1.name = yJ7_append_3.name) {Q : Option Nat → jj_H → Prop} {E : String → Nat → jj_H → Prop} (hQ : ∀ r h, Q r h → N (some (.inr (.inr (.inl r)))) h) (hE : ∀ e q h, E e q h → XN e q h) (x0 : Option Nat) (x1 : Int) : ∀ (h : jj_H) (k : Nat), fC_J7_append_3 (jj_gk X.1) x0 x1 Q E h k → jj_J X 2 0 [(0, .inr (.inr (.inl x0))), (1, .inl x1)] [] h k := by
  intro h k w
  unfold fC_J7_append_3 at w
  refine jr_aload_n (pc := 0) F (j := 0) dJ7_append_3_0 rfl ?_
  refine jr_aload_n (pc := 1) F (j := 0) dJ7_append_3_1 rfl ?_
  refine jr_gi (pc := 2) (ci := 26) (f := 3) F rfl in_J8 (Nat.le_of_ble_eq_true rfl) q284 dJ7_append_3_2 w (fun g7 w => ?_)
  refine jr_iconst (pc := 5) F dJ7_append_3_5 ?_
  refine jr_iadd (pc := 6) F dJ7_append_3_6 ?_
  obtain ⟨hi9, c8, hk9, w⟩ := w
  refine jr_cP (pc := 7) (As := [_]) (ci := 26) F M J (lw_P q307 q3772 q309 q129 q310) (jx_pvm 0 rfl) dJ7_append_3_7 hC_J7_ensureCapacityInternal.2 rfl (Nat.le_of_ble_eq_true rfl) (Nat.le_of_ble_eq_true rfl) (Nat.le_of_ble_eq_true rfl) rfl hi9 hk9 (cC_J7_ensureCapacityInternal J w) (fun v9 h10 q9 => ?_) (fun E9 q9 h9 w9 => jr_out F M O (hE _ _ _ w9))
  obtain ⟨rfl, w⟩ := q9
  refine jr_aload_n (pc := 10) F (j := 0) dJ7_append_3_10 rfl ?_
  obtain ⟨hi9, w⟩ := w
  refine jr_cU (pc := 11) (As := []) (ci := 26) F M (lw_U q342 q344 q343 q345 q343 q129 q346) q346 dJ7_append_3_11 (by decide +kernel) rfl (Nat.le_of_ble_eq_true rfl) (Nat.le_of_ble_eq_true rfl) (Nat.le_of_ble_eq_true rfl) rfl hi9 (Nat.zero_le _) (cC_J7_isLatin1 J w) (fun v9 h13 q9 => ?_) (fun E9 q9 h9 w9 => jr_out F M O (hE _ _ _ w9))
  obtain ⟨r12, rfl, w⟩ := q9
  obtain ⟨hx9, w1, w2⟩ := w
  refine jr_if_eq (pc := 14) (tgt := 45) F hx9 dJ7_append_3_14 rfl (fun c9 => ?_) (fun c9 => ?_)
  · have w := w1 c9
    exact sC_J7_append_3_j45 F M O J hi hQ hE _ _ _ _ w
  · have w := w2 c9
    refine jr_iload_n (pc := 17) F (j := 1) dJ7_append_3_17 rfl ?_
    refine jr_callS (pc := 18) (As := [_]) F M (lw_S q2370 q2371 q138 q2372) dJ7_append_3_18 hC_J15_canEncode.2 rfl (Nat.le_of_ble_eq_true rfl) (Nat.le_of_ble_eq_true rfl) (Nat.le_of_ble_eq_true rfl) (Nat.zero_le _) (cC_J15_canEncode J w) (fun v9 h16 q9 => ?_) (fun E9 q9 h9 w9 => jr_out F M O (hE _ _ _ w9))
    obtain ⟨r15, rfl, w⟩ := q9
    obtain ⟨hx9, w1, w2⟩ := w
    refine jr_if_eq (pc := 21) (tgt := 45) F hx9 dJ7_append_3_21 rfl (fun c9 => ?_) (fun c9 => ?_)
    · have w := w1 c9
      exact sC_J7_append_3_j45 F M O J hi hQ hE _ _ _ _ w
    · have w := w2 c9
      refine jr_aload_n (pc := 24) F (j := 0) dJ7_append_3_24 rfl ?_
      refine jr_gr (pc := 25) (ci := 26) (f := 0) F rfl in_J8 (Nat.le_of_ble_eq_true rfl) q280 dJ7_append_3_25 w (fun g17 w => ?_)
      refine jr_aload_n (pc := 28) F (j := 0) dJ7_append_3_28 rfl ?_
      refine jr_dup (pc := 29) F dJ7_append_3_29 rfl ?_
      refine jr_gi (pc := 30) (ci := 26) (f := 3) F rfl in_J8 (Nat.le_of_ble_eq_true rfl) q284 dJ7_append_3_30 w (fun g18 w => ?_)
      refine jr_dup_x1 (pc := 33) F dJ7_append_3_33 rfl rfl ?_
      refine jr_iconst (pc := 34) F dJ7_append_3_34 ?_
      refine jr_iadd (pc := 35) F dJ7_append_3_35 ?_
      refine jr_pi (pc := 36) (ci := 26) (f := 3) F rfl in_J8 tyJ8_ok nmJ8 (Nat.le_of_ble_eq_true rfl) rfl rfl q284 dJ7_append_3_36 w (fun h19 w => ?_)
      refine jr_iload_n (pc := 39) F (j := 1) dJ7_append_3_39 rfl ?_
      refine jr_i2b (pc := 40) F dJ7_append_3_40 ?_
      obtain ⟨hb9, w⟩ := w
      refine jr_bast (pc := 41) F dJ7_append_3_41 hb9 w (fun h20 w => ?_)
      refine jr_goto (pc := 42) (tgt := 75) F dJ7_append_3_42 rfl ?_
      refine jr_aload_n (pc := 75) F (j := 0) dJ7_append_3_75 rfl ?_
      exact jr_aret (pc := 76) F M (Or.inl ⟨_, rfl⟩) dJ7_append_3_76 (hQ _ _ w)

theorem cC_J7_append_3 {G : jj_G} {l : Launch} (J : jx_G G l) {x0 : Option Nat} {x1 : Int} {Q : Option Nat → jj_H → Prop} {E : String → Nat → jj_H → Prop} {h : jj_H} {k : Nat} (w : fC_J7_append_3 (jj_gk G) x0 x1 Q E h k) : jj_Ct G l yJ7_append_3 (ws_ yJ7_append_3 cJ7_append_3 2 (some ((.object "java/lang/AbstractStringBuilder")))) 4 104 [.inr (.inr (.inl x0)), .inl x1] h k (jc_r Q) E := by
  refine jj_Ct.of J.1 (by decide +kernel) (Nat.le_of_ble_eq_true rfl) rfl (fun X hG hl F M O hnm => ?_)
  subst hG; subst hl
  exact sC_J7_append_3 F M O J hnm (fun r h q => ⟨r, rfl, q⟩) (fun _ _ _ q => q) _ _ _ _ w
theorem hC_J7_append_3 : yJ7_append_3.cls = RJ7 ∧ yJ7_append_3.cls ≠ "java/lang/invoke/MethodHandle" ∧ yJ7_append_3.cls ≠ "java/lang/invoke/VarHandle" ∧ (parseMethodDescriptor yJ7_append_3.desc).map (fun d => d.parameters.length) = some 1 := by decide +kernel
/-! J7_charAt(I)C -/
def fC_J7_charAt (gk : Nat → Nat) (x0 : Option Nat) (x1 : Int) (Q : Int → jj_H → Prop) (E : String → Nat → jj_H → Prop) (h : jj_H) (k : Nat) : Prop :=
  jp_gi h x0 26 1 (fun g1 =>
  jp_gr h x0 26 0 (fun g2 =>
  jp_gi h x0 26 3 (fun g3 =>
  jp_ai h g2 2 (fun g4 =>
  jj_r g3 ∧ jj_r (jj_shr g4 g1) ∧
  ∀ v5, v5 = min g3 (jj_shr g4 g1) →
  fC_J9_checkIndex gk x1 v5 (fun h8 =>
  jj_r g1 ∧ (¬ g1 = 0 → (
    False)) ∧
  (g1 = 0 → (
    jp_al h8 g2 2 x1 (fun g9 =>
    (0 ≤ (jj_i2c (jj_and g9 255) : Int) ∧ (jj_i2c (jj_and g9 255) : Int) < 256) ∧ Q (jj_i2c (jj_and g9 255)) h8)))) E h 0))))
theorem sC_J7_charAt {X : jj_X} {N : Option jj_AV → jj_H → Prop} {XN : String → Nat → jj_H → Prop} (F : jj_F X RJ7 cJ7_charAt 5) (M : jj_M X (some (.char)) 2 43 N XN) (O : jj_no X) (J : jx_G X.1 X.2.2.1) (hi : X.2.2.2.2.2.2.2.2.2.1.name = yJ7_charAt.name) {Q : Int → jj_H → Prop} {E : String → Nat → jj_H → Prop} (hQ : ∀ r h, Q r h → N (some (.inl r)) h) (hE : ∀ e q h, E e q h → XN e q h) (x0 : Option Nat) (x1 : Int) : ∀ (h : jj_H) (k : Nat), fC_J7_charAt (jj_gk X.1) x0 x1 Q E h k → jj_J X 5 0 [(0, .inr (.inr (.inl x0))), (1, .inl x1)] [] h k := by
  intro h k w
  unfold fC_J7_charAt at w
  refine jr_aload_n (pc := 0) F (j := 0) dJ7_charAt_0 rfl ?_
  refine jr_gi (pc := 1) (ci := 26) (f := 1) F rfl in_J8 (Nat.le_of_ble_eq_true rfl) q281 dJ7_charAt_1 w (fun g1 w => ?_)
  refine jr_istore_n (pc := 4) F (vs' := [(2, .inl _), (0, .inr (.inr (.inl _))), (1, .inl _)]) dJ7_charAt_4 (Nat.le_of_ble_eq_true rfl) rfl ?_
  refine jr_aload_n (pc := 5) F (j := 1) dJ7_charAt_5 rfl ?_
  refine jr_gr (pc := 6) (ci := 26) (f := 0) F rfl in_J8 (Nat.le_of_ble_eq_true rfl) q280 dJ7_charAt_6 w (fun g2 w => ?_)
  refine jr_astore_n (pc := 9) F (vs' := [(3, .inr (.inr (.inl _))), (2, .inl _), (0, .inr (.inr (.inl _))), (1, .inl _)]) dJ7_charAt_9 (Nat.le_of_ble_eq_true rfl) rfl ?_
  refine jr_aload_n (pc := 10) F (j := 2) dJ7_charAt_10 rfl ?_
  refine jr_gi (pc := 11) (ci := 26) (f := 3) F rfl in_J8 (Nat.le_of_ble_eq_true rfl) q284 dJ7_charAt_11 w (fun g3 w => ?_)
  refine jr_aload_n (pc := 14) F (j := 0) dJ7_charAt_14 rfl ?_
  refine jr_alenI (pc := 15) F ⟨2, _, fun _ => rfl⟩ dJ7_charAt_15 w (fun g4 w => ?_)
  refine jr_iload_n (pc := 16) F (j := 1) dJ7_charAt_16 rfl ?_
  refine jr_ishr (pc := 17) F dJ7_charAt_17 ?_
  obtain ⟨hx9, hy9, w⟩ := w
  refine jr_mmin (pc := 18) F M hx9 hy9 q3107 (Nat.le_of_ble_eq_true rfl) (Nat.le_of_ble_eq_true rfl) (Nat.le_of_ble_eq_true rfl) dJ7_charAt_18 ?_
  have w := w _ rfl
  refine jr_istore (pc := 21) F (vs' := [(4, .inl _), (3, .inr (.inr (.inl _))), (2, .inl _), (0, .inr (.inr (.inl _))), (1, .inl _)]) dJ7_charAt_21 (Nat.le_of_ble_eq_true rfl) rfl ?_
  refine jr_iload_n (pc := 23) F (j := 4) dJ7_charAt_23 rfl ?_
  refine jr_iload (pc := 24) F (j := 0) dJ7_charAt_24 rfl ?_
  refine jr_callS (pc := 26) (As := [_, _]) F M (lw_S q3108 q2380 q131 q2381) dJ7_charAt_26 hC_J9_checkIndex.2 rfl (Nat.le_of_ble_eq_true rfl) (Nat.le_of_ble_eq_true rfl) (Nat.le_of_ble_eq_true rfl) (Nat.zero_le _) (cC_J9_checkIndex J w) (fun v9 h8 q9 => ?_) (fun E9 q9 h9 w9 => jr_out F M O (hE _ _ _ w9))
  obtain ⟨rfl, w⟩ := q9
  refine jr_iload_n (pc := 29) F (j := 2) dJ7_charAt_29 rfl ?_
  obtain ⟨hx9, w1, w2⟩ := w
  refine jr_if_ne (pc := 30) (tgt := 42) F hx9 dJ7_charAt_30 rfl (fun c9 => ?_) (fun c9 => ?_)
  · have w := w1 c9
    refine jr_aload_n (pc := 42) F (j := 1) dJ7_charAt_42 rfl ?_
    refine jr_iload_n (pc := 43) F (j := 4) dJ7_charAt_43 rfl ?_
    exact (show False from w).elim
  · have w := w2 c9
    refine jr_aload_n (pc := 33) F (j := 1) dJ7_charAt_33 rfl ?_
    refine jr_iload_n (pc := 34) F (j := 4) dJ7_charAt_34 rfl ?_
    refine jr_bald (pc := 35) F dJ7_charAt_35 w (fun g9 w => ?_)
    refine jr_sipush (pc := 36) F dJ7_charAt_36 (by decide +kernel) ?_
    refine jr_iand (pc := 39) F dJ7_charAt_39 ?_
    refine jr_i2c (pc := 40) F dJ7_charAt_40 ?_
    exact jr_nret (pc := 41) F M dJ7_charAt_41 (jj_charN w.1) (hQ _ _ w.2)

theorem cC_J7_charAt {G : jj_G} {l : Launch} (J : jx_G G l) {x0 : Option Nat} {x1 : Int} {Q : Int → jj_H → Prop} {E : String → Nat → jj_H → Prop} {h : jj_H} {k : Nat} (w : fC_J7_charAt (jj_gk G) x0 x1 Q E h k) : jj_Ct G l yJ7_charAt (ws_ yJ7_charAt cJ7_charAt 5 (some (.char))) 2 43 [.inr (.inr (.inl x0)), .inl x1] h k (jc_i Q) E := by
  refine jj_Ct.of J.1 (by decide +kernel) (Nat.le_of_ble_eq_true rfl) rfl (fun X hG hl F M O hnm => ?_)
  subst hG; subst hl
  exact sC_J7_charAt F M O J hnm (fun r h q => ⟨r, rfl, q⟩) (fun _ _ _ q => q) _ _ _ _ w
theorem hC_J7_charAt : yJ7_charAt.cls = RJ7 ∧ yJ7_charAt.cls ≠ "java/lang/invoke/MethodHandle" ∧ yJ7_charAt.cls ≠ "java/lang/invoke/VarHandle" ∧ (parseMethodDescriptor yJ7_charAt.desc).map (fun d => d.parameters.length) = some 1 := by decide +kernel
/-! J7_getValue()[B -/
def fC_J7_getValue (gk : Nat → Nat) (x0 : Option Nat) (Q : Option Nat → jj_H → Prop) (E : String → Nat → jj_H → Prop) (h : jj_H) (k : Nat) : Prop :=
  jp_gr h x0 26 0 (fun g1 =>
  Q g1 h)
theorem sC_J7_getValue {X : jj_X} {N : Option jj_AV → jj_H → Prop} {XN : String → Nat → jj_H → Prop} (F : jj_F X RJ7 cJ7_getValue 1) (M : jj_M X (some ((.array .byte))) 0 0 N XN) (O : jj_no X) (J : jx_G X.1 X.2.2.1) (hi : X.2.2.2.2.2.2.2.2.2.1.name = yJ7_getValue.name) {Q : Option Nat → jj_H → Prop} {E : String → Nat → jj_H → Prop} (hQ : ∀ r h, Q r h → N (some (.inr (.inr (.inl r)))) h) (hE : ∀ e q h, E e q h → XN e q h) (x0 : Option Nat) : ∀ (h : jj_H) (k : Nat), fC_J7_getValue (jj_gk X.1) x0 Q E h k → jj_J X 1 0 [(0, .inr (.inr (.inl x0)))] [] h k := by
  intro h k w
  unfold fC_J7_getValue at w
  refine jr_aload_n (pc := 0) F (j := 0) dJ7_getValue_0 rfl ?_
  refine jr_gr (pc := 1) (ci := 26) (f := 0) F rfl in_J8 (Nat.le_of_ble_eq_true rfl) q280 dJ7_getValue_1 w (fun g1 w => ?_)
  exact jr_aret (pc := 4) F M (Or.inr ⟨_, rfl⟩) dJ7_getValue_4 (hQ _ _ w)

theorem cC_J7_getValue {G : jj_G} {l : Launch} (J : jx_G G l) {x0 : Option Nat} {Q : Option Nat → jj_H → Prop} {E : String → Nat → jj_H → Prop} {h : jj_H} {k : Nat} (w : fC_J7_getValue (jj_gk G) x0 Q E h k) : jj_Ct G l yJ7_getValue (ws_ yJ7_getValue cJ7_getValue 1 (some ((.array .byte)))) 0 0 [.inr (.inr (.inl x0))] h k (jc_r Q) E := by
  refine jj_Ct.of J.1 (by decide +kernel) (Nat.le_of_ble_eq_true rfl) rfl (fun X hG hl F M O hnm => ?_)
  subst hG; subst hl
  exact sC_J7_getValue F M O J hnm (fun r h q => ⟨r, rfl, q⟩) (fun _ _ _ q => q) _ _ _ w
theorem hC_J7_getValue : yJ7_getValue.cls = RJ7 ∧ yJ7_getValue.cls ≠ "java/lang/invoke/MethodHandle" ∧ yJ7_getValue.cls ≠ "java/lang/invoke/VarHandle" ∧ (parseMethodDescriptor yJ7_getValue.desc).map (fun d => d.parameters.length) = some 0 := by decide +kernel
/-! J7_init(I)V -/
def fC_J7_init (gk : Nat → Nat) (x0 : Option Nat) (x1 : Int) (Q : jj_H → Prop) (E : String → Nat → jj_H → Prop) (h : jj_H) (k : Nat) : Prop :=
  jp_so x0 ∧
  jj_r (1 : Int) ∧ ((1 : Int) = 0 → (
    False)) ∧
  (¬ (1 : Int) = 0 → (
    jp_ni h k 2 x1 (fun a1 h2 k3 =>
    jp_pr h2 x0 26 0 (some a1) (fun h4 =>
    jp_pb h4 x0 26 1 0 (fun h5 =>
    Q h5)))))
theorem sC_J7_init {X : jj_X} {N : Option jj_AV → jj_H → Prop} {XN : String → Nat → jj_H → Prop} (F : jj_F X RJ7 cJ7_init 2) (M : jj_M X (none) 1 20 N XN) (O : jj_no X) (J : jx_G X.1 X.2.2.1) (hi : X.2.2.2.2.2.2.2.2.2.1.name = yJ7_init.name) {Q : jj_H → Prop} {E : String → Nat → jj_H → Prop} (hQ : ∀ h, Q h → N none h) (hE : ∀ e q h, E e q h → XN e q h) (x0 : Option Nat) (x1 : Int) : ∀ (h : jj_H) (k : Nat), fC_J7_init (jj_gk X.1) x0 x1 Q E h k → jj_J X 2 0 [(0, .inr (.inr (.inl x0))), (1, .inl x1)] [] h k := by
  intro h k w
  unfold fC_J7_init at w
  refine jr_aload_n (pc := 0) F (j := 0) dJ7_init_0 rfl ?_
  obtain ⟨ha9, w⟩ := w
  refine jr_objInitO (pc := 1) F M q270 q192 q193 ha9 (Nat.le_of_ble_eq_true rfl) (Nat.le_of_ble_eq_true rfl) (Nat.le_of_ble_eq_true rfl) dJ7_init_1 ?_
  refine jr_gst (pc := 4) F J 0 rfl q271 dJ7_init_4 ?_
  obtain ⟨hx9, w1, w2⟩ := w
  refine jr_if_eq (pc := 7) (tgt := 25) F hx9 dJ7_init_7 rfl (fun c9 => ?_) (fun c9 => ?_)
  · have w := w1 c9
    refine jr_aload_n (pc := 25) F (j := 0) dJ7_init_25 rfl ?_
    refine jr_iload_n (pc := 26) F (j := 1) dJ7_init_26 rfl ?_
    exact (show False from w).elim
  · have w := w2 c9
    refine jr_aload_n (pc := 10) F (j := 0) dJ7_init_10 rfl ?_
    refine jr_iload_n (pc := 11) F (j := 1) dJ7_init_11 rfl ?_
    refine jr_newB (pc := 12) F q294 dJ7_init_12 w (fun a1 h2 k3 w => ?_)
    refine jr_pr (pc := 14) (ci := 26) (f := 0) F rfl in_J8 tyJ8_ok nmJ8 (Nat.le_of_ble_eq_true rfl) rfl rfl q280 dJ7_init_14 w (fun h4 w => ?_)
    refine jr_aload_n (pc := 17) F (j := 0) dJ7_init_17 rfl ?_
    refine jr_iconst (pc := 18) F dJ7_init_18 ?_
    refine jr_pb (pc := 19) (ci := 26) (f := 1) F rfl in_J8 tyJ8_ok nmJ8 (Nat.le_of_ble_eq_true rfl) rfl rfl q281 dJ7_init_19 w (fun h5 w => ?_)
    refine jr_goto (pc := 22) (tgt := 38) F dJ7_init_22 rfl ?_
    exact jr_vret (pc := 38) F M dJ7_init_38 (hQ _ w)

theorem cC_J7_init {G : jj_G} {l : Launch} (J : jx_G G l) {x0 : Option Nat} {x1 : Int} {Q : jj_H → Prop} {E : String → Nat → jj_H → Prop} {h : jj_H} {k : Nat} (w : fC_J7_init (jj_gk G) x0 x1 Q E h k) : jj_Ct G l yJ7_init (ws_ yJ7_init cJ7_init 2 (none)) 1 20 [.inr (.inr (.inl x0)), .inl x1] h k (jc_v Q) E := by
  refine jj_Ct.of J.1 (by decide +kernel) (Nat.le_of_ble_eq_true rfl) rfl (fun X hG hl F M O hnm => ?_)
  subst hG; subst hl
  exact sC_J7_init F M O J hnm (fun h q => ⟨rfl, q⟩) (fun _ _ _ q => q) _ _ _ _ w
theorem hC_J7_init : yJ7_init.cls = RJ7 ∧ yJ7_init.cls ≠ "java/lang/invoke/MethodHandle" ∧ yJ7_init.cls ≠ "java/lang/invoke/VarHandle" ∧ (parseMethodDescriptor yJ7_init.desc).map (fun d => d.parameters.length) = some 1 := by decide +kernel
/-! J7_length()I -/
def fC_J7_length (gk : Nat → Nat) (x0 : Option Nat) (Q : Int → jj_H → Prop) (E : String → Nat → jj_H → Prop) (h : jj_H) (k : Nat) : Prop :=
  jp_gi h x0 26 3 (fun g1 =>
  Q g1 h)
theorem sC_J7_length {X : jj_X} {N : Option jj_AV → jj_H → Prop} {XN : String → Nat → jj_H → Prop} (F : jj_F X RJ7 cJ7_length 1) (M : jj_M X (some (.int)) 0 0 N XN) (O : jj_no X) (J : jx_G X.1 X.2.2.1) (hi : X.2.2.2.2.2.2.2.2.2.1.name = yJ7_length.name) {Q : Int → jj_H → Prop} {E : String → Nat → jj_H → Prop} (hQ : ∀ r h, Q r h → N (some (.inl r)) h) (hE : ∀ e q h, E e q h → XN e q h) (x0 : Option Nat) : ∀ (h : jj_H) (k : Nat), fC_J7_length (jj_gk X.1) x0 Q E h k → jj_J X 1 0 [(0, .inr (.inr (.inl x0)))] [] h k := by
  intro h k w
  unfold fC_J7_length at w
  refine jr_aload_n (pc := 0) F (j := 0) dJ7_length_0 rfl ?_
  refine jr_gi (pc := 1) (ci := 26) (f := 3) F rfl in_J8 (Nat.le_of_ble_eq_true rfl) q284 dJ7_length_1 w (fun g1 w => ?_)
  exact jr_iret (pc := 4) F M dJ7_length_4 (hQ _ _ w)

theorem cC_J7_length {G : jj_G} {l : Launch} (J : jx_G G l) {x0 : Option Nat} {Q : Int → jj_H → Prop} {E : String → Nat → jj_H → Prop} {h : jj_H} {k : Nat} (w : fC_J7_length (jj_gk G) x0 Q E h k) : jj_Ct G l yJ7_length (ws_ yJ7_length cJ7_length 1 (some (.int))) 0 0 [.inr (.inr (.inl x0))] h k (jc_i Q) E := by
  refine jj_Ct.of J.1 (by decide +kernel) (Nat.le_of_ble_eq_true rfl) rfl (fun X hG hl F M O hnm => ?_)
  subst hG; subst hl
  exact sC_J7_length F M O J hnm (fun r h q => ⟨r, rfl, q⟩) (fun _ _ _ q => q) _ _ _ w
theorem hC_J7_length : yJ7_length.cls = RJ7 ∧ yJ7_length.cls ≠ "java/lang/invoke/MethodHandle" ∧ yJ7_length.cls ≠ "java/lang/invoke/VarHandle" ∧ (parseMethodDescriptor yJ7_length.desc).map (fun d => d.parameters.length) = some 0 := by decide +kernel
/-! J7_setLength(I)V -/
def fC_J7_setLength_j76 (gk : Nat → Nat) (x0 : Option Nat) (x1 : Int) (Q : jj_H → Prop) (E : String → Nat → jj_H → Prop) (h : jj_H) (k : Nat) : Prop :=
  jp_pi h x0 26 3 x1 (fun h1 =>
  Q h1)
def fC_J7_setLength (gk : Nat → Nat) (x0 : Option Nat) (x1 : Int) (Q : jj_H → Prop) (E : String → Nat → jj_H → Prop) (h : jj_H) (k : Nat) : Prop :=
  jj_r x1 ∧ (0 ≤ x1 → (
    jp_is h x0 26 ∧ ∃ c2, c2 ≤ k ∧ fC_J7_ensureCapacityInternal gk x0 x1 (fun h4 =>
    jp_gi h4 x0 26 3 (fun g5 =>
    jj_r g5 ∧ jj_r x1 ∧ (x1 ≤ g5 → (
      jp_gi h4 x0 26 3 (fun g6 =>
      jj_r g6 ∧ jj_r x1 ∧ (g6 ≤ x1 → (
        fC_J7_setLength_j76 gk x0 x1 Q E h4 (k - c2))) ∧
      (¬ g6 ≤ x1 → (
        jp_pz h4 x0 26 2 1 (fun h7 =>
        fC_J7_setLength_j76 gk x0 x1 Q E h7 (k - c2))))))) ∧
    (¬ x1 ≤ g5 → (
      jp_is h4 x0 26 ∧ fC_J7_isLatin1 gk x0 (fun r9 h10 =>
      jj_r r9 ∧ (r9 = 0 → (
        jp_gr h10 x0 26 0 (fun g11 =>
        jp_gi h10 x0 26 3 (fun g12 =>
        False)))) ∧
      (¬ r9 = 0 → (
        jp_gr h10 x0 26 0 (fun g13 =>
        jp_gi h10 x0 26 3 (fun g14 =>
        fC_J15_fillNull gk g13 g14 x1 (fun h17 =>
        fC_J7_setLength_j76 gk x0 x1 Q E h17 (k - c2)) E h10 0))))) E h4 0)))) E h c2)) ∧
  (¬ 0 ≤ x1 → (
    False))
theorem sC_J7_setLength_j76 {X : jj_X} {N : Option jj_AV → jj_H → Prop} {XN : String → Nat → jj_H → Prop} (F : jj_F X RJ7 cJ7_setLength 2) (M : jj_M X (none) 4 104 N XN) (O : jj_no X) (J : jx_G X.1 X.2.2.1) (hi : X.2.2.2.2.2.2.2.2.2.1.name = yJ7_setLength.name) {Q : jj_H → Prop} {E : String → Nat → jj_H → Prop} (hQ : ∀ h, Q h → N none h) (hE : ∀ e q h, E e q h → XN e q h) (x0 : Option Nat) (x1 : Int) : ∀ (h : jj_H) (k : Nat), fC_J7_setLength_j76 (jj_gk X.1) x0 x1 Q E h k → jj_J X 2 76 [(0, .inr (.inr (.inl x0))), (1, .inl x1)] [] h k := by
  intro h k w
  unfold fC_J7_setLength_j76 at w
  refine jr_aload_n (pc := 76) F (j := 0) dJ7_setLength_76 rfl ?_
  refine jr_iload_n (pc := 77) F (j := 1) dJ7_setLength_77 rfl ?_
  refine jr_pi (pc := 78) (ci := 26) (f := 3) F rfl in_J8 tyJ8_ok nmJ8 (Nat.le_of_ble_eq_true rfl) rfl rfl q284 dJ7_setLength_78 w (fun h1 w => ?_)
  exact jr_vret (pc := 81) F M dJ7_setLength_81 (hQ _ w)

theorem sC_J7_setLength {X : jj_X} {N : Option jj_AV → jj_H → Prop} {XN : String → Nat → jj_H → Prop} (F : jj_F X RJ7 cJ7_setLength 2) (M : jj_M X (none) 4 104 N XN) (O : jj_no X) (J : jx_G X.1 X.2.2.1) (hi : X.2.2.2.2.2.2.2.2.2.1.name = yJ7_setLength.name) {Q : jj_H → Prop} {E : String → Nat → jj_H → Prop} (hQ : ∀ h, Q h → N none h) (hE : ∀ e q h, E e q h → XN e q h) (x0 : Option Nat) (x1 : Int) : ∀ (h : jj_H) (k : Nat), fC_J7_setLength (jj_gk X.1) x0 x1 Q E h k → jj_J X 2 0 [(0, .inr (.inr (.inl x0))), (1, .inl x1)] [] h k := by
  intro h k w
  unfold fC_J7_setLength at w
  refine jr_iload_n (pc := 0) F (j := 1) dJ7_setLength_0 rfl ?_
  obtain ⟨hx9, w1, w2⟩ := w
  refine jr_if_ge (pc := 1) (tgt := 13) F hx9 dJ7_setLength_1 rfl (fun c9 => ?_) (fun c9 => ?_)
  · have w := w1 c9
    refine jr_aload_n (pc := 13) F (j := 0) dJ7_setLength_13 rfl ?_
    refine jr_iload_n (pc := 14) F (j := 1) dJ7_setLength_14 rfl ?_
    obtain ⟨hi9, c2, hk9, w⟩ := w
    refine jr_cP (pc := 15) (As := [_]) (ci := 26) F M J (lw_P q307 q3772 q309 q129 q310) (jx_pvm 0 rfl) dJ7_setLength_15 hC_J7_ensureCapacityInternal.2 rfl (Nat.le_of_ble_eq_true rfl) (Nat.le_of_ble_eq_true rfl) (Nat.le_of_ble_eq_true rfl) rfl hi9 hk9 (cC_J7_ensureCapacityInternal J w) (fun v9 h4 q9 => ?_) (fun E9 q9 h9 w9 => jr_out F M O (hE _ _ _ w9))
    obtain ⟨rfl, w⟩ := q9
    refine jr_aload_n (pc := 18) F (j := 0) dJ7_setLength_18 rfl ?_
    refine jr_gi (pc := 19) (ci := 26) (f := 3) F rfl in_J8 (Nat.le_of_ble_eq_true rfl) q284 dJ7_setLength_19 w (fun g5 w => ?_)
    refine jr_iload_n (pc := 22) F (j := 1) dJ7_setLength_22 rfl ?_
    obtain ⟨hx9, hy9, w1, w2⟩ := w
    refine jr_icmp_ge (pc := 23) (tgt := 63) F hx9 hy9 dJ7_setLength_23 rfl (fun c9 => ?_) (fun c9 => ?_)
    · have w := w1 c9
      refine jr_aload_n (pc := 63) F (j := 0) dJ7_setLength_63 rfl ?_
      refine jr_gi (pc := 64) (ci := 26) (f := 3) F rfl in_J8 (Nat.le_of_ble_eq_true rfl) q284 dJ7_setLength_64 w (fun g6 w => ?_)
      refine jr_iload_n (pc := 67) F (j := 1) dJ7_setLength_67 rfl ?_
      obtain ⟨hx9, hy9, w1, w2⟩ := w
      refine jr_icmp_le (pc := 68) (tgt := 76) F hx9 hy9 dJ7_setLength_68 rfl (fun c9 => ?_) (fun c9 => ?_)
      · have w := w1 c9
        exact sC_J7_setLength_j76 F M O J hi hQ hE _ _ _ _ w
      · have w := w2 c9
        refine jr_aload_n (pc := 71) F (j := 0) dJ7_setLength_71 rfl ?_
        refine jr_iconst (pc := 72) F dJ7_setLength_72 ?_
        refine jr_pz (pc := 73) (ci := 26) (f := 2) F rfl in_J8 tyJ8_ok nmJ8 (Nat.le_of_ble_eq_true rfl) rfl rfl q282 dJ7_setLength_73 w (fun h7 w => ?_)
        exact sC_J7_setLength_j76 F M O J hi hQ hE _ _ _ _ w
    · have w := w2 c9
      refine jr_aload_n (pc := 26) F (j := 0) dJ7_setLength_26 rfl ?_
      obtain ⟨hi9, w⟩ := w
      refine jr_cU (pc := 27) (As := []) (ci := 26) F M (lw_U q342 q344 q343 q345 q343 q129 q346) q346 dJ7_setLength_27 (by decide +kernel) rfl (Nat.le_of_ble_eq_true rfl) (Nat.le_of_ble_eq_true rfl) (Nat.le_of_ble_eq_true rfl) rfl hi9 (Nat.zero_le _) (cC_J7_isLatin1 J w) (fun v9 h10 q9 => ?_) (fun E9 q9 h9 w9 => jr_out F M O (hE _ _ _ w9))
      obtain ⟨r9, rfl, w⟩ := q9
      obtain ⟨hx9, w1, w2⟩ := w
      refine jr_if_eq (pc := 30) (tgt := 48) F hx9 dJ7_setLength_30 rfl (fun c9 => ?_) (fun c9 => ?_)
      · have w := w1 c9
        refine jr_aload_n (pc := 48) F (j := 0) dJ7_setLength_48 rfl ?_
        refine jr_gr (pc := 49) (ci := 26) (f := 0) F rfl in_J8 (Nat.le_of_ble_eq_true rfl) q280 dJ7_setLength_49 w (fun g11 w => ?_)
        refine jr_aload_n (pc := 52) F (j := 0) dJ7_setLength_52 rfl ?_
        refine jr_gi (pc := 53) (ci := 26) (f := 3) F rfl in_J8 (Nat.le_of_ble_eq_true rfl) q284 dJ7_setLength_53 w (fun g12 w => ?_)
        refine jr_iload_n (pc := 56) F (j := 1) dJ7_setLength_56 rfl ?_
        exact (show False from w).elim
      · have w := w2 c9
        refine jr_aload_n (pc := 33) F (j := 0) dJ7_setLength_33 rfl ?_
        refine jr_gr (pc := 34) (ci := 26) (f := 0) F rfl in_J8 (Nat.le_of_ble_eq_true rfl) q280 dJ7_setLength_34 w (fun g13 w => ?_)
        refine jr_aload_n (pc := 37) F (j := 0) dJ7_setLength_37 rfl ?_
        refine jr_gi (pc := 38) (ci := 26) (f := 3) F rfl in_J8 (Nat.le_of_ble_eq_true rfl) q284 dJ7_setLength_38 w (fun g14 w => ?_)
        refine jr_iload_n (pc := 41) F (j := 1) dJ7_setLength_41 rfl ?_
        refine jr_callS (pc := 42) (As := [_, _, _]) F M (lw_S q2706 q2707 q138 q2708) dJ7_setLength_42 hC_J15_fillNull.2 rfl (Nat.le_of_ble_eq_true rfl) (Nat.le_of_ble_eq_true rfl) (Nat.le_of_ble_eq_true rfl) (Nat.zero_le _) (cC_J15_fillNull J w) (fun v9 h17 q9 => ?_) (fun E9 q9 h9 w9 => jr_out F M O (hE _ _ _ w9))
        obtain ⟨rfl, w⟩ := q9
        refine jr_goto (pc := 45) (tgt := 76) F dJ7_setLength_45 rfl ?_
        exact sC_J7_setLength_j76 F M O J hi hQ hE _ _ _ _ w
  · have w := w2 c9
    exact (show False from w).elim

theorem cC_J7_setLength {G : jj_G} {l : Launch} (J : jx_G G l) {x0 : Option Nat} {x1 : Int} {Q : jj_H → Prop} {E : String → Nat → jj_H → Prop} {h : jj_H} {k : Nat} (w : fC_J7_setLength (jj_gk G) x0 x1 Q E h k) : jj_Ct G l yJ7_setLength (ws_ yJ7_setLength cJ7_setLength 2 (none)) 4 104 [.inr (.inr (.inl x0)), .inl x1] h k (jc_v Q) E := by
  refine jj_Ct.of J.1 (by decide +kernel) (Nat.le_of_ble_eq_true rfl) rfl (fun X hG hl F M O hnm => ?_)
  subst hG; subst hl
  exact sC_J7_setLength F M O J hnm (fun h q => ⟨rfl, q⟩) (fun _ _ _ q => q) _ _ _ _ w
theorem hC_J7_setLength : yJ7_setLength.cls = RJ7 ∧ yJ7_setLength.cls ≠ "java/lang/invoke/MethodHandle" ∧ yJ7_setLength.cls ≠ "java/lang/invoke/VarHandle" ∧ (parseMethodDescriptor yJ7_setLength.desc).map (fun d => d.parameters.length) = some 1 := by decide +kernel
/-! J8_append(Ljava/lang/String;)Ljava/lang/StringBuilder; -/
def fC_J8_append (gk : Nat → Nat) (x0 : Option Nat) (x1 : Option Nat) (Q : Option Nat → jj_H → Prop) (E : String → Nat → jj_H → Prop) (h : jj_H) (k : Nat) : Prop :=
  jp_is h x0 26 ∧ ∃ c1, c1 ≤ k ∧ fC_J7_append gk x0 x1 (fun r2 h3 =>
  Q x0 h3) E h c1
theorem sC_J8_append {X : jj_X} {N : Option jj_AV → jj_H → Prop} {XN : String → Nat → jj_H → Prop} (F : jj_F X RJ8 cJ8_append 2) (M : jj_M X (some ((.object "java/lang/StringBuilder"))) 5 127 N XN) (O : jj_no X) (J : jx_G X.1 X.2.2.1) (hi : X.2.2.2.2.2.2.2.2.2.1.name = yJ8_append.name) {Q : Option Nat → jj_H → Prop} {E : String → Nat → jj_H → Prop} (hQ : ∀ r h, Q r h → N (some (.inr (.inr (.inl r)))) h) (hE : ∀ e q h, E e q h → XN e q h) (x0 : Option Nat) (x1 : Option Nat) : ∀ (h : jj_H) (k : Nat), fC_J8_append (jj_gk X.1) x0 x1 Q E h k → jj_J X 2 0 [(0, .inr (.inr (.inl x0))), (1, .inr (.inr (.inl x1)))] [] h k := by
  intro h k w
  unfold fC_J8_append at w
  refine jr_aload_n (pc := 0) F (j := 0) dJ8_append_0 rfl ?_
  refine jr_aload_n (pc := 1) F (j := 1) dJ8_append_1 rfl ?_
  obtain ⟨hi9, c1, hk9, w⟩ := w
  refine jr_cSU (pc := 2) (As := [_]) (ci := 26) F M (lw_SU q300 q3770 q293 q301 q129 q302) dJ8_append_2 (by decide) hC_J7_append.2 rfl (Nat.le_of_ble_eq_true rfl) (Nat.le_of_ble_eq_true rfl) (Nat.le_of_ble_eq_true rfl) rfl hi9 hk9 (cC_J7_append J w) (fun v9 h3 q9 => ?_) (fun E9 q9 h9 w9 => jr_out F M O (hE _ _ _ w9))
  obtain ⟨r2, rfl, w⟩ := q9
  refine jr_pop (pc := 5) F dJ8_append_5 rfl ?_
  refine jr_aload_n (pc := 6) F (j := 0) dJ8_append_6 rfl ?_
  exact jr_aret (pc := 7) F M (Or.inl ⟨_, rfl⟩) dJ8_append_7 (hQ _ _ w)

theorem cC_J8_append {G : jj_G} {l : Launch} (J : jx_G G l) {x0 : Option Nat} {x1 : Option Nat} {Q : Option Nat → jj_H → Prop} {E : String → Nat → jj_H → Prop} {h : jj_H} {k : Nat} (w : fC_J8_append (jj_gk G) x0 x1 Q E h k) : jj_Ct G l yJ8_append (ws_ yJ8_append cJ8_append 2 (some ((.object "java/lang/StringBuilder")))) 5 127 [.inr (.inr (.inl x0)), .inr (.inr (.inl x1))] h k (jc_r Q) E := by
  refine jj_Ct.of J.1 (by decide +kernel) (Nat.le_of_ble_eq_true rfl) rfl (fun X hG hl F M O hnm => ?_)
  subst hG; subst hl
  exact sC_J8_append F M O J hnm (fun r h q => ⟨r, rfl, q⟩) (fun _ _ _ q => q) _ _ _ _ w
theorem hC_J8_append : yJ8_append.cls = RJ8 ∧ yJ8_append.cls ≠ "java/lang/invoke/MethodHandle" ∧ yJ8_append.cls ≠ "java/lang/invoke/VarHandle" ∧ (parseMethodDescriptor yJ8_append.desc).map (fun d => d.parameters.length) = some 1 := by decide +kernel
/-! J8_append_3(C)Ljava/lang/StringBuilder; -/
def fC_J8_append_3 (gk : Nat → Nat) (x0 : Option Nat) (x1 : Int) (Q : Option Nat → jj_H → Prop) (E : String → Nat → jj_H → Prop) (h : jj_H) (k : Nat) : Prop :=
  jp_is h x0 26 ∧ ∃ c1, c1 ≤ k ∧ fC_J7_append_3 gk x0 x1 (fun r2 h3 =>
  Q x0 h3) E h c1
theorem sC_J8_append_3 {X : jj_X} {N : Option jj_AV → jj_H → Prop} {XN : String → Nat → jj_H → Prop} (F : jj_F X RJ8 cJ8_append_3 2) (M : jj_M X (some ((.object "java/lang/StringBuilder"))) 5 125 N XN) (O : jj_no X) (J : jx_G X.1 X.2.2.1) (hi : X.2.2.2.2.2.2.2.2.2.1.name = yJ8_append_3.name) {Q : Option Nat → jj_H → Prop} {E : String → Nat → jj_H → Prop} (hQ : ∀ r h, Q r h → N (some (.inr (.inr (.inl r)))) h) (hE : ∀ e q h, E e q h → XN e q h) (x0 : Option Nat) (x1 : Int) : ∀ (h : jj_H) (k : Nat), fC_J8_append_3 (jj_gk X.1) x0 x1 Q E h k → jj_J X 2 0 [(0, .inr (.inr (.inl x0))), (1, .inl x1)] [] h k := by
  intro h k w
  unfold fC_J8_append_3 at w
  refine jr_aload_n (pc := 0) F (j := 0) dJ8_append_3_0 rfl ?_
  refine jr_iload_n (pc := 1) F (j := 1) dJ8_append_3_1 rfl ?_
  obtain ⟨hi9, c1, hk9, w⟩ := w
  refine jr_cSU (pc := 2) (As := [_]) (ci := 26) F M (lw_SU q2367 q3779 q293 q2368 q129 q2369) dJ8_append_3_2 (by decide) hC_J7_append_3.2 rfl (Nat.le_of_ble_eq_true rfl) (Nat.le_of_ble_eq_true rfl) (Nat.le_of_ble_eq_true rfl) rfl hi9 hk9 (cC_J7_append_3 J w) (fun v9 h3 q9 => ?_) (fun E9 q9 h9 w9 => jr_out F M O (hE _ _ _ w9))
  obtain ⟨r2, rfl, w⟩ := q9
  refine jr_pop (pc := 5) F dJ8_append_3_5 rfl ?_
  refine jr_aload_n (pc := 6) F (j := 0) dJ8_append_3_6 rfl ?_
  exact jr_aret (pc := 7) F M (Or.inl ⟨_, rfl⟩) dJ8_append_3_7 (hQ _ _ w)

theorem cC_J8_append_3 {G : jj_G} {l : Launch} (J : jx_G G l) {x0 : Option Nat} {x1 : Int} {Q : Option Nat → jj_H → Prop} {E : String → Nat → jj_H → Prop} {h : jj_H} {k : Nat} (w : fC_J8_append_3 (jj_gk G) x0 x1 Q E h k) : jj_Ct G l yJ8_append_3 (ws_ yJ8_append_3 cJ8_append_3 2 (some ((.object "java/lang/StringBuilder")))) 5 125 [.inr (.inr (.inl x0)), .inl x1] h k (jc_r Q) E := by
  refine jj_Ct.of J.1 (by decide +kernel) (Nat.le_of_ble_eq_true rfl) rfl (fun X hG hl F M O hnm => ?_)
  subst hG; subst hl
  exact sC_J8_append_3 F M O J hnm (fun r h q => ⟨r, rfl, q⟩) (fun _ _ _ q => q) _ _ _ _ w
theorem hC_J8_append_3 : yJ8_append_3.cls = RJ8 ∧ yJ8_append_3.cls ≠ "java/lang/invoke/MethodHandle" ∧ yJ8_append_3.cls ≠ "java/lang/invoke/VarHandle" ∧ (parseMethodDescriptor yJ8_append_3.desc).map (fun d => d.parameters.length) = some 1 := by decide +kernel
/-! J8_charAt(I)C -/
def fC_J8_charAt (gk : Nat → Nat) (x0 : Option Nat) (x1 : Int) (Q : Int → jj_H → Prop) (E : String → Nat → jj_H → Prop) (h : jj_H) (k : Nat) : Prop :=
  jp_is h x0 26 ∧ fC_J7_charAt gk x0 x1 (fun r2 h3 =>
  (0 ≤ (r2 : Int) ∧ (r2 : Int) < 256) ∧ Q r2 h3) E h 0
theorem sC_J8_charAt {X : jj_X} {N : Option jj_AV → jj_H → Prop} {XN : String → Nat → jj_H → Prop} (F : jj_F X RJ8 cJ8_charAt 2) (M : jj_M X (some (.char)) 3 67 N XN) (O : jj_no X) (J : jx_G X.1 X.2.2.1) (hi : X.2.2.2.2.2.2.2.2.2.1.name = yJ8_charAt.name) {Q : Int → jj_H → Prop} {E : String → Nat → jj_H → Prop} (hQ : ∀ r h, Q r h → N (some (.inl r)) h) (hE : ∀ e q h, E e q h → XN e q h) (x0 : Option Nat) (x1 : Int) : ∀ (h : jj_H) (k : Nat), fC_J8_charAt (jj_gk X.1) x0 x1 Q E h k → jj_J X 2 0 [(0, .inr (.inr (.inl x0))), (1, .inl x1)] [] h k := by
  intro h k w
  unfold fC_J8_charAt at w
  refine jr_aload_n (pc := 0) F (j := 0) dJ8_charAt_0 rfl ?_
  refine jr_iload_n (pc := 1) F (j := 1) dJ8_charAt_1 rfl ?_
  obtain ⟨hi9, w⟩ := w
  refine jr_cSU (pc := 2) (As := [_]) (ci := 26) F M (lw_SU q3104 q3785 q293 q3105 q129 q3106) dJ8_charAt_2 (by decide) hC_J7_charAt.2 rfl (Nat.le_of_ble_eq_true rfl) (Nat.le_of_ble_eq_true rfl) (Nat.le_of_ble_eq_true rfl) rfl hi9 (Nat.zero_le _) (cC_J7_charAt J w) (fun v9 h3 q9 => ?_) (fun E9 q9 h9 w9 => jr_out F M O (hE _ _ _ w9))
  obtain ⟨r2, rfl, w⟩ := q9
  exact jr_nret (pc := 5) F M dJ8_charAt_5 (jj_charN w.1) (hQ _ _ w.2)

theorem cC_J8_charAt {G : jj_G} {l : Launch} (J : jx_G G l) {x0 : Option Nat} {x1 : Int} {Q : Int → jj_H → Prop} {E : String → Nat → jj_H → Prop} {h : jj_H} {k : Nat} (w : fC_J8_charAt (jj_gk G) x0 x1 Q E h k) : jj_Ct G l yJ8_charAt (ws_ yJ8_charAt cJ8_charAt 2 (some (.char))) 3 67 [.inr (.inr (.inl x0)), .inl x1] h k (jc_i Q) E := by
  refine jj_Ct.of J.1 (by decide +kernel) (Nat.le_of_ble_eq_true rfl) rfl (fun X hG hl F M O hnm => ?_)
  subst hG; subst hl
  exact sC_J8_charAt F M O J hnm (fun r h q => ⟨r, rfl, q⟩) (fun _ _ _ q => q) _ _ _ _ w
theorem hC_J8_charAt : yJ8_charAt.cls = RJ8 ∧ yJ8_charAt.cls ≠ "java/lang/invoke/MethodHandle" ∧ yJ8_charAt.cls ≠ "java/lang/invoke/VarHandle" ∧ (parseMethodDescriptor yJ8_charAt.desc).map (fun d => d.parameters.length) = some 1 := by decide +kernel
/-! J8_init()V -/
def fC_J8_init (gk : Nat → Nat) (x0 : Option Nat) (Q : jj_H → Prop) (E : String → Nat → jj_H → Prop) (h : jj_H) (k : Nat) : Prop :=
  jp_so x0 ∧ ∃ c1, c1 ≤ k ∧ fC_J7_init gk x0 16 (fun h3 =>
  Q h3) E h c1
theorem sC_J8_init {X : jj_X} {N : Option jj_AV → jj_H → Prop} {XN : String → Nat → jj_H → Prop} (F : jj_F X RJ8 cJ8_init 1) (M : jj_M X (none) 2 41 N XN) (O : jj_no X) (J : jx_G X.1 X.2.2.1) (hi : X.2.2.2.2.2.2.2.2.2.1.name = yJ8_init.name) {Q : jj_H → Prop} {E : String → Nat → jj_H → Prop} (hQ : ∀ h, Q h → N none h) (hE : ∀ e q h, E e q h → XN e q h) (x0 : Option Nat) : ∀ (h : jj_H) (k : Nat), fC_J8_init (jj_gk X.1) x0 Q E h k → jj_J X 1 0 [(0, .inr (.inr (.inl x0)))] [] h k := by
  intro h k w
  unfold fC_J8_init at w
  refine jr_aload_n (pc := 0) F (j := 0) dJ8_init_0 rfl ?_
  refine jr_bipush (pc := 1) F dJ8_init_1 (by decide +kernel) ?_
  obtain ⟨hi9, c1, hk9, w⟩ := w
  refine jr_cI (pc := 3) (As := [_]) F M q267 q268 q129 q269 dJ8_init_3 rfl hC_J7_init.2 rfl (Nat.le_of_ble_eq_true rfl) (Nat.le_of_ble_eq_true rfl) (Nat.le_of_ble_eq_true rfl) hi9 hk9 (cC_J7_init J w) (fun v9 h3 q9 => ?_) (fun E9 q9 h9 w9 => jr_out F M O (hE _ _ _ w9))
  obtain ⟨rfl, w⟩ := q9
  exact jr_vret (pc := 6) F M dJ8_init_6 (hQ _ w)

theorem cC_J8_init {G : jj_G} {l : Launch} (J : jx_G G l) {x0 : Option Nat} {Q : jj_H → Prop} {E : String → Nat → jj_H → Prop} {h : jj_H} {k : Nat} (w : fC_J8_init (jj_gk G) x0 Q E h k) : jj_Ct G l yJ8_init (ws_ yJ8_init cJ8_init 1 (none)) 2 41 [.inr (.inr (.inl x0))] h k (jc_v Q) E := by
  refine jj_Ct.of J.1 (by decide +kernel) (Nat.le_of_ble_eq_true rfl) rfl (fun X hG hl F M O hnm => ?_)
  subst hG; subst hl
  exact sC_J8_init F M O J hnm (fun h q => ⟨rfl, q⟩) (fun _ _ _ q => q) _ _ _ w
theorem hC_J8_init : yJ8_init.cls = RJ8 ∧ yJ8_init.cls ≠ "java/lang/invoke/MethodHandle" ∧ yJ8_init.cls ≠ "java/lang/invoke/VarHandle" ∧ (parseMethodDescriptor yJ8_init.desc).map (fun d => d.parameters.length) = some 0 := by decide +kernel
/-! J8_length()I -/
def fC_J8_length (gk : Nat → Nat) (x0 : Option Nat) (Q : Int → jj_H → Prop) (E : String → Nat → jj_H → Prop) (h : jj_H) (k : Nat) : Prop :=
  jp_is h x0 26 ∧ fC_J7_length gk x0 (fun r2 h3 =>
  Q r2 h3) E h 0
theorem sC_J8_length {X : jj_X} {N : Option jj_AV → jj_H → Prop} {XN : String → Nat → jj_H → Prop} (F : jj_F X RJ8 cJ8_length 1) (M : jj_M X (some (.int)) 1 20 N XN) (O : jj_no X) (J : jx_G X.1 X.2.2.1) (hi : X.2.2.2.2.2.2.2.2.2.1.name = yJ8_length.name) {Q : Int → jj_H → Prop} {E : String → Nat → jj_H → Prop} (hQ : ∀ r h, Q r h → N (some (.inl r)) h) (hE : ∀ e q h, E e q h → XN e q h) (x0 : Option Nat) : ∀ (h : jj_H) (k : Nat), fC_J8_length (jj_gk X.1) x0 Q E h k → jj_J X 1 0 [(0, .inr (.inr (.inl x0)))] [] h k := by
  intro h k w
  unfold fC_J8_length at w
  refine jr_aload_n (pc := 0) F (j := 0) dJ8_length_0 rfl ?_
  obtain ⟨hi9, w⟩ := w
  refine jr_cSU (pc := 1) (As := []) (ci := 26) F M (lw_SU q465 q461 q293 q460 q129 q466) dJ8_length_1 (by decide) hC_J7_length.2 rfl (Nat.le_of_ble_eq_true rfl) (Nat.le_of_ble_eq_true rfl) (Nat.le_of_ble_eq_true rfl) rfl hi9 (Nat.zero_le _) (cC_J7_length J w) (fun v9 h3 q9 => ?_) (fun E9 q9 h9 w9 => jr_out F M O (hE _ _ _ w9))
  obtain ⟨r2, rfl, w⟩ := q9
  exact jr_iret (pc := 4) F M dJ8_length_4 (hQ _ _ w)

theorem cC_J8_length {G : jj_G} {l : Launch} (J : jx_G G l) {x0 : Option Nat} {Q : Int → jj_H → Prop} {E : String → Nat → jj_H → Prop} {h : jj_H} {k : Nat} (w : fC_J8_length (jj_gk G) x0 Q E h k) : jj_Ct G l yJ8_length (ws_ yJ8_length cJ8_length 1 (some (.int))) 1 20 [.inr (.inr (.inl x0))] h k (jc_i Q) E := by
  refine jj_Ct.of J.1 (by decide +kernel) (Nat.le_of_ble_eq_true rfl) rfl (fun X hG hl F M O hnm => ?_)
  subst hG; subst hl
  exact sC_J8_length F M O J hnm (fun r h q => ⟨r, rfl, q⟩) (fun _ _ _ q => q) _ _ _ w
theorem hC_J8_length : yJ8_length.cls = RJ8 ∧ yJ8_length.cls ≠ "java/lang/invoke/MethodHandle" ∧ yJ8_length.cls ≠ "java/lang/invoke/VarHandle" ∧ (parseMethodDescriptor yJ8_length.desc).map (fun d => d.parameters.length) = some 0 := by decide +kernel
/-! J8_setLength(I)V -/
def fC_J8_setLength (gk : Nat → Nat) (x0 : Option Nat) (x1 : Int) (Q : jj_H → Prop) (E : String → Nat → jj_H → Prop) (h : jj_H) (k : Nat) : Prop :=
  jp_is h x0 26 ∧ ∃ c1, c1 ≤ k ∧ fC_J7_setLength gk x0 x1 (fun h3 =>
  Q h3) E h c1
theorem sC_J8_setLength {X : jj_X} {N : Option jj_AV → jj_H → Prop} {XN : String → Nat → jj_H → Prop} (F : jj_F X RJ8 cJ8_setLength 2) (M : jj_M X (none) 5 125 N XN) (O : jj_no X) (J : jx_G X.1 X.2.2.1) (hi : X.2.2.2.2.2.2.2.2.2.1.name = yJ8_setLength.name) {Q : jj_H → Prop} {E : String → Nat → jj_H → Prop} (hQ : ∀ h, Q h → N none h) (hE : ∀ e q h, E e q h → XN e q h) (x0 : Option Nat) (x1 : Int) : ∀ (h : jj_H) (k : Nat), fC_J8_setLength (jj_gk X.1) x0 x1 Q E h k → jj_J X 2 0 [(0, .inr (.inr (.inl x0))), (1, .inl x1)] [] h k := by
  intro h k w
  unfold fC_J8_setLength at w
  refine jr_aload_n (pc := 0) F (j := 0) dJ8_setLength_0 rfl ?_
  refine jr_iload_n (pc := 1) F (j := 1) dJ8_setLength_1 rfl ?_
  obtain ⟨hi9, c1, hk9, w⟩ := w
  refine jr_cSU (pc := 2) (As := [_]) (ci := 26) F M (lw_SU q2681 q3782 q293 q2682 q129 q2683) dJ8_setLength_2 (by decide) hC_J7_setLength.2 rfl (Nat.le_of_ble_eq_true rfl) (Nat.le_of_ble_eq_true rfl) (Nat.le_of_ble_eq_true rfl) rfl hi9 hk9 (cC_J7_setLength J w) (fun v9 h3 q9 => ?_) (fun E9 q9 h9 w9 => jr_out F M O (hE _ _ _ w9))
  obtain ⟨rfl, w⟩ := q9
  exact jr_vret (pc := 5) F M dJ8_setLength_5 (hQ _ w)

theorem cC_J8_setLength {G : jj_G} {l : Launch} (J : jx_G G l) {x0 : Option Nat} {x1 : Int} {Q : jj_H → Prop} {E : String → Nat → jj_H → Prop} {h : jj_H} {k : Nat} (w : fC_J8_setLength (jj_gk G) x0 x1 Q E h k) : jj_Ct G l yJ8_setLength (ws_ yJ8_setLength cJ8_setLength 2 (none)) 5 125 [.inr (.inr (.inl x0)), .inl x1] h k (jc_v Q) E := by
  refine jj_Ct.of J.1 (by decide +kernel) (Nat.le_of_ble_eq_true rfl) rfl (fun X hG hl F M O hnm => ?_)
  subst hG; subst hl
  exact sC_J8_setLength F M O J hnm (fun h q => ⟨rfl, q⟩) (fun _ _ _ q => q) _ _ _ _ w
theorem hC_J8_setLength : yJ8_setLength.cls = RJ8 ∧ yJ8_setLength.cls ≠ "java/lang/invoke/MethodHandle" ∧ yJ8_setLength.cls ≠ "java/lang/invoke/VarHandle" ∧ (parseMethodDescriptor yJ8_setLength.desc).map (fun d => d.parameters.length) = some 1 := by decide +kernel
/-! J9_init_2(Ljava/lang/AbstractStringBuilder;Ljava/lang/Void;)V -/
def fC_J9_init_2_j79 (gk : Nat → Nat) (x0 : Option Nat) (x3 : Option Nat) (x4 : Int) (Q : jj_H → Prop) (E : String → Nat → jj_H → Prop) (h : jj_H) (k : Nat) : Prop :=
  jp_pb h x0 25 1 1 (fun h1 =>
  ∃ c2, c2 ≤ k ∧ fC_J13_copyOfRange gk x3 0 (jj_shl x4 1) (fun r3 h4 =>
  jp_pr h4 x0 25 0 r3 (fun h5 =>
  Q h5)) E h1 c2)
def fC_J9_init_2 (gk : Nat → Nat) (x0 : Option Nat) (x1 : Option Nat) (x2 : Option Nat) (Q : jj_H → Prop) (E : String → Nat → jj_H → Prop) (h : jj_H) (k : Nat) : Prop :=
  jp_so x0 ∧
  jp_is h x1 26 ∧ fC_J7_getValue gk x1 (fun r7 h8 =>
  jp_is h8 x1 26 ∧ fC_J8_length gk x1 (fun r10 h11 =>
  jp_is h11 x1 26 ∧ fC_J7_isLatin1 gk x1 (fun r13 h14 =>
  jj_r r13 ∧ (r13 = 0 → (
    jj_r (1 : Int) ∧ ((1 : Int) = 0 → (
      fC_J9_init_2_j79 gk x0 r7 r10 Q E h14 k)) ∧
    (¬ (1 : Int) = 0 → (
      jp_gi h14 x1 26 2 (fun g15 =>
      jj_r g15 ∧ (g15 = 0 → (
        fC_J9_init_2_j79 gk x0 r7 r10 Q E h14 k)) ∧
      (¬ g15 = 0 → (
        False))))))) ∧
  (¬ r13 = 0 → (
    jp_pb h14 x0 25 1 0 (fun h16 =>
    ∃ c17, c17 ≤ k ∧ fC_J13_copyOfRange gk r7 0 r10 (fun r18 h19 =>
    jp_pr h19 x0 25 0 r18 (fun h20 =>
    Q h20)) E h16 c17)))) E h11 0) E h8 0) E h 0
theorem sC_J9_init_2_j79 {X : jj_X} {N : Option jj_AV → jj_H → Prop} {XN : String → Nat → jj_H → Prop} (F : jj_F X RJ9 cJ9_init_2 5) (M : jj_M X (none) 3 106 N XN) (O : jj_no X) (J : jx_G X.1 X.2.2.1) (hi : X.2.2.2.2.2.2.2.2.2.1.name = yJ9_init_2.name) {Q : jj_H → Prop} {E : String → Nat → jj_H → Prop} (hQ : ∀ h, Q h → N none h) (hE : ∀ e q h, E e q h → XN e q h) (x0 : Option Nat) (x3 : Option Nat) (x4 : Int) : ∀ (h : jj_H) (k : Nat), fC_J9_init_2_j79 (jj_gk X.1) x0 x3 x4 Q E h k → jj_J X 5 79 [(0, .inr (.inr (.inl x0))), (3, .inr (.inr (.inl x3))), (4, .inl x4)] [] h k := by
  intro h k w
  unfold fC_J9_init_2_j79 at w
  refine jr_aload_n (pc := 79) F (j := 0) dJ9_init_2_79 rfl ?_
  refine jr_iconst (pc := 80) F dJ9_init_2_80 ?_
  refine jr_pbF (pc := 81) (ci := 25) (f := 1) F rfl in_J9 tyJ9_ok nmJ9 (Nat.le_of_ble_eq_true rfl) rfl rfl rfl hi q523 dJ9_init_2_81 w (fun h1 w => ?_)
  refine jr_aload_n (pc := 84) F (j := 0) dJ9_init_2_84 rfl ?_
  refine jr_aload_n (pc := 85) F (j := 1) dJ9_init_2_85 rfl ?_
  refine jr_iconst (pc := 86) F dJ9_init_2_86 ?_
  refine jr_iload (pc := 87) F (j := 2) dJ9_init_2_87 rfl ?_
  refine jr_iconst (pc := 89) F dJ9_init_2_89 ?_
  refine jr_ishl (pc := 90) F dJ9_init_2_90 ?_
  obtain ⟨c2, hk9, w⟩ := w
  refine jr_callS (pc := 91) (As := [_, _, _]) F M (lw_S q468 q469 q135 q470) dJ9_init_2_91 hC_J13_copyOfRange.2 rfl (Nat.le_of_ble_eq_true rfl) (Nat.le_of_ble_eq_true rfl) (Nat.le_of_ble_eq_true rfl) hk9 (cC_J13_copyOfRange J w) (fun v9 h4 q9 => ?_) (fun E9 q9 h9 w9 => jr_out F M O (hE _ _ _ w9))
  obtain ⟨r3, rfl, w⟩ := q9
  refine jr_prF (pc := 94) (ci := 25) (f := 0) F rfl in_J9 tyJ9_ok nmJ9 (Nat.le_of_ble_eq_true rfl) rfl rfl rfl hi q522 dJ9_init_2_94 w (fun h5 w => ?_)
  exact jr_vret (pc := 97) F M dJ9_init_2_97 (hQ _ w)

theorem sC_J9_init_2 {X : jj_X} {N : Option jj_AV → jj_H → Prop} {XN : String → Nat → jj_H → Prop} (F : jj_F X RJ9 cJ9_init_2 5) (M : jj_M X (none) 3 106 N XN) (O : jj_no X) (J : jx_G X.1 X.2.2.1) (hi : X.2.2.2.2.2.2.2.2.2.1.name = yJ9_init_2.name) {Q : jj_H → Prop} {E : String → Nat → jj_H → Prop} (hQ : ∀ h, Q h → N none h) (hE : ∀ e q h, E e q h → XN e q h) (x0 : Option Nat) (x1 : Option Nat) (x2 : Option Nat) : ∀ (h : jj_H) (k : Nat), fC_J9_init_2 (jj_gk X.1) x0 x1 x2 Q E h k → jj_J X 5 0 [(0, .inr (.inr (.inl x0))), (1, .inr (.inr (.inl x1))), (2, .inr (.inr (.inl x2)))] [] h k := by
  intro h k w
  unfold fC_J9_init_2 at w
  refine jr_aload_n (pc := 0) F (j := 0) dJ9_init_2_0 rfl ?_
  obtain ⟨ha9, w⟩ := w
  refine jr_objInitO (pc := 1) F M q453 q192 q193 ha9 (Nat.le_of_ble_eq_true rfl) (Nat.le_of_ble_eq_true rfl) (Nat.le_of_ble_eq_true rfl) dJ9_init_2_1 ?_
  refine jr_aload_n (pc := 4) F (j := 1) dJ9_init_2_4 rfl ?_
  obtain ⟨hi9, w⟩ := w
  refine jr_cU (pc := 5) (As := []) (ci := 26) F M (lw_U q454 q456 q455 q457 q455 q129 q458) q458 dJ9_init_2_5 (by decide +kernel) rfl (Nat.le_of_ble_eq_true rfl) (Nat.le_of_ble_eq_true rfl) (Nat.le_of_ble_eq_true rfl) rfl hi9 (Nat.zero_le _) (cC_J7_getValue J w) (fun v9 h8 q9 => ?_) (fun E9 q9 h9 w9 => jr_out F M O (hE _ _ _ w9))
  obtain ⟨r7, rfl, w⟩ := q9
  refine jr_astore_n (pc := 8) F (vs' := [(3, .inr (.inr (.inl _))), (0, .inr (.inr (.inl _))), (1, .inr (.inr (.inl _))), (2, .inr (.inr (.inl _)))]) dJ9_init_2_8 (Nat.le_of_ble_eq_true rfl) rfl ?_
  refine jr_aload_n (pc := 9) F (j := 2) dJ9_init_2_9 rfl ?_
  obtain ⟨hi9, w⟩ := w
  refine jr_cU (pc := 10) (As := []) (ci := 26) F M (lw_U q459 q461 q460 q462 q463 q130 q464) q466 dJ9_init_2_10 (by decide +kernel) rfl (Nat.le_of_ble_eq_true rfl) (Nat.le_of_ble_eq_true rfl) (Nat.le_of_ble_eq_true rfl) rfl hi9 (Nat.zero_le _) (cC_J8_length J w) (fun v9 h11 q9 => ?_) (fun E9 q9 h9 w9 => jr_out F M O (hE _ _ _ w9))
  obtain ⟨r10, rfl, w⟩ := q9
  refine jr_istore (pc := 13) F (vs' := [(4, .inl _), (3, .inr (.inr (.inl _))), (0, .inr (.inr (.inl _))), (1, .inr (.inr (.inl _))), (2, .inr (.inr (.inl _)))]) dJ9_init_2_13 (Nat.le_of_ble_eq_true rfl) rfl ?_
  refine jr_aload_n (pc := 15) F (j := 3) dJ9_init_2_15 rfl ?_
  obtain ⟨hi9, w⟩ := w
  refine jr_cU (pc := 16) (As := []) (ci := 26) F M (lw_U q467 q344 q343 q345 q343 q129 q346) q346 dJ9_init_2_16 (by decide +kernel) rfl (Nat.le_of_ble_eq_true rfl) (Nat.le_of_ble_eq_true rfl) (Nat.le_of_ble_eq_true rfl) rfl hi9 (Nat.zero_le _) (cC_J7_isLatin1 J w) (fun v9 h14 q9 => ?_) (fun E9 q9 h9 w9 => jr_out F M O (hE _ _ _ w9))
  obtain ⟨r13, rfl, w⟩ := q9
  obtain ⟨hx9, w1, w2⟩ := w
  refine jr_if_eq (pc := 19) (tgt := 41) F hx9 dJ9_init_2_19 rfl (fun c9 => ?_) (fun c9 => ?_)
  · have w := w1 c9
    refine jr_gst (pc := 41) F J 0 rfl q381 dJ9_init_2_41 ?_
    obtain ⟨hx9, w1, w2⟩ := w
    refine jr_if_eq (pc := 44) (tgt := 79) F hx9 dJ9_init_2_44 rfl (fun c9 => ?_) (fun c9 => ?_)
    · have w := w1 c9
      refine jj_J.sub [2, 1, 0] rfl ?_
      exact sC_J9_init_2_j79 F M O J hi hQ hE _ _ _ _ _ w
    · have w := w2 c9
      refine jr_aload_n (pc := 47) F (j := 3) dJ9_init_2_47 rfl ?_
      refine jr_gi (pc := 48) (ci := 26) (f := 2) F rfl in_J8 (Nat.le_of_ble_eq_true rfl) q283 dJ9_init_2_48 w (fun g15 w => ?_)
      obtain ⟨hx9, w1, w2⟩ := w
      refine jr_if_eq (pc := 51) (tgt := 79) F hx9 dJ9_init_2_51 rfl (fun c9 => ?_) (fun c9 => ?_)
      · have w := w1 c9
        refine jj_J.sub [2, 1, 0] rfl ?_
        exact sC_J9_init_2_j79 F M O J hi hQ hE _ _ _ _ _ w
      · have w := w2 c9
        refine jr_aload_n (pc := 54) F (j := 2) dJ9_init_2_54 rfl ?_
        refine jr_aload_n (pc := 55) F (j := 1) dJ9_init_2_55 rfl ?_
        refine jr_iconst (pc := 56) F dJ9_init_2_56 ?_
        refine jr_iload (pc := 57) F (j := 0) dJ9_init_2_57 rfl ?_
        exact (show False from w).elim
  · have w := w2 c9
    refine jr_aload_n (pc := 22) F (j := 2) dJ9_init_2_22 rfl ?_
    refine jr_iconst (pc := 23) F dJ9_init_2_23 ?_
    refine jr_pbF (pc := 24) (ci := 25) (f := 1) F rfl in_J9 tyJ9_ok nmJ9 (Nat.le_of_ble_eq_true rfl) rfl rfl rfl hi q523 dJ9_init_2_24 w (fun h16 w => ?_)
    refine jr_aload_n (pc := 27) F (j := 2) dJ9_init_2_27 rfl ?_
    refine jr_aload_n (pc := 28) F (j := 1) dJ9_init_2_28 rfl ?_
    refine jr_iconst (pc := 29) F dJ9_init_2_29 ?_
    refine jr_iload (pc := 30) F (j := 0) dJ9_init_2_30 rfl ?_
    obtain ⟨c17, hk9, w⟩ := w
    refine jr_callS (pc := 32) (As := [_, _, _]) F M (lw_S q468 q469 q135 q470) dJ9_init_2_32 hC_J13_copyOfRange.2 rfl (Nat.le_of_ble_eq_true rfl) (Nat.le_of_ble_eq_true rfl) (Nat.le_of_ble_eq_true rfl) hk9 (cC_J13_copyOfRange J w) (fun v9 h19 q9 => ?_) (fun E9 q9 h9 w9 => jr_out F M O (hE _ _ _ w9))
    obtain ⟨r18, rfl, w⟩ := q9
    refine jr_prF (pc := 35) (ci := 25) (f := 0) F rfl in_J9 tyJ9_ok nmJ9 (Nat.le_of_ble_eq_true rfl) rfl rfl rfl hi q522 dJ9_init_2_35 w (fun h20 w => ?_)
    refine jr_goto (pc := 38) (tgt := 97) F dJ9_init_2_38 rfl ?_
    exact jr_vret (pc := 97) F M dJ9_init_2_97 (hQ _ w)

theorem cC_J9_init_2 {G : jj_G} {l : Launch} (J : jx_G G l) {x0 : Option Nat} {x1 : Option Nat} {x2 : Option Nat} {Q : jj_H → Prop} {E : String → Nat → jj_H → Prop} {h : jj_H} {k : Nat} (w : fC_J9_init_2 (jj_gk G) x0 x1 x2 Q E h k) : jj_Ct G l yJ9_init_2 (ws_ yJ9_init_2 cJ9_init_2 5 (none)) 3 106 [.inr (.inr (.inl x0)), .inr (.inr (.inl x1)), .inr (.inr (.inl x2))] h k (jc_v Q) E := by
  refine jj_Ct.of J.1 (by decide +kernel) (Nat.le_of_ble_eq_true rfl) rfl (fun X hG hl F M O hnm => ?_)
  subst hG; subst hl
  exact sC_J9_init_2 F M O J hnm (fun h q => ⟨rfl, q⟩) (fun _ _ _ q => q) _ _ _ _ _ w
theorem hC_J9_init_2 : yJ9_init_2.cls = RJ9 ∧ yJ9_init_2.cls ≠ "java/lang/invoke/MethodHandle" ∧ yJ9_init_2.cls ≠ "java/lang/invoke/VarHandle" ∧ (parseMethodDescriptor yJ9_init_2.desc).map (fun d => d.parameters.length) = some 2 := by decide +kernel
/-! J9_init(Ljava/lang/StringBuilder;)V -/
def fC_J9_init (gk : Nat → Nat) (x0 : Option Nat) (x1 : Option Nat) (Q : jj_H → Prop) (E : String → Nat → jj_H → Prop) (h : jj_H) (k : Nat) : Prop :=
  jp_so x0 ∧ ∃ c1, c1 ≤ k ∧ fC_J9_init_2 gk x0 x1 none (fun h3 =>
  Q h3) E h c1
theorem sC_J9_init {X : jj_X} {N : Option jj_AV → jj_H → Prop} {XN : String → Nat → jj_H → Prop} (F : jj_F X RJ9 cJ9_init 2) (M : jj_M X (none) 4 130 N XN) (O : jj_no X) (J : jx_G X.1 X.2.2.1) (hi : X.2.2.2.2.2.2.2.2.2.1.name = yJ9_init.name) {Q : jj_H → Prop} {E : String → Nat → jj_H → Prop} (hQ : ∀ h, Q h → N none h) (hE : ∀ e q h, E e q h → XN e q h) (x0 : Option Nat) (x1 : Option Nat) : ∀ (h : jj_H) (k : Nat), fC_J9_init (jj_gk X.1) x0 x1 Q E h k → jj_J X 2 0 [(0, .inr (.inr (.inl x0))), (1, .inr (.inr (.inl x1)))] [] h k := by
  intro h k w
  unfold fC_J9_init at w
  refine jr_aload_n (pc := 0) F (j := 0) dJ9_init_0 rfl ?_
  refine jr_aload_n (pc := 1) F (j := 1) dJ9_init_1 rfl ?_
  refine jr_null (pc := 2) F dJ9_init_2 ?_
  obtain ⟨hi9, c1, hk9, w⟩ := w
  refine jr_cI (pc := 3) (As := [_, _]) F M q450 q451 q131 q452 dJ9_init_3 rfl hC_J9_init_2.2 rfl (Nat.le_of_ble_eq_true rfl) (Nat.le_of_ble_eq_true rfl) (Nat.le_of_ble_eq_true rfl) hi9 hk9 (cC_J9_init_2 J w) (fun v9 h3 q9 => ?_) (fun E9 q9 h9 w9 => jr_out F M O (hE _ _ _ w9))
  obtain ⟨rfl, w⟩ := q9
  exact jr_vret (pc := 6) F M dJ9_init_6 (hQ _ w)

theorem cC_J9_init {G : jj_G} {l : Launch} (J : jx_G G l) {x0 : Option Nat} {x1 : Option Nat} {Q : jj_H → Prop} {E : String → Nat → jj_H → Prop} {h : jj_H} {k : Nat} (w : fC_J9_init (jj_gk G) x0 x1 Q E h k) : jj_Ct G l yJ9_init (ws_ yJ9_init cJ9_init 2 (none)) 4 130 [.inr (.inr (.inl x0)), .inr (.inr (.inl x1))] h k (jc_v Q) E := by
  refine jj_Ct.of J.1 (by decide +kernel) (Nat.le_of_ble_eq_true rfl) rfl (fun X hG hl F M O hnm => ?_)
  subst hG; subst hl
  exact sC_J9_init F M O J hnm (fun h q => ⟨rfl, q⟩) (fun _ _ _ q => q) _ _ _ _ w
theorem hC_J9_init : yJ9_init.cls = RJ9 ∧ yJ9_init.cls ≠ "java/lang/invoke/MethodHandle" ∧ yJ9_init.cls ≠ "java/lang/invoke/VarHandle" ∧ (parseMethodDescriptor yJ9_init.desc).map (fun d => d.parameters.length) = some 1 := by decide +kernel
/-! J8_toString()Ljava/lang/String; -/
def fC_J8_toString (gk : Nat → Nat) (x0 : Option Nat) (Q : Option Nat → jj_H → Prop) (E : String → Nat → jj_H → Prop) (h : jj_H) (k : Nat) : Prop :=
  jp_nw h k 25 1 df_J9 (fun a1 h2 k3 =>
  jp_so (some a1) ∧ ∃ c4, c4 ≤ k3 ∧ fC_J9_init gk (some a1) x0 (fun h6 =>
  Q (some a1) h6) E h2 c4)
theorem sC_J8_toString {X : jj_X} {N : Option jj_AV → jj_H → Prop} {XN : String → Nat → jj_H → Prop} (F : jj_F X RJ8 cJ8_toString 1) (M : jj_M X (some ((.object "java/lang/String"))) 5 151 N XN) (O : jj_no X) (J : jx_G X.1 X.2.2.1) (hi : X.2.2.2.2.2.2.2.2.2.1.name = yJ8_toString.name) {Q : Option Nat → jj_H → Prop} {E : String → Nat → jj_H → Prop} (hQ : ∀ r h, Q r h → N (some (.inr (.inr (.inl r)))) h) (hE : ∀ e q h, E e q h → XN e q h) (x0 : Option Nat) : ∀ (h : jj_H) (k : Nat), fC_J8_toString (jj_gk X.1) x0 Q E h k → jj_J X 1 0 [(0, .inr (.inr (.inl x0)))] [] h k := by
  intro h k w
  unfold fC_J8_toString at w
  refine jr_new (pc := 0) (ci := 25) F rfl in_J9 tyJ9_ok q445 q446 q131 dfo_J9 rfl ⟨by decide, by decide⟩ dJ8_toString_0 w (fun a1 h2 k3 w => ?_)
  refine jr_dup (pc := 3) F dJ8_toString_3 rfl ?_
  refine jr_aload_n (pc := 4) F (j := 0) dJ8_toString_4 rfl ?_
  obtain ⟨hi9, c4, hk9, w⟩ := w
  refine jr_cI (pc := 5) (As := [_]) F M q447 q448 q131 q449 dJ8_toString_5 rfl hC_J9_init.2 rfl (Nat.le_of_ble_eq_true rfl) (Nat.le_of_ble_eq_true rfl) (Nat.le_of_ble_eq_true rfl) hi9 hk9 (cC_J9_init J w) (fun v9 h6 q9 => ?_) (fun E9 q9 h9 w9 => jr_out F M O (hE _ _ _ w9))
  obtain ⟨rfl, w⟩ := q9
  exact jr_aret (pc := 8) F M (Or.inl ⟨_, rfl⟩) dJ8_toString_8 (hQ _ _ w)

theorem cC_J8_toString {G : jj_G} {l : Launch} (J : jx_G G l) {x0 : Option Nat} {Q : Option Nat → jj_H → Prop} {E : String → Nat → jj_H → Prop} {h : jj_H} {k : Nat} (w : fC_J8_toString (jj_gk G) x0 Q E h k) : jj_Ct G l yJ8_toString (ws_ yJ8_toString cJ8_toString 1 (some ((.object "java/lang/String")))) 5 151 [.inr (.inr (.inl x0))] h k (jc_r Q) E := by
  refine jj_Ct.of J.1 (by decide +kernel) (Nat.le_of_ble_eq_true rfl) rfl (fun X hG hl F M O hnm => ?_)
  subst hG; subst hl
  exact sC_J8_toString F M O J hnm (fun r h q => ⟨r, rfl, q⟩) (fun _ _ _ q => q) _ _ _ w
theorem hC_J8_toString : yJ8_toString.cls = RJ8 ∧ yJ8_toString.cls ≠ "java/lang/invoke/MethodHandle" ∧ yJ8_toString.cls ≠ "java/lang/invoke/VarHandle" ∧ (parseMethodDescriptor yJ8_toString.desc).map (fun d => d.parameters.length) = some 0 := by decide +kernel
