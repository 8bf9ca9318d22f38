set_option maxRecDepth 100000
/-! X15_compare_2(LNoteImporter$Group;LNoteImporter$Group;)I -/
def fC_JX15_compare_2 (gk : Nat → Nat) (x0 : Option Nat) (x1 : Option Nat) (x2 : Option Nat) (Q : Int → jj_H → Prop) (E : String → Nat → jj_H → Prop) (h : jj_H) (k : Nat) : Prop :=
  jp_gr h x0 9 0 (fun g1 =>
  jp_gr h g1 3 4 (fun g2 =>
  jp_gi h x1 7 3 (fun g3 =>
  jp_al h g2 0 g3 (fun g4 =>
  jp_gr h x0 9 0 (fun g5 =>
  jp_gr h g5 3 4 (fun g6 =>
  jp_gi h x2 7 3 (fun g7 =>
  jp_al h g6 0 g7 (fun g8 =>
  ∀ v9, v9 = g4 - g8 →
  jj_r v9 ∧ (v9 = 0 → (
    jp_gi h x1 7 0 (fun g10 =>
    jp_gi h x2 7 0 (fun g11 =>
    Q (g10 - g11) h)))) ∧
  (¬ v9 = 0 → (
    Q v9 h))))))))))
theorem sC_JX15_compare_2 {X : jj_X} {N : Option jj_AV → jj_H → Prop} {XN : String → Nat → jj_H → Prop} (F : jj_F X RX15 cX15_compare_2 4) (M : jj_M X (some (.int)) 0 0 N XN) (O : jj_no X) (J : jx_G X.1 X.2.2.1) (hi : X.2.2.2.2.2.2.2.2.2.1.name = yX15_compare_2.name) {Q : Int → jj_H → Prop} {E : String → Nat → jj_H → Prop} (hQ : ∀ r h, Q r h → N (some (.inl r)) h) (hE : ∀ e q h, E e q h → XN e q h) (x0 : Option Nat) (x1 : Option Nat) (x2 : Option Nat) : ∀ (h : jj_H) (k : Nat), fC_JX15_compare_2 (jj_gk X.1) x0 x1 x2 Q E h k → jj_J X 4 0 [(0, .inr (.inr (.inl x0))), (1, .inr (.inr (.inl x1))), (2, .inr (.inr (.inl x2)))] [] h k := by
  intro h k w
  unfold fC_JX15_compare_2 at w
  refine jr_aload_n (pc := 0) F (j := 0) dX15_compare_2_0 rfl ?_
  refine jr_gr (pc := 1) (ci := 9) (f := 0) F rfl in_X15 (Nat.le_of_ble_eq_true rfl) q1696 dX15_compare_2_1 w (fun g1 w => ?_)
  refine jr_grN (pc := 4) (ci := 3) (f := 4) F rfl in_X5 (Nat.le_of_ble_eq_true rfl) q1872 dX15_compare_2_4 w (fun g2 w => ?_)
  refine jr_aload_n (pc := 7) F (j := 1) dX15_compare_2_7 rfl ?_
  refine jr_giN (pc := 8) (ci := 7) (f := 3) F rfl in_X13 (Nat.le_of_ble_eq_true rfl) q798 dX15_compare_2_8 w (fun g3 w => ?_)
  refine jr_iald (pc := 11) F dX15_compare_2_11 w (fun g4 w => ?_)
  refine jr_aload_n (pc := 12) F (j := 0) dX15_compare_2_12 rfl ?_
  refine jr_gr (pc := 13) (ci := 9) (f := 0) F rfl in_X15 (Nat.le_of_ble_eq_true rfl) q1696 dX15_compare_2_13 w (fun g5 w => ?_)
  refine jr_grN (pc := 16) (ci := 3) (f := 4) F rfl in_X5 (Nat.le_of_ble_eq_true rfl) q1872 dX15_compare_2_16 w (fun g6 w => ?_)
  refine jr_aload_n (pc := 19) F (j := 2) dX15_compare_2_19 rfl ?_
  refine jr_giN (pc := 20) (ci := 7) (f := 3) F rfl in_X13 (Nat.le_of_ble_eq_true rfl) q798 dX15_compare_2_20 w (fun g7 w => ?_)
  refine jr_iald (pc := 23) F dX15_compare_2_23 w (fun g8 w => ?_)
  refine jr_isub (pc := 24) F dX15_compare_2_24 ?_
  have w := w _ rfl
  refine jr_istore_n (pc := 25) F (vs' := [(3, .inl _), (0, .inr (.inr (.inl _))), (1, .inr (.inr (.inl _))), (2, .inr (.inr (.inl _)))]) dX15_compare_2_25 (Nat.le_of_ble_eq_true rfl) rfl ?_
  refine jr_iload_n (pc := 26) F (j := 0) dX15_compare_2_26 rfl ?_
  obtain ⟨hx9, w1, w2⟩ := w
  refine jr_if_eq (pc := 27) (tgt := 34) F hx9 dX15_compare_2_27 rfl (fun c9 => ?_) (fun c9 => ?_)
  · have w := w1 c9
    refine jr_aload_n (pc := 34) F (j := 2) dX15_compare_2_34 rfl ?_
    refine jr_giN (pc := 35) (ci := 7) (f := 0) F rfl in_X13 (Nat.le_of_ble_eq_true rfl) q790 dX15_compare_2_35 w (fun g10 w => ?_)
    refine jr_aload_n (pc := 38) F (j := 3) dX15_compare_2_38 rfl ?_
    refine jr_giN (pc := 39) (ci := 7) (f := 0) F rfl in_X13 (Nat.le_of_ble_eq_true rfl) q790 dX15_compare_2_39 w (fun g11 w => ?_)
    refine jr_isub (pc := 42) F dX15_compare_2_42 ?_
    exact jr_iret (pc := 43) F M dX15_compare_2_43 (hQ _ _ w)
  · have w := w2 c9
    refine jr_iload_n (pc := 30) F (j := 0) dX15_compare_2_30 rfl ?_
    refine jr_goto (pc := 31) (tgt := 43) F dX15_compare_2_31 rfl ?_
    exact jr_iret (pc := 43) F M dX15_compare_2_43 (hQ _ _ w)

theorem cC_JX15_compare_2 {G : jj_G} {l : Launch} (J : jx_G G l) {x0 : Option Nat} {x1 : Option Nat} {x2 : Option Nat} {Q : Int → jj_H → Prop} {E : String → Nat → jj_H → Prop} {h : jj_H} {k : Nat} (w : fC_JX15_compare_2 (jj_gk G) x0 x1 x2 Q E h k) : jj_Ct G l yX15_compare_2 (ws_ yX15_compare_2 cX15_compare_2 4 (some (.int))) 0 0 [.inr (.inr (.inl x0)), .inr (.inr (.inl x1)), .inr (.inr (.inl x2))] h k (jc_i Q) E := by
  refine jj_Ct.of J.1 (by decide +kernel) (Nat.le_of_ble_eq_true rfl) rfl (fun X hG hl F M O hnm => ?_)
  subst hG; subst hl
  exact sC_JX15_compare_2 F M O J hnm (fun r h q => ⟨r, rfl, q⟩) (fun _ _ _ q => q) _ _ _ _ _ w
theorem hC_JX15_compare_2 : yX15_compare_2.cls = RX15 ∧ yX15_compare_2.cls ≠ "java/lang/invoke/MethodHandle" ∧ yX15_compare_2.cls ≠ "java/lang/invoke/VarHandle" ∧ (parseMethodDescriptor yX15_compare_2.desc).map (fun d => d.parameters.length) = some 2 := by decide +kernel
/-! X15_compare(Ljava/lang/Object;Ljava/lang/Object;)I -/
def fC_JX15_compare (gk : Nat → Nat) (x0 : Option Nat) (x1 : Option Nat) (x2 : Option Nat) (Q : Int → jj_H → Prop) (E : String → Nat → jj_H → Prop) (h : jj_H) (k : Nat) : Prop :=
  jp_is h x1 7 ∧
  jp_is h x2 7 ∧
  jp_is h x0 9 ∧ fC_JX15_compare_2 gk x0 x1 x2 (fun r2 h3 =>
  Q r2 h3) E h 0
theorem sC_JX15_compare {X : jj_X} {N : Option jj_AV → jj_H → Prop} {XN : String → Nat → jj_H → Prop} (F : jj_F X RX15 cX15_compare 3) (M : jj_M X (some (.int)) 1 23 N XN) (O : jj_no X) (J : jx_G X.1 X.2.2.1) (hi : X.2.2.2.2.2.2.2.2.2.1.name = yX15_compare.name) {Q : Int → jj_H → Prop} {E : String → Nat → jj_H → Prop} (hQ : ∀ r h, Q r h → N (some (.inl r)) h) (hE : ∀ e q h, E e q h → XN e q h) (x0 : Option Nat) (x1 : Option Nat) (x2 : Option Nat) : ∀ (h : jj_H) (k : Nat), fC_JX15_compare (jj_gk X.1) x0 x1 x2 Q E h k → jj_J X 3 0 [(0, .inr (.inr (.inl x0))), (1, .inr (.inr (.inl x1))), (2, .inr (.inr (.inl x2)))] [] h k := by
  intro h k w
  unfold fC_JX15_compare at w
  refine jr_aload_n (pc := 0) F (j := 0) dX15_compare_0 rfl ?_
  refine jr_aload_n (pc := 1) F (j := 1) dX15_compare_1 rfl ?_
  obtain ⟨hi9, w⟩ := w
  refine jr_cast (pc := 2) (ci := 7) F rfl q1771 dX15_compare_2 hi9 ?_
  refine jr_aload_n (pc := 5) F (j := 2) dX15_compare_5 rfl ?_
  obtain ⟨hi9, w⟩ := w
  refine jr_cast (pc := 6) (ci := 7) F rfl q1771 dX15_compare_6 hi9 ?_
  obtain ⟨hi9, w⟩ := w
  refine jr_cV (pc := 9) (As := [_, _]) (ci := 9) F M (lw_V q1772 q1773 q1774 q185 q1775) dX15_compare_9 hC_JX15_compare_2 rfl (Nat.le_of_ble_eq_true rfl) (Nat.le_of_ble_eq_true rfl) (Nat.le_of_ble_eq_true rfl) rfl hi9 (Nat.zero_le _) (cC_JX15_compare_2 J w) (fun v9 h3 q9 => ?_) (fun E9 q9 h9 w9 => jr_out F M O (hE _ _ _ w9))
  obtain ⟨r2, rfl, w⟩ := q9
  exact jr_iret (pc := 12) F M dX15_compare_12 (hQ _ _ w)

theorem cC_JX15_compare {G : jj_G} {l : Launch} (J : jx_G G l) {x0 : Option Nat} {x1 : Option Nat} {x2 : Option Nat} {Q : Int → jj_H → Prop} {E : String → Nat → jj_H → Prop} {h : jj_H} {k : Nat} (w : fC_JX15_compare (jj_gk G) x0 x1 x2 Q E h k) : jj_Ct G l yX15_compare (ws_ yX15_compare cX15_compare 3 (some (.int))) 1 23 [.inr (.inr (.inl x0)), .inr (.inr (.inl x1)), .inr (.inr (.inl x2))] h k (jc_i Q) E := by
  refine jj_Ct.of J.1 (by decide +kernel) (Nat.le_of_ble_eq_true rfl) rfl (fun X hG hl F M O hnm => ?_)
  subst hG; subst hl
  exact sC_JX15_compare F M O J hnm (fun r h q => ⟨r, rfl, q⟩) (fun _ _ _ q => q) _ _ _ _ _ w
theorem hC_JX15_compare : yX15_compare.cls = RX15 ∧ yX15_compare.cls ≠ "java/lang/invoke/MethodHandle" ∧ yX15_compare.cls ≠ "java/lang/invoke/VarHandle" ∧ (parseMethodDescriptor yX15_compare.desc).map (fun d => d.parameters.length) = some 2 := by decide +kernel
