set_option maxRecDepth 100000
/-! X1_overflows()I -/
def fC_X1_overflows_l4 (gk : Nat → Nat) (x0 : Option Nat) (Q : Int → jj_H → Prop) (E : String → Nat → jj_H → Prop) : Nat → Int → Int → jj_H → Nat → Prop
  | 0, _, _, _, _ => False
  | n + 1, x1, x2, h, k =>
  jp_gr h x0 1 0 (fun g1 =>
  jp_gr h g1 2 0 (fun g2 =>
  jq_J2_isEmpty g2 (fun r5 h3 k4 =>
  jj_r r5 ∧ (¬ r5 = 0 → (
    Q x1 h3)) ∧
  (r5 = 0 → (
    jp_gr h3 x0 1 0 (fun g6 =>
    jp_is h3 g6 2 ∧ fC_X2_aim gk g6 (fun r8 h9 =>
    jp_is h9 r8 3 ∧ fC_X5_pageCount gk r8 (fun r11 h12 =>
    jj_r x2 ∧ jj_r r11 ∧ (r11 ≤ x2 → (
      Q x1 h12)) ∧
    (¬ r11 ≤ x2 → (
      jp_is h12 x0 1 ∧ ∃ c13, c13 ≤ k4 ∧ fC_X1_view gk x0 (fun r14 h15 =>
      jp_is h15 r14 8 ∧ ∃ c16, c16 ≤ (k4 - c13) ∧ fC_X10_margin gk r14 x2 (fun r17 h18 =>
      jp_gr h18 x0 1 0 (fun g19 =>
      jp_is h18 g19 2 ∧ fC_X2_aim gk g19 (fun r21 h22 =>
      jp_gi h22 r21 3 3 (fun g23 =>
      jp_al h22 r17 0 g23 (fun g24 =>
      ∀ v25, v25 = x1 + g24 →
      ∀ v26, v26 = x2 + 1 →
      fC_X1_overflows_l4 gk x0 Q E n v25 v26 h22 ((k4 - c13) - c16)))) E h18 0)) E h15 c16) E h12 c13))) E h9 0) E h3 0)))) h k))
def fC_X1_overflows (gk : Nat → Nat) (x0 : Option Nat) (Q : Int → jj_H → Prop) (E : String → Nat → jj_H → Prop) (h : jj_H) (k : Nat) : Prop :=
  ∃ n9, fC_X1_overflows_l4 gk x0 Q E n9 0 0 h k
theorem sC_X1_overflows_l4 {X : jj_X} {N : Option jj_AV → jj_H → Prop} {XN : String → Nat → jj_H → Prop} (F : jj_F X RX1 cX1_overflows 3) (M : jj_M X (some (.int)) 18 739 N XN) (O : jj_no X) (J : jj_GJ X.1 X.2.2.1) (hi : X.2.2.2.2.2.2.2.2.2.1.name = yX1_overflows.name) {Q : Int → jj_H → Prop} {E : String → Nat → jj_H → Prop} (hQ : ∀ r h, Q r h → N (some (.inl r)) h) (hE : ∀ e q h, E e q h → XN e q h) (x0 : Option Nat) : ∀ (n : Nat) (x1 : Int) (x2 : Int) (h : jj_H) (k : Nat), fC_X1_overflows_l4 (jj_gk X.1) x0 Q E n x1 x2 h k → jj_J X 3 4 [(0, .inr (.inr (.inl x0))), (1, .inl x1), (2, .inl x2)] [] h k := by
  intro n
  induction n with
  | zero =>
    intro x1 x2 h k w
    exact (show False from w).elim
  | succ n ih =>
    intro x1 x2 h k w
    rw [fC_X1_overflows_l4] at w
    refine jr_aload_n (pc := 4) F (j := 0) dX1_overflows_4 rfl ?_
    refine jr_gr (pc := 5) (ci := 1) (f := 0) F rfl in_X1 (Nat.le_of_ble_eq_true rfl) q625 dX1_overflows_5 w (fun g1 w => ?_)
    refine jr_grN (pc := 8) (ci := 2) (f := 0) F rfl in_X2 (Nat.le_of_ble_eq_true rfl) q591 dX1_overflows_8 w (fun g2 w => ?_)
    refine jr_jV (pc := 11) (As := []) (ci := 14) F M (lw_V q655 q656 q657 q124 q658) dX1_overflows_11 hj_J2_isEmpty rfl (Nat.le_of_ble_eq_true rfl) (Nat.le_of_ble_eq_true rfl) (Nat.le_of_ble_eq_true rfl) rfl (jK_J2_isEmpty J _ _ _ _ w) (fun v9 h3 k4 q9 => ?_)
    obtain ⟨r5, rfl, w⟩ := q9
    obtain ⟨hx9, w1, w2⟩ := w
    refine jr_if_ne (pc := 14) (tgt := 59) F hx9 dX1_overflows_14 rfl (fun c9 => ?_) (fun c9 => ?_)
    · have w := w1 c9
      refine jr_iload_n (pc := 59) F (j := 1) dX1_overflows_59 rfl ?_
      exact jr_iret (pc := 60) F M dX1_overflows_60 (hQ _ _ w)
    · have w := w2 c9
      refine jr_iload_n (pc := 17) F (j := 2) dX1_overflows_17 rfl ?_
      refine jr_aload_n (pc := 18) F (j := 0) dX1_overflows_18 rfl ?_
      refine jr_gr (pc := 19) (ci := 1) (f := 0) F rfl in_X1 (Nat.le_of_ble_eq_true rfl) q625 dX1_overflows_19 w (fun g6 w => ?_)
      obtain ⟨hi9, w⟩ := w
      refine jr_cV (pc := 22) (As := []) (ci := 2) F M (lw_V q1651 q696 q697 q121 q698) dX1_overflows_22 hC_X2_aim rfl (Nat.le_of_ble_eq_true rfl) (Nat.le_of_ble_eq_true rfl) (Nat.le_of_ble_eq_true rfl) rfl hi9 (Nat.zero_le _) (cC_X2_aim J w) (fun v9 h9 q9 => ?_) (fun E9 q9 h9 w9 => jr_out F M O (hE _ _ _ w9))
      obtain ⟨r8, rfl, w⟩ := q9
      obtain ⟨hi9, w⟩ := w
      refine jr_cV (pc := 25) (As := []) (ci := 3) F M (lw_V q1652 q1653 q1654 q149 q1655) dX1_overflows_25 hC_X5_pageCount rfl (Nat.le_of_ble_eq_true rfl) (Nat.le_of_ble_eq_true rfl) (Nat.le_of_ble_eq_true rfl) rfl hi9 (Nat.zero_le _) (cC_X5_pageCount J w) (fun v9 h12 q9 => ?_) (fun E9 q9 h9 w9 => jr_out F M O (hE _ _ _ w9))
      obtain ⟨r11, rfl, w⟩ := q9
      obtain ⟨hx9, hy9, w1, w2⟩ := w
      refine jr_icmp_ge (pc := 28) (tgt := 59) F hx9 hy9 dX1_overflows_28 rfl (fun c9 => ?_) (fun c9 => ?_)
      · have w := w1 c9
        refine jr_iload_n (pc := 59) F (j := 1) dX1_overflows_59 rfl ?_
        exact jr_iret (pc := 60) F M dX1_overflows_60 (hQ _ _ w)
      · have w := w2 c9
        refine jr_iload_n (pc := 31) F (j := 1) dX1_overflows_31 rfl ?_
        refine jr_aload_n (pc := 32) F (j := 0) dX1_overflows_32 rfl ?_
        obtain ⟨hi9, c13, hk9, w⟩ := w
        refine jr_cV (pc := 33) (As := []) (ci := 1) F M (lw_V q659 q661 qs1 q120 q662) dX1_overflows_33 hC_X1_view rfl (Nat.le_of_ble_eq_true rfl) (Nat.le_of_ble_eq_true rfl) (Nat.le_of_ble_eq_true rfl) rfl hi9 hk9 (cC_X1_view J w) (fun v9 h15 q9 => ?_) (fun E9 q9 h9 w9 => jr_out F M O (hE _ _ _ w9))
        obtain ⟨r14, rfl, w⟩ := q9
        refine jr_iload_n (pc := 36) F (j := 2) dX1_overflows_36 rfl ?_
        obtain ⟨hi9, c16, hk9, w⟩ := w
        refine jr_cV (pc := 37) (As := [_]) (ci := 8) F M (lw_V q1684 q1685 q1686 q177 q1687) dX1_overflows_37 hC_X10_margin rfl (Nat.le_of_ble_eq_true rfl) (Nat.le_of_ble_eq_true rfl) (Nat.le_of_ble_eq_true rfl) rfl hi9 hk9 (cC_X10_margin J w) (fun v9 h18 q9 => ?_) (fun E9 q9 h9 w9 => jr_out F M O (hE _ _ _ w9))
        obtain ⟨r17, rfl, w⟩ := q9
        refine jr_aload_n (pc := 40) F (j := 0) dX1_overflows_40 rfl ?_
        refine jr_gr (pc := 41) (ci := 1) (f := 0) F rfl in_X1 (Nat.le_of_ble_eq_true rfl) q625 dX1_overflows_41 w (fun g19 w => ?_)
        obtain ⟨hi9, w⟩ := w
        refine jr_cV (pc := 44) (As := []) (ci := 2) F M (lw_V q1651 q696 q697 q121 q698) dX1_overflows_44 hC_X2_aim rfl (Nat.le_of_ble_eq_true rfl) (Nat.le_of_ble_eq_true rfl) (Nat.le_of_ble_eq_true rfl) rfl hi9 (Nat.zero_le _) (cC_X2_aim J w) (fun v9 h22 q9 => ?_) (fun E9 q9 h9 w9 => jr_out F M O (hE _ _ _ w9))
        obtain ⟨r21, rfl, w⟩ := q9
        refine jr_giN (pc := 47) (ci := 3) (f := 3) F rfl in_X5 (Nat.le_of_ble_eq_true rfl) q1870 dX1_overflows_47 w (fun g23 w => ?_)
        refine jr_iald (pc := 50) F dX1_overflows_50 w (fun g24 w => ?_)
        refine jr_iadd (pc := 51) F dX1_overflows_51 ?_
        have w := w _ rfl
        refine jr_istore_n (pc := 52) F (vs' := [(1, .inl _), (0, .inr (.inr (.inl _))), (2, .inl _)]) dX1_overflows_52 (Nat.le_of_ble_eq_true rfl) rfl ?_
        have w := w _ rfl
        refine jr_iinc (pc := 53) F (j := 2) (vs' := [(2, .inl _), (1, .inl _), (0, .inr (.inr (.inl _)))]) dX1_overflows_53 rfl rfl (Nat.le_of_ble_eq_true rfl) rfl ?_
        refine jr_goto (pc := 56) (tgt := 4) F dX1_overflows_56 rfl ?_
        refine jj_J.sub [2, 1, 0] rfl ?_
        exact ih _ _ _ _ w

theorem sC_X1_overflows {X : jj_X} {N : Option jj_AV → jj_H → Prop} {XN : String → Nat → jj_H → Prop} (F : jj_F X RX1 cX1_overflows 3) (M : jj_M X (some (.int)) 18 739 N XN) (O : jj_no X) (J : jj_GJ X.1 X.2.2.1) (hi : X.2.2.2.2.2.2.2.2.2.1.name = yX1_overflows.name) {Q : Int → jj_H → Prop} {E : String → Nat → jj_H → Prop} (hQ : ∀ r h, Q r h → N (some (.inl r)) h) (hE : ∀ e q h, E e q h → XN e q h) (x0 : Option Nat) : ∀ (h : jj_H) (k : Nat), fC_X1_overflows (jj_gk X.1) x0 Q E h k → jj_J X 3 0 [(0, .inr (.inr (.inl x0)))] [] h k := by
  intro h k w
  unfold fC_X1_overflows at w
  refine jr_iconst (pc := 0) F dX1_overflows_0 ?_
  refine jr_istore_n (pc := 1) F (vs' := [(1, .inl _), (0, .inr (.inr (.inl _)))]) dX1_overflows_1 (Nat.le_of_ble_eq_true rfl) rfl ?_
  refine jr_iconst (pc := 2) F dX1_overflows_2 ?_
  refine jr_istore_n (pc := 3) F (vs' := [(2, .inl _), (1, .inl _), (0, .inr (.inr (.inl _)))]) dX1_overflows_3 (Nat.le_of_ble_eq_true rfl) rfl ?_
  refine jj_J.sub [2, 1, 0] rfl ?_
  obtain ⟨n9, w⟩ := w
  exact sC_X1_overflows_l4 F M O J hi hQ hE _ n9 _ _ _ _ w

theorem cC_X1_overflows {G : jj_G} {l : Launch} (J : jj_GJ G l) {x0 : Option Nat} {Q : Int → jj_H → Prop} {E : String → Nat → jj_H → Prop} {h : jj_H} {k : Nat} (w : fC_X1_overflows (jj_gk G) x0 Q E h k) : jj_Ct G l yX1_overflows (ws_ yX1_overflows cX1_overflows 3 (some (.int))) 18 739 [.inr (.inr (.inl x0))] h k (jc_i Q) E := by
  refine jj_Ct.of (jK_gs J).1 (by decide +kernel) (Nat.le_of_ble_eq_true rfl) rfl (fun X hG hl F M O hnm => ?_)
  subst hG; subst hl
  exact sC_X1_overflows F M O J hnm (fun r h q => ⟨r, rfl, q⟩) (fun _ _ _ q => q) _ _ _ w
theorem hC_X1_overflows : yX1_overflows.cls = RX1 ∧ yX1_overflows.cls ≠ "java/lang/invoke/MethodHandle" ∧ yX1_overflows.cls ≠ "java/lang/invoke/VarHandle" ∧ (parseMethodDescriptor yX1_overflows.desc).map (fun d => d.parameters.length) = some 0 := by decide +kernel
/-! X2_addReader(Ljava/lang/String;)V -/
def fC_X2_addReader (gk : Nat → Nat) (x0 : Option Nat) (x1 : Option Nat) (Q : jj_H → Prop) (E : String → Nat → jj_H → Prop) (h : jj_H) (k : Nat) : Prop :=
  jp_gr h x0 2 3 (fun g1 =>
  jp_gr h x0 2 2 (fun g2 =>
  jq_J2_size g2 (fun r5 h3 k4 =>
  jq_J17_valueOf gk r5 (fun r8 h6 k7 =>
  jq_J19_put g1 x1 r8 (fun r11 h9 k10 =>
  jp_gr h9 x0 2 2 (fun g12 =>
  jq_J2_add g12 x1 (fun r15 h13 k14 =>
  Q h13) h9 k10)) h6 k7) h3 k4) h k))
theorem sC_X2_addReader {X : jj_X} {N : Option jj_AV → jj_H → Prop} {XN : String → Nat → jj_H → Prop} (F : jj_F X RX2 cX2_addReader 2) (M : jj_M X (none) 13 622 N XN) (O : jj_no X) (J : jj_GJ X.1 X.2.2.1) (hi : X.2.2.2.2.2.2.2.2.2.1.name = yX2_addReader.name) {Q : jj_H → Prop} {E : String → Nat → jj_H → Prop} (hQ : ∀ h, Q h → N none h) (hE : ∀ e q h, E e q h → XN e q h) (x0 : Option Nat) (x1 : Option Nat) : ∀ (h : jj_H) (k : Nat), fC_X2_addReader (jj_gk X.1) x0 x1 Q E h k → jj_J X 2 0 [(0, .inr (.inr (.inl x0))), (1, .inr (.inr (.inl x1)))] [] h k := by
  intro h k w
  unfold fC_X2_addReader at w
  refine jr_aload_n (pc := 0) F (j := 0) dX2_addReader_0 rfl ?_
  refine jr_gr (pc := 1) (ci := 2) (f := 3) F rfl in_X2 (Nat.le_of_ble_eq_true rfl) q600 dX2_addReader_1 w (fun g1 w => ?_)
  refine jr_aload_n (pc := 4) F (j := 1) dX2_addReader_4 rfl ?_
  refine jr_aload_n (pc := 5) F (j := 0) dX2_addReader_5 rfl ?_
  refine jr_gr (pc := 6) (ci := 2) (f := 2) F rfl in_X2 (Nat.le_of_ble_eq_true rfl) q597 dX2_addReader_6 w (fun g2 w => ?_)
  refine jr_jV (pc := 9) (As := []) (ci := 14) F M (lw_V q2335 q676 q677 q124 q678) dX2_addReader_9 hj_J2_size rfl (Nat.le_of_ble_eq_true rfl) (Nat.le_of_ble_eq_true rfl) (Nat.le_of_ble_eq_true rfl) rfl (jK_J2_size J _ _ _ _ w) (fun v9 h3 k4 q9 => ?_)
  obtain ⟨r5, rfl, w⟩ := q9
  refine jr_jS (pc := 12) (As := [_]) F M (lw_S q2336 q893 q140 q894) dX2_addReader_12 hj_J17_valueOf.2 rfl (Nat.le_of_ble_eq_true rfl) (Nat.le_of_ble_eq_true rfl) (Nat.le_of_ble_eq_true rfl) (jK_J17_valueOf J _ _ _ _ w) (fun v9 h6 k7 q9 => ?_)
  obtain ⟨r8, rfl, w⟩ := q9
  refine jr_jV (pc := 15) (As := [_, _]) (ci := 16) F M (lw_V q2337 q2054 q2055 q142 q2056) dX2_addReader_15 hj_J19_put rfl (Nat.le_of_ble_eq_true rfl) (Nat.le_of_ble_eq_true rfl) (Nat.le_of_ble_eq_true rfl) rfl (jK_J19_put J _ _ _ _ _ _ w) (fun v9 h9 k10 q9 => ?_)
  obtain ⟨r11, rfl, w⟩ := q9
  refine jr_pop (pc := 18) F dX2_addReader_18 rfl ?_
  refine jr_aload_n (pc := 19) F (j := 0) dX2_addReader_19 rfl ?_
  refine jr_gr (pc := 20) (ci := 2) (f := 2) F rfl in_X2 (Nat.le_of_ble_eq_true rfl) q597 dX2_addReader_20 w (fun g12 w => ?_)
  refine jr_aload_n (pc := 23) F (j := 1) dX2_addReader_23 rfl ?_
  refine jr_jV (pc := 24) (As := [_]) (ci := 14) F M (lw_V q1999 q820 q821 q124 q822) dX2_addReader_24 hj_J2_add rfl (Nat.le_of_ble_eq_true rfl) (Nat.le_of_ble_eq_true rfl) (Nat.le_of_ble_eq_true rfl) rfl (jK_J2_add J _ _ _ _ _ w) (fun v9 h13 k14 q9 => ?_)
  obtain ⟨r15, rfl, w⟩ := q9
  refine jr_pop (pc := 27) F dX2_addReader_27 rfl ?_
  exact jr_vret (pc := 28) F M dX2_addReader_28 (hQ _ w)

theorem cC_X2_addReader {G : jj_G} {l : Launch} (J : jj_GJ G l) {x0 : Option Nat} {x1 : Option Nat} {Q : jj_H → Prop} {E : String → Nat → jj_H → Prop} {h : jj_H} {k : Nat} (w : fC_X2_addReader (jj_gk G) x0 x1 Q E h k) : jj_Ct G l yX2_addReader (ws_ yX2_addReader cX2_addReader 2 (none)) 13 622 [.inr (.inr (.inl x0)), .inr (.inr (.inl x1))] h k (jc_v Q) E := by
  refine jj_Ct.of (jK_gs J).1 (by decide +kernel) (Nat.le_of_ble_eq_true rfl) rfl (fun X hG hl F M O hnm => ?_)
  subst hG; subst hl
  exact sC_X2_addReader F M O J hnm (fun h q => ⟨rfl, q⟩) (fun _ _ _ q => q) _ _ _ _ w
theorem hC_X2_addReader : yX2_addReader.cls = RX2 ∧ yX2_addReader.cls ≠ "java/lang/invoke/MethodHandle" ∧ yX2_addReader.cls ≠ "java/lang/invoke/VarHandle" ∧ (parseMethodDescriptor yX2_addReader.desc).map (fun d => d.parameters.length) = some 1 := by decide +kernel
/-! X5_init(II)V -/
def fC_X5_init (gk : Nat → Nat) (x0 : Option Nat) (x1 : Int) (x2 : Int) (Q : jj_H → Prop) (E : String → Nat → jj_H → Prop) (h : jj_H) (k : Nat) : Prop :=
  jp_so x0 ∧
  jp_nw h k 14 1 df_J2 (fun a1 h2 k3 =>
  jq_J2_init (some a1) 8 (fun h4 k5 =>
  jp_pr h4 x0 3 0 (some a1) (fun h6 =>
  jp_nw h6 k5 14 1 df_J2 (fun a7 h8 k9 =>
  jq_J2_init (some a7) 8 (fun h10 k11 =>
  jp_pr h10 x0 3 1 (some a7) (fun h12 =>
  jp_ni h12 k11 0 120 (fun a13 h14 k15 =>
  jp_pr h14 x0 3 4 (some a13) (fun h16 =>
  jp_ni h16 k15 0 120 (fun a17 h18 k19 =>
  jp_pr h18 x0 3 5 (some a17) (fun h20 =>
  jp_ni h20 k19 0 120 (fun a21 h22 k23 =>
  jp_pr h22 x0 3 6 (some a21) (fun h24 =>
  jp_pi h24 x0 3 2 x1 (fun h25 =>
  jp_pi h25 x0 3 3 x2 (fun h26 =>
  Q h26)))))))))) h8 k9))) h2 k3)
theorem sC_X5_init {X : jj_X} {N : Option jj_AV → jj_H → Prop} {XN : String → Nat → jj_H → Prop} (F : jj_F X RX5 cX5_init 3) (M : jj_M X (none) 13 621 N XN) (O : jj_no X) (J : jj_GJ X.1 X.2.2.1) (hi : X.2.2.2.2.2.2.2.2.2.1.name = yX5_init.name) {Q : jj_H → Prop} {E : String → Nat → jj_H → Prop} (hQ : ∀ h, Q h → N none h) (hE : ∀ e q h, E e q h → XN e q h) (x0 : Option Nat) (x1 : Int) (x2 : Int) : ∀ (h : jj_H) (k : Nat), fC_X5_init (jj_gk X.1) x0 x1 x2 Q E h k → jj_J X 3 0 [(0, .inr (.inr (.inl x0))), (1, .inl x1), (2, .inl x2)] [] h k := by
  intro h k w
  unfold fC_X5_init at w
  refine jr_aload_n (pc := 0) F (j := 0) dX5_init_0 rfl ?_
  obtain ⟨ha9, w⟩ := w
  refine jr_objInitO (pc := 1) F M q1858 q192 q193 ha9 (Nat.le_of_ble_eq_true rfl) (Nat.le_of_ble_eq_true rfl) (Nat.le_of_ble_eq_true rfl) dX5_init_1 ?_
  refine jr_aload_n (pc := 4) F (j := 0) dX5_init_4 rfl ?_
  refine jr_new (pc := 5) (ci := 14) F rfl in_J2 tyJ2_ok q1859 q201 q124 dfo_J2 rfl ⟨by decide, by decide⟩ dX5_init_5 w (fun a1 h2 k3 w => ?_)
  refine jr_dup (pc := 8) F dX5_init_8 rfl ?_
  refine jr_bipush (pc := 9) F dX5_init_9 (by decide +kernel) ?_
  refine jr_jI (pc := 11) (As := [_]) F M q1860 q203 q124 q204 dX5_init_11 rfl hj_J2_init.2 rfl (Nat.le_of_ble_eq_true rfl) (Nat.le_of_ble_eq_true rfl) (Nat.le_of_ble_eq_true rfl) (jK_J2_init J _ _ _ _ _ w) (fun v9 h4 k5 q9 => ?_)
  obtain ⟨rfl, w⟩ := q9
  refine jr_prF (pc := 14) (ci := 3) (f := 0) F rfl in_X5 tyX5_ok nmX5 (Nat.le_of_ble_eq_true rfl) rfl rfl rfl hi q1861 dX5_init_14 w (fun h6 w => ?_)
  refine jr_aload_n (pc := 17) F (j := 0) dX5_init_17 rfl ?_
  refine jr_new (pc := 18) (ci := 14) F rfl in_J2 tyJ2_ok q1859 q201 q124 dfo_J2 rfl ⟨by decide, by decide⟩ dX5_init_18 w (fun a7 h8 k9 w => ?_)
  refine jr_dup (pc := 21) F dX5_init_21 rfl ?_
  refine jr_bipush (pc := 22) F dX5_init_22 (by decide +kernel) ?_
  refine jr_jI (pc := 24) (As := [_]) F M q1860 q203 q124 q204 dX5_init_24 rfl hj_J2_init.2 rfl (Nat.le_of_ble_eq_true rfl) (Nat.le_of_ble_eq_true rfl) (Nat.le_of_ble_eq_true rfl) (jK_J2_init J _ _ _ _ _ w) (fun v9 h10 k11 q9 => ?_)
  obtain ⟨rfl, w⟩ := q9
  refine jr_prF (pc := 27) (ci := 3) (f := 1) F rfl in_X5 tyX5_ok nmX5 (Nat.le_of_ble_eq_true rfl) rfl rfl rfl hi q1864 dX5_init_27 w (fun h12 w => ?_)
  refine jr_aload_n (pc := 30) F (j := 0) dX5_init_30 rfl ?_
  refine jr_bipush (pc := 31) F dX5_init_31 (by decide +kernel) ?_
  refine jr_newI (pc := 33) F q731 dX5_init_33 w (fun a13 h14 k15 w => ?_)
  refine jr_prF (pc := 35) (ci := 3) (f := 4) F rfl in_X5 tyX5_ok nmX5 (Nat.le_of_ble_eq_true rfl) rfl rfl rfl hi q1871 dX5_init_35 w (fun h16 w => ?_)
  refine jr_aload_n (pc := 38) F (j := 0) dX5_init_38 rfl ?_
  refine jr_bipush (pc := 39) F dX5_init_39 (by decide +kernel) ?_
  refine jr_newI (pc := 41) F q731 dX5_init_41 w (fun a17 h18 k19 w => ?_)
  refine jr_prF (pc := 43) (ci := 3) (f := 5) F rfl in_X5 tyX5_ok nmX5 (Nat.le_of_ble_eq_true rfl) rfl rfl rfl hi q1875 dX5_init_43 w (fun h20 w => ?_)
  refine jr_aload_n (pc := 46) F (j := 0) dX5_init_46 rfl ?_
  refine jr_bipush (pc := 47) F dX5_init_47 (by decide +kernel) ?_
  refine jr_newI (pc := 49) F q731 dX5_init_49 w (fun a21 h22 k23 w => ?_)
  refine jr_prF (pc := 51) (ci := 3) (f := 6) F rfl in_X5 tyX5_ok nmX5 (Nat.le_of_ble_eq_true rfl) rfl rfl rfl hi q1877 dX5_init_51 w (fun h24 w => ?_)
  refine jr_aload_n (pc := 54) F (j := 0) dX5_init_54 rfl ?_
  refine jr_iload_n (pc := 55) F (j := 1) dX5_init_55 rfl ?_
  refine jr_pi (pc := 56) (ci := 3) (f := 2) F rfl in_X5 tyX5_ok nmX5 (Nat.le_of_ble_eq_true rfl) rfl rfl q1866 dX5_init_56 w (fun h25 w => ?_)
  refine jr_aload_n (pc := 59) F (j := 0) dX5_init_59 rfl ?_
  refine jr_iload_n (pc := 60) F (j := 2) dX5_init_60 rfl ?_
  refine jr_pi (pc := 61) (ci := 3) (f := 3) F rfl in_X5 tyX5_ok nmX5 (Nat.le_of_ble_eq_true rfl) rfl rfl q1868 dX5_init_61 w (fun h26 w => ?_)
  exact jr_vret (pc := 64) F M dX5_init_64 (hQ _ w)

theorem cC_X5_init {G : jj_G} {l : Launch} (J : jj_GJ G l) {x0 : Option Nat} {x1 : Int} {x2 : Int} {Q : jj_H → Prop} {E : String → Nat → jj_H → Prop} {h : jj_H} {k : Nat} (w : fC_X5_init (jj_gk G) x0 x1 x2 Q E h k) : jj_Ct G l yX5_init (ws_ yX5_init cX5_init 3 (none)) 13 621 [.inr (.inr (.inl x0)), .inl x1, .inl x2] h k (jc_v Q) E := by
  refine jj_Ct.of (jK_gs J).1 (by decide +kernel) (Nat.le_of_ble_eq_true rfl) rfl (fun X hG hl F M O hnm => ?_)
  subst hG; subst hl
  exact sC_X5_init F M O J hnm (fun h q => ⟨rfl, q⟩) (fun _ _ _ q => q) _ _ _ _ _ w
theorem hC_X5_init : yX5_init.cls = RX5 ∧ yX5_init.cls ≠ "java/lang/invoke/MethodHandle" ∧ yX5_init.cls ≠ "java/lang/invoke/VarHandle" ∧ (parseMethodDescriptor yX5_init.desc).map (fun d => d.parameters.length) = some 2 := by decide +kernel
/-! X5_lay()V -/
def fC_X5_lay_j133 (gk : Nat → Nat) (K6 : Int → Int → Int → jj_H → Nat → Prop) (x0 : Option Nat) (x1 : Int) (x3 : Int) (x4 : Int) (y0 : Option Nat) (y1 : Int) (y2 : Int) (Q : jj_H → Prop) (E : String → Nat → jj_H → Prop) (h : jj_H) (k : Nat) : Prop :=
  jp_as h y0 0 y1 y2 (fun h1 =>
  jp_gr h1 x0 3 5 (fun g2 =>
  jp_al h1 g2 0 x3 (fun g3 =>
  ∀ v4, v4 = g3 + x4 →
  ∀ v5, v5 = x3 + 1 →
  K6 x1 v4 v5 h1 k)))
def fC_X5_lay_j108 (gk : Nat → Nat) (K6 : Int → Int → Int → jj_H → Nat → Prop) (x0 : Option Nat) (x1 : Int) (x3 : Int) (x4 : Int) (x5 : Int) (y0 : Option Nat) (y1 : Int) (y2 : Int) (Q : jj_H → Prop) (E : String → Nat → jj_H → Prop) (h : jj_H) (k : Nat) : Prop :=
  jp_as h y0 0 y1 y2 (fun h6 =>
  jp_gr h6 x0 3 6 (fun g7 =>
  jj_r x5 ∧ (x5 = 0 → (
    jp_gr h6 x0 3 6 (fun g8 =>
    jp_al h6 g8 0 (x3 - 1) (fun g9 =>
    fC_X5_lay_j133 gk K6 x0 x1 x3 x4 g7 x3 (g9 + 1) Q E h6 k)))) ∧
  (¬ x5 = 0 → (
    fC_X5_lay_j133 gk K6 x0 x1 x3 x4 g7 x3 0 Q E h6 k))))
def fC_X5_lay_j82 (gk : Nat → Nat) (K6 : Int → Int → Int → jj_H → Nat → Prop) (x0 : Option Nat) (x2 : Int) (x3 : Int) (x4 : Int) (x5 : Int) (y0 : Int) (y1 : Int) (Q : jj_H → Prop) (E : String → Nat → jj_H → Prop) (h : jj_H) (k : Nat) : Prop :=
  ∀ v10, v10 = y0 + y1 →
  jp_gr h x0 3 4 (fun g11 =>
  jp_as h g11 0 x3 v10 (fun h12 =>
  jp_gr h12 x0 3 5 (fun g13 =>
  jj_r x5 ∧ (x5 = 0 → (
    fC_X5_lay_j108 gk K6 x0 v10 x3 x4 x5 g13 x3 (x2 + 1) Q E h12 k)) ∧
  (¬ x5 = 0 → (
    fC_X5_lay_j108 gk K6 x0 v10 x3 x4 x5 g13 x3 0 Q E h12 k)))))
def fC_X5_lay_j69 (gk : Nat → Nat) (K6 : Int → Int → Int → jj_H → Nat → Prop) (x0 : Option Nat) (x1 : Int) (x2 : Int) (x3 : Int) (x4 : Int) (y0 : Int) (Q : jj_H → Prop) (E : String → Nat → jj_H → Prop) (h : jj_H) (k : Nat) : Prop :=
  jj_r y0 ∧ (y0 = 0 → (
    fC_X5_lay_j82 gk K6 x0 x2 x3 x4 y0 x1 0 Q E h k)) ∧
  (¬ y0 = 0 → (
    fC_X5_lay_j82 gk K6 x0 x2 x3 x4 y0 x1 1 Q E h k))
def fC_X5_lay_j64 (gk : Nat → Nat) (K6 : Int → Int → Int → jj_H → Nat → Prop) (x0 : Option Nat) (x1 : Int) (x2 : Int) (x3 : Int) (x4 : Int) (Q : jj_H → Prop) (E : String → Nat → jj_H → Prop) (h : jj_H) (k : Nat) : Prop :=
  fC_X5_lay_j69 gk K6 x0 x1 x2 x3 x4 1 Q E h k
def fC_X5_lay_l6 (gk : Nat → Nat) (x0 : Option Nat) (Q : jj_H → Prop) (E : String → Nat → jj_H → Prop) : Nat → Int → Int → Int → jj_H → Nat → Prop
  | 0, _, _, _, _, _ => False
  | n + 1, x1, x2, x3, h, k =>
  jp_is h x0 3 ∧ fC_X5_size gk x0 (fun r15 h16 =>
  jj_r x3 ∧ jj_r r15 ∧ (r15 ≤ x3 → (
    Q h16)) ∧
  (¬ r15 ≤ x3 → (
    jp_gr h16 x0 3 0 (fun g17 =>
    jq_J2_get g17 x3 (fun r20 h18 k19 =>
    jp_is h18 r20 25 ∧
    jq_J9_length r20 (fun r23 h21 k22 =>
    jj_r x3 ∧ (x3 = 0 → (
      fC_X5_lay_j64 gk (fC_X5_lay_l6 gk x0 Q E n) x0 x1 x2 x3 r23 Q E h21 k22)) ∧
    (¬ x3 = 0 → (
      jp_gr h21 x0 3 1 (fun g24 =>
      jq_J2_get g24 x3 (fun r27 h25 k26 =>
      jp_is h25 r27 31 ∧
      jq_J34_booleanValue r27 (fun r30 h28 k29 =>
      jj_r r30 ∧ (¬ r30 = 0 → (
        fC_X5_lay_j64 gk (fC_X5_lay_l6 gk x0 Q E n) x0 x1 x2 x3 r23 Q E h28 k29)) ∧
      (r30 = 0 → (
        jp_gi h28 x0 3 2 (fun g31 =>
        jj_r ((x2 + 1) + r23) ∧ jj_r g31 ∧ (((x2 + 1) + r23) ≤ g31 → (
          fC_X5_lay_j69 gk (fC_X5_lay_l6 gk x0 Q E n) x0 x1 x2 x3 r23 0 Q E h28 k29)) ∧
        (¬ ((x2 + 1) + r23) ≤ g31 → (
          fC_X5_lay_j64 gk (fC_X5_lay_l6 gk x0 Q E n) x0 x1 x2 x3 r23 Q E h28 k29)))))) h25 k26) h21 k22)))) h18 k19) h16 k)))) E h 0
def fC_X5_lay (gk : Nat → Nat) (x0 : Option Nat) (Q : jj_H → Prop) (E : String → Nat → jj_H → Prop) (h : jj_H) (k : Nat) : Prop :=
  ∃ n9, fC_X5_lay_l6 gk x0 Q E n9 (-1) 0 0 h k
theorem sC_X5_lay_j133 {X : jj_X} {N : Option jj_AV → jj_H → Prop} {XN : String → Nat → jj_H → Prop} (F : jj_F X RX5 cX5_lay 6) (M : jj_M X (none) 14 640 N XN) (O : jj_no X) (J : jj_GJ X.1 X.2.2.1) (hi : X.2.2.2.2.2.2.2.2.2.1.name = yX5_lay.name) {Q : jj_H → Prop} {E : String → Nat → jj_H → Prop} (hQ : ∀ h, Q h → N none h) (hE : ∀ e q h, E e q h → XN e q h) (x0 : Option Nat) (x1 : Int) (x3 : Int) (x4 : Int) (y0 : Option Nat) (y1 : Int) (y2 : Int) {K6 : Int → Int → Int → jj_H → Nat → Prop} (hK6 : ∀ (z1 : Int) (z2 : Int) (z3 : Int) (h : jj_H) (k : Nat), K6 z1 z2 z3 h k → jj_J X 6 6 [(0, .inr (.inr (.inl x0))), (1, .inl z1), (2, .inl z2), (3, .inl z3)] [] h k) : ∀ (h : jj_H) (k : Nat), fC_X5_lay_j133 (jj_gk X.1) K6 x0 x1 x3 x4 y0 y1 y2 Q E h k → jj_J X 6 133 [(0, .inr (.inr (.inl x0))), (1, .inl x1), (3, .inl x3), (4, .inl x4)] [.inl y2, .inl y1, .inr (.inr (.inl y0))] h k := by
  intro h k w
  unfold fC_X5_lay_j133 at w
  refine jr_iast (pc := 133) F dX5_lay_133 w (fun h1 w => ?_)
  refine jr_aload_n (pc := 134) F (j := 0) dX5_lay_134 rfl ?_
  refine jr_gr (pc := 135) (ci := 3) (f := 5) F rfl in_X5 (Nat.le_of_ble_eq_true rfl) q1875 dX5_lay_135 w (fun g2 w => ?_)
  refine jr_iload_n (pc := 138) F (j := 2) dX5_lay_138 rfl ?_
  refine jr_iald (pc := 139) F dX5_lay_139 w (fun g3 w => ?_)
  refine jr_iload (pc := 140) F (j := 3) dX5_lay_140 rfl ?_
  refine jr_iadd (pc := 142) F dX5_lay_142 ?_
  have w := w _ rfl
  refine jr_istore_n (pc := 143) F (vs' := [(2, .inl _), (0, .inr (.inr (.inl _))), (1, .inl _), (3, .inl _), (4, .inl _)]) dX5_lay_143 (Nat.le_of_ble_eq_true rfl) rfl ?_
  have w := w _ rfl
  refine jr_iinc (pc := 144) F (j := 3) (vs' := [(3, .inl _), (2, .inl _), (0, .inr (.inr (.inl _))), (1, .inl _), (4, .inl _)]) dX5_lay_144 rfl rfl (Nat.le_of_ble_eq_true rfl) rfl ?_
  refine jr_goto (pc := 147) (tgt := 6) F dX5_lay_147 rfl ?_
  refine jj_J.sub [2, 3, 1, 0] rfl ?_
  exact hK6 _ _ _ _ _ w

theorem sC_X5_lay_j108 {X : jj_X} {N : Option jj_AV → jj_H → Prop} {XN : String → Nat → jj_H → Prop} (F : jj_F X RX5 cX5_lay 6) (M : jj_M X (none) 14 640 N XN) (O : jj_no X) (J : jj_GJ X.1 X.2.2.1) (hi : X.2.2.2.2.2.2.2.2.2.1.name = yX5_lay.name) {Q : jj_H → Prop} {E : String → Nat → jj_H → Prop} (hQ : ∀ h, Q h → N none h) (hE : ∀ e q h, E e q h → XN e q h) (x0 : Option Nat) (x1 : Int) (x3 : Int) (x4 : Int) (x5 : Int) (y0 : Option Nat) (y1 : Int) (y2 : Int) {K6 : Int → Int → Int → jj_H → Nat → Prop} (hK6 : ∀ (z1 : Int) (z2 : Int) (z3 : Int) (h : jj_H) (k : Nat), K6 z1 z2 z3 h k → jj_J X 6 6 [(0, .inr (.inr (.inl x0))), (1, .inl z1), (2, .inl z2), (3, .inl z3)] [] h k) : ∀ (h : jj_H) (k : Nat), fC_X5_lay_j108 (jj_gk X.1) K6 x0 x1 x3 x4 x5 y0 y1 y2 Q E h k → jj_J X 6 108 [(0, .inr (.inr (.inl x0))), (1, .inl x1), (3, .inl x3), (4, .inl x4), (5, .inl x5)] [.inl y2, .inl y1, .inr (.inr (.inl y0))] h k := by
  intro h k w
  unfold fC_X5_lay_j108 at w
  refine jr_iast (pc := 108) F dX5_lay_108 w (fun h6 w => ?_)
  refine jr_aload_n (pc := 109) F (j := 0) dX5_lay_109 rfl ?_
  refine jr_gr (pc := 110) (ci := 3) (f := 6) F rfl in_X5 (Nat.le_of_ble_eq_true rfl) q1877 dX5_lay_110 w (fun g7 w => ?_)
  refine jr_iload_n (pc := 113) F (j := 2) dX5_lay_113 rfl ?_
  refine jr_iload (pc := 114) F (j := 4) dX5_lay_114 rfl ?_
  obtain ⟨hx9, w1, w2⟩ := w
  refine jr_if_eq (pc := 116) (tgt := 123) F hx9 dX5_lay_116 rfl (fun c9 => ?_) (fun c9 => ?_)
  · have w := w1 c9
    refine jr_aload_n (pc := 123) F (j := 0) dX5_lay_123 rfl ?_
    refine jr_gr (pc := 124) (ci := 3) (f := 6) F rfl in_X5 (Nat.le_of_ble_eq_true rfl) q1877 dX5_lay_124 w (fun g8 w => ?_)
    refine jr_iload_n (pc := 127) F (j := 2) dX5_lay_127 rfl ?_
    refine jr_iconst (pc := 128) F dX5_lay_128 ?_
    refine jr_isub (pc := 129) F dX5_lay_129 ?_
    refine jr_iald (pc := 130) F dX5_lay_130 w (fun g9 w => ?_)
    refine jr_iconst (pc := 131) F dX5_lay_131 ?_
    refine jr_iadd (pc := 132) F dX5_lay_132 ?_
    refine jj_J.sub [0, 1, 2, 3] rfl ?_
    exact sC_X5_lay_j133 F M O J hi hQ hE _ _ _ _ _ _ _ hK6 _ _ w
  · have w := w2 c9
    refine jr_iconst (pc := 119) F dX5_lay_119 ?_
    refine jr_goto (pc := 120) (tgt := 133) F dX5_lay_120 rfl ?_
    refine jj_J.sub [0, 1, 2, 3] rfl ?_
    exact sC_X5_lay_j133 F M O J hi hQ hE _ _ _ _ _ _ _ hK6 _ _ w

theorem sC_X5_lay_j82 {X : jj_X} {N : Option jj_AV → jj_H → Prop} {XN : String → Nat → jj_H → Prop} (F : jj_F X RX5 cX5_lay 6) (M : jj_M X (none) 14 640 N XN) (O : jj_no X) (J : jj_GJ X.1 X.2.2.1) (hi : X.2.2.2.2.2.2.2.2.2.1.name = yX5_lay.name) {Q : jj_H → Prop} {E : String → Nat → jj_H → Prop} (hQ : ∀ h, Q h → N none h) (hE : ∀ e q h, E e q h → XN e q h) (x0 : Option Nat) (x2 : Int) (x3 : Int) (x4 : Int) (x5 : Int) (y0 : Int) (y1 : Int) {K6 : Int → Int → Int → jj_H → Nat → Prop} (hK6 : ∀ (z1 : Int) (z2 : Int) (z3 : Int) (h : jj_H) (k : Nat), K6 z1 z2 z3 h k → jj_J X 6 6 [(0, .inr (.inr (.inl x0))), (1, .inl z1), (2, .inl z2), (3, .inl z3)] [] h k) : ∀ (h : jj_H) (k : Nat), fC_X5_lay_j82 (jj_gk X.1) K6 x0 x2 x3 x4 x5 y0 y1 Q E h k → jj_J X 6 82 [(0, .inr (.inr (.inl x0))), (2, .inl x2), (3, .inl x3), (4, .inl x4), (5, .inl x5)] [.inl y1, .inl y0] h k := by
  intro h k w
  unfold fC_X5_lay_j82 at w
  refine jr_iadd (pc := 82) F dX5_lay_82 ?_
  have w := w _ rfl
  refine jr_istore_n (pc := 83) F (vs' := [(1, .inl _), (0, .inr (.inr (.inl _))), (2, .inl _), (3, .inl _), (4, .inl _), (5, .inl _)]) dX5_lay_83 (Nat.le_of_ble_eq_true rfl) rfl ?_
  refine jr_aload_n (pc := 84) F (j := 1) dX5_lay_84 rfl ?_
  refine jr_gr (pc := 85) (ci := 3) (f := 4) F rfl in_X5 (Nat.le_of_ble_eq_true rfl) q1871 dX5_lay_85 w (fun g11 w => ?_)
  refine jr_iload_n (pc := 88) F (j := 3) dX5_lay_88 rfl ?_
  refine jr_iload_n (pc := 89) F (j := 0) dX5_lay_89 rfl ?_
  refine jr_iast (pc := 90) F dX5_lay_90 w (fun h12 w => ?_)
  refine jr_aload_n (pc := 91) F (j := 1) dX5_lay_91 rfl ?_
  refine jr_gr (pc := 92) (ci := 3) (f := 5) F rfl in_X5 (Nat.le_of_ble_eq_true rfl) q1875 dX5_lay_92 w (fun g13 w => ?_)
  refine jr_iload_n (pc := 95) F (j := 3) dX5_lay_95 rfl ?_
  refine jr_iload (pc := 96) F (j := 5) dX5_lay_96 rfl ?_
  obtain ⟨hx9, w1, w2⟩ := w
  refine jr_if_eq (pc := 98) (tgt := 105) F hx9 dX5_lay_98 rfl (fun c9 => ?_) (fun c9 => ?_)
  · have w := w1 c9
    refine jr_iload_n (pc := 105) F (j := 2) dX5_lay_105 rfl ?_
    refine jr_iconst (pc := 106) F dX5_lay_106 ?_
    refine jr_iadd (pc := 107) F dX5_lay_107 ?_
    refine jj_J.sub [1, 0, 3, 4, 5] rfl ?_
    exact sC_X5_lay_j108 F M O J hi hQ hE _ _ _ _ _ _ _ _ hK6 _ _ w
  · have w := w2 c9
    refine jr_iconst (pc := 101) F dX5_lay_101 ?_
    refine jr_goto (pc := 102) (tgt := 108) F dX5_lay_102 rfl ?_
    refine jj_J.sub [1, 0, 3, 4, 5] rfl ?_
    exact sC_X5_lay_j108 F M O J hi hQ hE _ _ _ _ _ _ _ _ hK6 _ _ w

theorem sC_X5_lay_j69 {X : jj_X} {N : Option jj_AV → jj_H → Prop} {XN : String → Nat → jj_H → Prop} (F : jj_F X RX5 cX5_lay 6) (M : jj_M X (none) 14 640 N XN) (O : jj_no X) (J : jj_GJ X.1 X.2.2.1) (hi : X.2.2.2.2.2.2.2.2.2.1.name = yX5_lay.name) {Q : jj_H → Prop} {E : String → Nat → jj_H → Prop} (hQ : ∀ h, Q h → N none h) (hE : ∀ e q h, E e q h → XN e q h) (x0 : Option Nat) (x1 : Int) (x2 : Int) (x3 : Int) (x4 : Int) (y0 : Int) {K6 : Int → Int → Int → jj_H → Nat → Prop} (hK6 : ∀ (z1 : Int) (z2 : Int) (z3 : Int) (h : jj_H) (k : Nat), K6 z1 z2 z3 h k → jj_J X 6 6 [(0, .inr (.inr (.inl x0))), (1, .inl z1), (2, .inl z2), (3, .inl z3)] [] h k) : ∀ (h : jj_H) (k : Nat), fC_X5_lay_j69 (jj_gk X.1) K6 x0 x1 x2 x3 x4 y0 Q E h k → jj_J X 6 69 [(0, .inr (.inr (.inl x0))), (1, .inl x1), (2, .inl x2), (3, .inl x3), (4, .inl x4)] [.inl y0] h k := by
  intro h k w
  unfold fC_X5_lay_j69 at w
  refine jr_istore (pc := 69) F (vs' := [(5, .inl _), (0, .inr (.inr (.inl _))), (1, .inl _), (2, .inl _), (3, .inl _), (4, .inl _)]) dX5_lay_69 (Nat.le_of_ble_eq_true rfl) rfl ?_
  refine jr_iload_n (pc := 71) F (j := 2) dX5_lay_71 rfl ?_
  refine jr_iload (pc := 72) F (j := 0) dX5_lay_72 rfl ?_
  obtain ⟨hx9, w1, w2⟩ := w
  refine jr_if_eq (pc := 74) (tgt := 81) F hx9 dX5_lay_74 rfl (fun c9 => ?_) (fun c9 => ?_)
  · have w := w1 c9
    refine jr_iconst (pc := 81) F dX5_lay_81 ?_
    refine jj_J.sub [1, 3, 4, 5, 0] rfl ?_
    exact sC_X5_lay_j82 F M O J hi hQ hE _ _ _ _ _ _ _ hK6 _ _ w
  · have w := w2 c9
    refine jr_iconst (pc := 77) F dX5_lay_77 ?_
    refine jr_goto (pc := 78) (tgt := 82) F dX5_lay_78 rfl ?_
    refine jj_J.sub [1, 3, 4, 5, 0] rfl ?_
    exact sC_X5_lay_j82 F M O J hi hQ hE _ _ _ _ _ _ _ hK6 _ _ w

theorem sC_X5_lay_j64 {X : jj_X} {N : Option jj_AV → jj_H → Prop} {XN : String → Nat → jj_H → Prop} (F : jj_F X RX5 cX5_lay 6) (M : jj_M X (none) 14 640 N XN) (O : jj_no X) (J : jj_GJ X.1 X.2.2.1) (hi : X.2.2.2.2.2.2.2.2.2.1.name = yX5_lay.name) {Q : jj_H → Prop} {E : String → Nat → jj_H → Prop} (hQ : ∀ h, Q h → N none h) (hE : ∀ e q h, E e q h → XN e q h) (x0 : Option Nat) (x1 : Int) (x2 : Int) (x3 : Int) (x4 : Int) {K6 : Int → Int → Int → jj_H → Nat → Prop} (hK6 : ∀ (z1 : Int) (z2 : Int) (z3 : Int) (h : jj_H) (k : Nat), K6 z1 z2 z3 h k → jj_J X 6 6 [(0, .inr (.inr (.inl x0))), (1, .inl z1), (2, .inl z2), (3, .inl z3)] [] h k) : ∀ (h : jj_H) (k : Nat), fC_X5_lay_j64 (jj_gk X.1) K6 x0 x1 x2 x3 x4 Q E h k → jj_J X 6 64 [(0, .inr (.inr (.inl x0))), (1, .inl x1), (2, .inl x2), (3, .inl x3), (4, .inl x4)] [] h k := by
  intro h k w
  unfold fC_X5_lay_j64 at w
  refine jr_iconst (pc := 64) F dX5_lay_64 ?_
  refine jr_goto (pc := 65) (tgt := 69) F dX5_lay_65 rfl ?_
  exact sC_X5_lay_j69 F M O J hi hQ hE _ _ _ _ _ _ hK6 _ _ w

theorem sC_X5_lay_l6 {X : jj_X} {N : Option jj_AV → jj_H → Prop} {XN : String → Nat → jj_H → Prop} (F : jj_F X RX5 cX5_lay 6) (M : jj_M X (none) 14 640 N XN) (O : jj_no X) (J : jj_GJ X.1 X.2.2.1) (hi : X.2.2.2.2.2.2.2.2.2.1.name = yX5_lay.name) {Q : jj_H → Prop} {E : String → Nat → jj_H → Prop} (hQ : ∀ h, Q h → N none h) (hE : ∀ e q h, E e q h → XN e q h) (x0 : Option Nat) : ∀ (n : Nat) (x1 : Int) (x2 : Int) (x3 : Int) (h : jj_H) (k : Nat), fC_X5_lay_l6 (jj_gk X.1) x0 Q E n x1 x2 x3 h k → jj_J X 6 6 [(0, .inr (.inr (.inl x0))), (1, .inl x1), (2, .inl x2), (3, .inl x3)] [] h k := by
  intro n
  induction n with
  | zero =>
    intro x1 x2 x3 h k w
    exact (show False from w).elim
  | succ n ih =>
    intro x1 x2 x3 h k w
    rw [fC_X5_lay_l6] at w
    refine jr_iload_n (pc := 6) F (j := 3) dX5_lay_6 rfl ?_
    refine jr_aload_n (pc := 7) F (j := 0) dX5_lay_7 rfl ?_
    obtain ⟨hi9, w⟩ := w
    refine jr_cV (pc := 8) (As := []) (ci := 3) F M (lw_V q1993 q706 q707 q149 q708) dX5_lay_8 hC_X5_size rfl (Nat.le_of_ble_eq_true rfl) (Nat.le_of_ble_eq_true rfl) (Nat.le_of_ble_eq_true rfl) rfl hi9 (Nat.zero_le _) (cC_X5_size J w) (fun v9 h16 q9 => ?_) (fun E9 q9 h9 w9 => jr_out F M O (hE _ _ _ w9))
    obtain ⟨r15, rfl, w⟩ := q9
    obtain ⟨hx9, hy9, w1, w2⟩ := w
    refine jr_icmp_ge (pc := 11) (tgt := 150) F hx9 hy9 dX5_lay_11 rfl (fun c9 => ?_) (fun c9 => ?_)
    · have w := w1 c9
      exact jr_vret (pc := 150) F M dX5_lay_150 (hQ _ w)
    · have w := w2 c9
      refine jr_aload_n (pc := 14) F (j := 0) dX5_lay_14 rfl ?_
      refine jr_gr (pc := 15) (ci := 3) (f := 0) F rfl in_X5 (Nat.le_of_ble_eq_true rfl) q1861 dX5_lay_15 w (fun g17 w => ?_)
      refine jr_iload_n (pc := 18) F (j := 3) dX5_lay_18 rfl ?_
      refine jr_jV (pc := 19) (As := [_]) (ci := 14) F M (lw_V q1994 q681 q682 q124 q683) dX5_lay_19 hj_J2_get rfl (Nat.le_of_ble_eq_true rfl) (Nat.le_of_ble_eq_true rfl) (Nat.le_of_ble_eq_true rfl) rfl (jK_J2_get J _ _ _ _ _ w) (fun v9 h18 k19 q9 => ?_)
      obtain ⟨r20, rfl, w⟩ := q9
      obtain ⟨hi9, w⟩ := w
      refine jr_cast (pc := 22) (ci := 25) F rfl q1995 dX5_lay_22 hi9 ?_
      refine jr_jV (pc := 25) (As := []) (ci := 25) F M (lw_V q1996 q374 q375 q131 q376) dX5_lay_25 hj_J9_length rfl (Nat.le_of_ble_eq_true rfl) (Nat.le_of_ble_eq_true rfl) (Nat.le_of_ble_eq_true rfl) rfl (jK_J9_length J _ _ _ _ w) (fun v9 h21 k22 q9 => ?_)
      obtain ⟨r23, rfl, w⟩ := q9
      refine jr_istore (pc := 28) F (vs' := [(4, .inl _), (0, .inr (.inr (.inl _))), (1, .inl _), (2, .inl _), (3, .inl _)]) dX5_lay_28 (Nat.le_of_ble_eq_true rfl) rfl ?_
      refine jr_iload_n (pc := 30) F (j := 4) dX5_lay_30 rfl ?_
      obtain ⟨hx9, w1, w2⟩ := w
      refine jr_if_eq (pc := 31) (tgt := 64) F hx9 dX5_lay_31 rfl (fun c9 => ?_) (fun c9 => ?_)
      · have w := w1 c9
        refine jj_J.sub [1, 2, 3, 4, 0] rfl ?_
        exact sC_X5_lay_j64 F M O J hi hQ hE _ _ _ _ _ ih _ _ w
      · have w := w2 c9
        refine jr_aload_n (pc := 34) F (j := 1) dX5_lay_34 rfl ?_
        refine jr_gr (pc := 35) (ci := 3) (f := 1) F rfl in_X5 (Nat.le_of_ble_eq_true rfl) q1864 dX5_lay_35 w (fun g24 w => ?_)
        refine jr_iload_n (pc := 38) F (j := 4) dX5_lay_38 rfl ?_
        refine jr_jV (pc := 39) (As := [_]) (ci := 14) F M (lw_V q1994 q681 q682 q124 q683) dX5_lay_39 hj_J2_get rfl (Nat.le_of_ble_eq_true rfl) (Nat.le_of_ble_eq_true rfl) (Nat.le_of_ble_eq_true rfl) rfl (jK_J2_get J _ _ _ _ _ w) (fun v9 h25 k26 q9 => ?_)
        obtain ⟨r27, rfl, w⟩ := q9
        obtain ⟨hi9, w⟩ := w
        refine jr_cast (pc := 42) (ci := 31) F rfl q1997 dX5_lay_42 hi9 ?_
        refine jr_jV (pc := 45) (As := []) (ci := 31) F M (lw_V q1998 q1307 q1308 q161 q1309) dX5_lay_45 hj_J34_booleanValue rfl (Nat.le_of_ble_eq_true rfl) (Nat.le_of_ble_eq_true rfl) (Nat.le_of_ble_eq_true rfl) rfl (jK_J34_booleanValue J _ _ _ _ w) (fun v9 h28 k29 q9 => ?_)
        obtain ⟨r30, rfl, w⟩ := q9
        obtain ⟨hx9, w1, w2⟩ := w
        refine jr_if_ne (pc := 48) (tgt := 64) F hx9 dX5_lay_48 rfl (fun c9 => ?_) (fun c9 => ?_)
        · have w := w1 c9
          refine jj_J.sub [1, 2, 3, 4, 0] rfl ?_
          exact sC_X5_lay_j64 F M O J hi hQ hE _ _ _ _ _ ih _ _ w
        · have w := w2 c9
          refine jr_iload_n (pc := 51) F (j := 3) dX5_lay_51 rfl ?_
          refine jr_iconst (pc := 52) F dX5_lay_52 ?_
          refine jr_iadd (pc := 53) F dX5_lay_53 ?_
          refine jr_iload (pc := 54) F (j := 0) dX5_lay_54 rfl ?_
          refine jr_iadd (pc := 56) F dX5_lay_56 ?_
          refine jr_aload_n (pc := 57) F (j := 1) dX5_lay_57 rfl ?_
          refine jr_gi (pc := 58) (ci := 3) (f := 2) F rfl in_X5 (Nat.le_of_ble_eq_true rfl) q1866 dX5_lay_58 w (fun g31 w => ?_)
          obtain ⟨hx9, hy9, w1, w2⟩ := w
          refine jr_icmp_le (pc := 61) (tgt := 68) F hx9 hy9 dX5_lay_61 rfl (fun c9 => ?_) (fun c9 => ?_)
          · have w := w1 c9
            refine jr_iconst (pc := 68) F dX5_lay_68 ?_
            refine jj_J.sub [1, 2, 3, 4, 0] rfl ?_
            exact sC_X5_lay_j69 F M O J hi hQ hE _ _ _ _ _ _ ih _ _ w
          · have w := w2 c9
            refine jj_J.sub [1, 2, 3, 4, 0] rfl ?_
            exact sC_X5_lay_j64 F M O J hi hQ hE _ _ _ _ _ ih _ _ w

theorem sC_X5_lay {X : jj_X} {N : Option jj_AV → jj_H → Prop} {XN : String → Nat → jj_H → Prop} (F : jj_F X RX5 cX5_lay 6) (M : jj_M X (none) 14 640 N XN) (O : jj_no X) (J : jj_GJ X.1 X.2.2.1) (hi : X.2.2.2.2.2.2.2.2.2.1.name = yX5_lay.name) {Q : jj_H → Prop} {E : String → Nat → jj_H → Prop} (hQ : ∀ h, Q h → N none h) (hE : ∀ e q h, E e q h → XN e q h) (x0 : Option Nat) : ∀ (h : jj_H) (k : Nat), fC_X5_lay (jj_gk X.1) x0 Q E h k → jj_J X 6 0 [(0, .inr (.inr (.inl x0)))] [] h k := by
  intro h k w
  unfold fC_X5_lay at w
  refine jr_iconst (pc := 0) F dX5_lay_0 ?_
  refine jr_istore_n (pc := 1) F (vs' := [(1, .inl _), (0, .inr (.inr (.inl _)))]) dX5_lay_1 (Nat.le_of_ble_eq_true rfl) rfl ?_
  refine jr_iconst (pc := 2) F dX5_lay_2 ?_
  refine jr_istore_n (pc := 3) F (vs' := [(2, .inl _), (1, .inl _), (0, .inr (.inr (.inl _)))]) dX5_lay_3 (Nat.le_of_ble_eq_true rfl) rfl ?_
  refine jr_iconst (pc := 4) F dX5_lay_4 ?_
  refine jr_istore_n (pc := 5) F (vs' := [(3, .inl _), (2, .inl _), (1, .inl _), (0, .inr (.inr (.inl _)))]) dX5_lay_5 (Nat.le_of_ble_eq_true rfl) rfl ?_
  refine jj_J.sub [3, 2, 1, 0] rfl ?_
  obtain ⟨n9, w⟩ := w
  exact sC_X5_lay_l6 F M O J hi hQ hE _ n9 _ _ _ _ _ w

theorem cC_X5_lay {G : jj_G} {l : Launch} (J : jj_GJ G l) {x0 : Option Nat} {Q : jj_H → Prop} {E : String → Nat → jj_H → Prop} {h : jj_H} {k : Nat} (w : fC_X5_lay (jj_gk G) x0 Q E h k) : jj_Ct G l yX5_lay (ws_ yX5_lay cX5_lay 6 (none)) 14 640 [.inr (.inr (.inl x0))] h k (jc_v Q) E := by
  refine jj_Ct.of (jK_gs J).1 (by decide +kernel) (Nat.le_of_ble_eq_true rfl) rfl (fun X hG hl F M O hnm => ?_)
  subst hG; subst hl
  exact sC_X5_lay F M O J hnm (fun h q => ⟨rfl, q⟩) (fun _ _ _ q => q) _ _ _ w
theorem hC_X5_lay : yX5_lay.cls = RX5 ∧ yX5_lay.cls ≠ "java/lang/invoke/MethodHandle" ∧ yX5_lay.cls ≠ "java/lang/invoke/VarHandle" ∧ (parseMethodDescriptor yX5_lay.desc).map (fun d => d.parameters.length) = some 0 := by decide +kernel
/-! X5_copy()LNoteImporter$Edition; -/
def fC_X5_copy (gk : Nat → Nat) (x0 : Option Nat) (Q : Option Nat → jj_H → Prop) (E : String → Nat → jj_H → Prop) (h : jj_H) (k : Nat) : Prop :=
  jp_nw h k 3 2 df_X5 (fun a1 h2 k3 =>
  jp_gi h2 x0 3 2 (fun g4 =>
  jp_gi h2 x0 3 3 (fun g5 =>
  jp_so (some a1) ∧ ∃ c6, c6 ≤ k3 ∧ fC_X5_init gk (some a1) g4 g5 (fun h8 =>
  jp_gr h8 (some a1) 3 0 (fun g9 =>
  jp_gr h8 x0 3 0 (fun g10 =>
  jq_J2_addAll g9 g10 (fun r13 h11 k12 =>
  jp_gr h11 (some a1) 3 1 (fun g14 =>
  jp_gr h11 x0 3 1 (fun g15 =>
  jq_J2_addAll g14 g15 (fun r18 h16 k17 =>
  jp_is h16 (some a1) 3 ∧ fC_X5_lay gk (some a1) (fun h21 =>
  Q (some a1) h21) E h16 0) h11 k12))) h8 (k3 - c6)))) E h2 c6)))
theorem sC_X5_copy {X : jj_X} {N : Option jj_AV → jj_H → Prop} {XN : String → Nat → jj_H → Prop} (F : jj_F X RX5 cX5_copy 2) (M : jj_M X (some ((.object "NoteImporter$Edition"))) 15 665 N XN) (O : jj_no X) (J : jj_GJ X.1 X.2.2.1) (hi : X.2.2.2.2.2.2.2.2.2.1.name = yX5_copy.name) {Q : Option Nat → jj_H → Prop} {E : String → Nat → jj_H → Prop} (hQ : ∀ r h, Q r h → N (some (.inr (.inr (.inl r)))) h) (hE : ∀ e q h, E e q h → XN e q h) (x0 : Option Nat) : ∀ (h : jj_H) (k : Nat), fC_X5_copy (jj_gk X.1) x0 Q E h k → jj_J X 2 0 [(0, .inr (.inr (.inl x0)))] [] h k := by
  intro h k w
  unfold fC_X5_copy at w
  refine jr_new (pc := 0) (ci := 3) F rfl in_X5 tyX5_ok q1853 q1854 q149 dfo_X5 rfl ⟨by decide, by decide⟩ dX5_copy_0 w (fun a1 h2 k3 w => ?_)
  refine jr_dup (pc := 3) F dX5_copy_3 rfl ?_
  refine jr_aload_n (pc := 4) F (j := 0) dX5_copy_4 rfl ?_
  refine jr_gi (pc := 5) (ci := 3) (f := 2) F rfl in_X5 (Nat.le_of_ble_eq_true rfl) q1866 dX5_copy_5 w (fun g4 w => ?_)
  refine jr_aload_n (pc := 8) F (j := 0) dX5_copy_8 rfl ?_
  refine jr_gi (pc := 9) (ci := 3) (f := 3) F rfl in_X5 (Nat.le_of_ble_eq_true rfl) q1868 dX5_copy_9 w (fun g5 w => ?_)
  obtain ⟨hi9, c6, hk9, w⟩ := w
  refine jr_cI (pc := 12) (As := [_, _]) F M q1855 q1856 q149 q1857 dX5_copy_12 rfl hC_X5_init.2 rfl (Nat.le_of_ble_eq_true rfl) (Nat.le_of_ble_eq_true rfl) (Nat.le_of_ble_eq_true rfl) hi9 hk9 (cC_X5_init J w) (fun v9 h8 q9 => ?_) (fun E9 q9 h9 w9 => jr_out F M O (hE _ _ _ w9))
  obtain ⟨rfl, w⟩ := q9
  refine jr_astore_n (pc := 15) F (vs' := [(1, .inr (.inr (.inl _))), (0, .inr (.inr (.inl _)))]) dX5_copy_15 (Nat.le_of_ble_eq_true rfl) rfl ?_
  refine jr_aload_n (pc := 16) F (j := 0) dX5_copy_16 rfl ?_
  refine jr_gr (pc := 17) (ci := 3) (f := 0) F rfl in_X5 (Nat.le_of_ble_eq_true rfl) q1861 dX5_copy_17 w (fun g9 w => ?_)
  refine jr_aload_n (pc := 20) F (j := 1) dX5_copy_20 rfl ?_
  refine jr_gr (pc := 21) (ci := 3) (f := 0) F rfl in_X5 (Nat.le_of_ble_eq_true rfl) q1861 dX5_copy_21 w (fun g10 w => ?_)
  refine jr_jV (pc := 24) (As := [_]) (ci := 14) F M (lw_V q1894 q1895 q1896 q124 q1897) dX5_copy_24 hj_J2_addAll rfl (Nat.le_of_ble_eq_true rfl) (Nat.le_of_ble_eq_true rfl) (Nat.le_of_ble_eq_true rfl) rfl (jK_J2_addAll J _ _ _ _ _ w) (fun v9 h11 k12 q9 => ?_)
  obtain ⟨r13, rfl, w⟩ := q9
  refine jr_pop (pc := 27) F dX5_copy_27 rfl ?_
  refine jr_aload_n (pc := 28) F (j := 0) dX5_copy_28 rfl ?_
  refine jr_gr (pc := 29) (ci := 3) (f := 1) F rfl in_X5 (Nat.le_of_ble_eq_true rfl) q1864 dX5_copy_29 w (fun g14 w => ?_)
  refine jr_aload_n (pc := 32) F (j := 1) dX5_copy_32 rfl ?_
  refine jr_gr (pc := 33) (ci := 3) (f := 1) F rfl in_X5 (Nat.le_of_ble_eq_true rfl) q1864 dX5_copy_33 w (fun g15 w => ?_)
  refine jr_jV (pc := 36) (As := [_]) (ci := 14) F M (lw_V q1894 q1895 q1896 q124 q1897) dX5_copy_36 hj_J2_addAll rfl (Nat.le_of_ble_eq_true rfl) (Nat.le_of_ble_eq_true rfl) (Nat.le_of_ble_eq_true rfl) rfl (jK_J2_addAll J _ _ _ _ _ w) (fun v9 h16 k17 q9 => ?_)
  obtain ⟨r18, rfl, w⟩ := q9
  refine jr_pop (pc := 39) F dX5_copy_39 rfl ?_
  refine jr_aload_n (pc := 40) F (j := 0) dX5_copy_40 rfl ?_
  obtain ⟨hi9, w⟩ := w
  refine jr_cV (pc := 41) (As := []) (ci := 3) F M (lw_V q1989 q1990 q1991 q149 q1992) dX5_copy_41 hC_X5_lay rfl (Nat.le_of_ble_eq_true rfl) (Nat.le_of_ble_eq_true rfl) (Nat.le_of_ble_eq_true rfl) rfl hi9 (Nat.zero_le _) (cC_X5_lay J w) (fun v9 h21 q9 => ?_) (fun E9 q9 h9 w9 => jr_out F M O (hE _ _ _ w9))
  obtain ⟨rfl, w⟩ := q9
  refine jr_aload_n (pc := 44) F (j := 0) dX5_copy_44 rfl ?_
  exact jr_aret (pc := 45) F M (Or.inl ⟨_, rfl⟩) dX5_copy_45 (hQ _ _ w)

theorem cC_X5_copy {G : jj_G} {l : Launch} (J : jj_GJ G l) {x0 : Option Nat} {Q : Option Nat → jj_H → Prop} {E : String → Nat → jj_H → Prop} {h : jj_H} {k : Nat} (w : fC_X5_copy (jj_gk G) x0 Q E h k) : jj_Ct G l yX5_copy (ws_ yX5_copy cX5_copy 2 (some ((.object "NoteImporter$Edition")))) 15 665 [.inr (.inr (.inl x0))] h k (jc_r Q) E := by
  refine jj_Ct.of (jK_gs J).1 (by decide +kernel) (Nat.le_of_ble_eq_true rfl) rfl (fun X hG hl F M O hnm => ?_)
  subst hG; subst hl
  exact sC_X5_copy F M O J hnm (fun r h q => ⟨r, rfl, q⟩) (fun _ _ _ q => q) _ _ _ w
theorem hC_X5_copy : yX5_copy.cls = RX5 ∧ yX5_copy.cls ≠ "java/lang/invoke/MethodHandle" ∧ yX5_copy.cls ≠ "java/lang/invoke/VarHandle" ∧ (parseMethodDescriptor yX5_copy.desc).map (fun d => d.parameters.length) = some 0 := by decide +kernel
/-! X6_init(IIIIILjava/util/ArrayList;)V -/
def fC_X6_init (gk : Nat → Nat) (x0 : Option Nat) (x1 : Int) (x2 : Int) (x3 : Int) (x4 : Int) (x5 : Int) (x6 : Option Nat) (Q : jj_H → Prop) (E : String → Nat → jj_H → Prop) (h : jj_H) (k : Nat) : Prop :=
  jp_so x0 ∧
  jp_nw h k 20 1 df_J33 (fun a1 h2 k3 =>
  jq_J33_init (some a1) (fun h4 k5 =>
  jp_pr h4 x0 4 4 (some a1) (fun h6 =>
  jp_pi h6 x0 4 0 x1 (fun h7 =>
  jp_pi h7 x0 4 1 x2 (fun h8 =>
  jp_pi h8 x0 4 2 x3 (fun h9 =>
  jp_pi h9 x0 4 5 x4 (fun h10 =>
  jp_pi h10 x0 4 6 x5 (fun h11 =>
  jp_pr h11 x0 4 3 x6 (fun h12 =>
  jp_gr h12 x0 4 4 (fun g13 =>
  jq_J0_addAll g13 x6 (fun r16 h14 k15 =>
  Q h14) h12 k5))))))))) h2 k3)
theorem sC_X6_init {X : jj_X} {N : Option jj_AV → jj_H → Prop} {XN : String → Nat → jj_H → Prop} (F : jj_F X RX6 cX6_init 7) (M : jj_M X (none) 13 624 N XN) (O : jj_no X) (J : jj_GJ X.1 X.2.2.1) (hi : X.2.2.2.2.2.2.2.2.2.1.name = yX6_init.name) {Q : jj_H → Prop} {E : String → Nat → jj_H → Prop} (hQ : ∀ h, Q h → N none h) (hE : ∀ e q h, E e q h → XN e q h) (x0 : Option Nat) (x1 : Int) (x2 : Int) (x3 : Int) (x4 : Int) (x5 : Int) (x6 : Option Nat) : ∀ (h : jj_H) (k : Nat), fC_X6_init (jj_gk X.1) x0 x1 x2 x3 x4 x5 x6 Q E h k → jj_J X 7 0 [(0, .inr (.inr (.inl x0))), (1, .inl x1), (2, .inl x2), (3, .inl x3), (4, .inl x4), (5, .inl x5), (6, .inr (.inr (.inl x6)))] [] h k := by
  intro h k w
  unfold fC_X6_init at w
  refine jr_aload_n (pc := 0) F (j := 0) dX6_init_0 rfl ?_
  obtain ⟨ha9, w⟩ := w
  refine jr_objInitO (pc := 1) F M q2010 q192 q193 ha9 (Nat.le_of_ble_eq_true rfl) (Nat.le_of_ble_eq_true rfl) (Nat.le_of_ble_eq_true rfl) dX6_init_1 ?_
  refine jr_aload_n (pc := 4) F (j := 0) dX6_init_4 rfl ?_
  refine jr_new (pc := 5) (ci := 20) F rfl in_J33 tyJ33_ok q2011 q2012 q160 dfo_J33 rfl ⟨by decide, by decide⟩ dX6_init_5 w (fun a1 h2 k3 w => ?_)
  refine jr_dup (pc := 8) F dX6_init_8 rfl ?_
  refine jr_jI (pc := 9) (As := []) F M q2013 q2014 q160 q2015 dX6_init_9 rfl hj_J33_init.2 rfl (Nat.le_of_ble_eq_true rfl) (Nat.le_of_ble_eq_true rfl) (Nat.le_of_ble_eq_true rfl) (jK_J33_init J _ _ _ _ w) (fun v9 h4 k5 q9 => ?_)
  obtain ⟨rfl, w⟩ := q9
  refine jr_prF (pc := 12) (ci := 4) (f := 4) F rfl in_X6 tyX6_ok nmX6 (Nat.le_of_ble_eq_true rfl) rfl rfl rfl hi q2307 dX6_init_12 w (fun h6 w => ?_)
  refine jr_aload_n (pc := 15) F (j := 0) dX6_init_15 rfl ?_
  refine jr_iload_n (pc := 16) F (j := 1) dX6_init_16 rfl ?_
  refine jr_piF (pc := 17) (ci := 4) (f := 0) F rfl in_X6 tyX6_ok nmX6 (Nat.le_of_ble_eq_true rfl) rfl rfl rfl hi q2293 dX6_init_17 w (fun h7 w => ?_)
  refine jr_aload_n (pc := 20) F (j := 0) dX6_init_20 rfl ?_
  refine jr_iload_n (pc := 21) F (j := 2) dX6_init_21 rfl ?_
  refine jr_piF (pc := 22) (ci := 4) (f := 1) F rfl in_X6 tyX6_ok nmX6 (Nat.le_of_ble_eq_true rfl) rfl rfl rfl hi q2297 dX6_init_22 w (fun h8 w => ?_)
  refine jr_aload_n (pc := 25) F (j := 0) dX6_init_25 rfl ?_
  refine jr_iload_n (pc := 26) F (j := 3) dX6_init_26 rfl ?_
  refine jr_piF (pc := 27) (ci := 4) (f := 2) F rfl in_X6 tyX6_ok nmX6 (Nat.le_of_ble_eq_true rfl) rfl rfl rfl hi q2300 dX6_init_27 w (fun h9 w => ?_)
  refine jr_aload_n (pc := 30) F (j := 0) dX6_init_30 rfl ?_
  refine jr_iload (pc := 31) F (j := 4) dX6_init_31 rfl ?_
  refine jr_pi (pc := 33) (ci := 4) (f := 5) F rfl in_X6 tyX6_ok nmX6 (Nat.le_of_ble_eq_true rfl) rfl rfl q2310 dX6_init_33 w (fun h10 w => ?_)
  refine jr_aload_n (pc := 36) F (j := 0) dX6_init_36 rfl ?_
  refine jr_iload (pc := 37) F (j := 5) dX6_init_37 rfl ?_
  refine jr_pi (pc := 39) (ci := 4) (f := 6) F rfl in_X6 tyX6_ok nmX6 (Nat.le_of_ble_eq_true rfl) rfl rfl q2313 dX6_init_39 w (fun h11 w => ?_)
  refine jr_aload_n (pc := 42) F (j := 0) dX6_init_42 rfl ?_
  refine jr_aload (pc := 43) F (j := 6) dX6_init_43 rfl ?_
  refine jr_prF (pc := 45) (ci := 4) (f := 3) F rfl in_X6 tyX6_ok nmX6 (Nat.le_of_ble_eq_true rfl) rfl rfl rfl hi q2303 dX6_init_45 w (fun h12 w => ?_)
  refine jr_aload_n (pc := 48) F (j := 0) dX6_init_48 rfl ?_
  refine jr_gr (pc := 49) (ci := 4) (f := 4) F rfl in_X6 (Nat.le_of_ble_eq_true rfl) q2307 dX6_init_49 w (fun g13 w => ?_)
  refine jr_aload (pc := 52) F (j := 6) dX6_init_52 rfl ?_
  refine jr_jU (pc := 54) (As := [_]) (ci := 20) F M (uw_J0_addAll q2023) q2028 dX6_init_54 hj_J0_addAll.2 rfl (Nat.le_of_ble_eq_true rfl) (Nat.le_of_ble_eq_true rfl) (Nat.le_of_ble_eq_true rfl) rfl (jK_J0_addAll J _ _ _ _ _ w) (fun v9 h14 k15 q9 => ?_)
  obtain ⟨r16, rfl, w⟩ := q9
  refine jr_pop (pc := 57) F dX6_init_57 rfl ?_
  exact jr_vret (pc := 58) F M dX6_init_58 (hQ _ w)

theorem cC_X6_init {G : jj_G} {l : Launch} (J : jj_GJ G l) {x0 : Option Nat} {x1 : Int} {x2 : Int} {x3 : Int} {x4 : Int} {x5 : Int} {x6 : Option Nat} {Q : jj_H → Prop} {E : String → Nat → jj_H → Prop} {h : jj_H} {k : Nat} (w : fC_X6_init (jj_gk G) x0 x1 x2 x3 x4 x5 x6 Q E h k) : jj_Ct G l yX6_init (ws_ yX6_init cX6_init 7 (none)) 13 624 [.inr (.inr (.inl x0)), .inl x1, .inl x2, .inl x3, .inl x4, .inl x5, .inr (.inr (.inl x6))] h k (jc_v Q) E := by
  refine jj_Ct.of (jK_gs J).1 (by decide +kernel) (Nat.le_of_ble_eq_true rfl) rfl (fun X hG hl F M O hnm => ?_)
  subst hG; subst hl
  exact sC_X6_init F M O J hnm (fun h q => ⟨rfl, q⟩) (fun _ _ _ q => q) _ _ _ _ _ _ _ _ _ w
theorem hC_X6_init : yX6_init.cls = RX6 ∧ yX6_init.cls ≠ "java/lang/invoke/MethodHandle" ∧ yX6_init.cls ≠ "java/lang/invoke/VarHandle" ∧ (parseMethodDescriptor yX6_init.desc).map (fun d => d.parameters.length) = some 6 := by decide +kernel
/-! X6_copy()LNoteImporter$Note; -/
def fC_X6_copy (gk : Nat → Nat) (x0 : Option Nat) (Q : Option Nat → jj_H → Prop) (E : String → Nat → jj_H → Prop) (h : jj_H) (k : Nat) : Prop :=
  jp_nw h k 4 2 df_X6 (fun a1 h2 k3 =>
  jp_gi h2 x0 4 0 (fun g4 =>
  jp_gi h2 x0 4 1 (fun g5 =>
  jp_gi h2 x0 4 2 (fun g6 =>
  jp_gi h2 x0 4 5 (fun g7 =>
  jp_gi h2 x0 4 6 (fun g8 =>
  jp_gr h2 x0 4 3 (fun g9 =>
  jp_so (some a1) ∧ ∃ c10, c10 ≤ k3 ∧ fC_X6_init gk (some a1) g4 g5 g6 g7 g8 g9 (fun h12 =>
  Q (some a1) h12) E h2 c10)))))))
theorem sC_X6_copy {X : jj_X} {N : Option jj_AV → jj_H → Prop} {XN : String → Nat → jj_H → Prop} (F : jj_F X RX6 cX6_copy 1) (M : jj_M X (some ((.object "NoteImporter$Note"))) 14 650 N XN) (O : jj_no X) (J : jj_GJ X.1 X.2.2.1) (hi : X.2.2.2.2.2.2.2.2.2.1.name = yX6_copy.name) {Q : Option Nat → jj_H → Prop} {E : String → Nat → jj_H → Prop} (hQ : ∀ r h, Q r h → N (some (.inr (.inr (.inl r)))) h) (hE : ∀ e q h, E e q h → XN e q h) (x0 : Option Nat) : ∀ (h : jj_H) (k : Nat), fC_X6_copy (jj_gk X.1) x0 Q E h k → jj_J X 1 0 [(0, .inr (.inr (.inl x0)))] [] h k := by
  intro h k w
  unfold fC_X6_copy at w
  refine jr_new (pc := 0) (ci := 4) F rfl in_X6 tyX6_ok q2005 q2006 q159 dfo_X6 rfl ⟨by decide, by decide⟩ dX6_copy_0 w (fun a1 h2 k3 w => ?_)
  refine jr_dup (pc := 3) F dX6_copy_3 rfl ?_
  refine jr_aload_n (pc := 4) F (j := 0) dX6_copy_4 rfl ?_
  refine jr_gi (pc := 5) (ci := 4) (f := 0) F rfl in_X6 (Nat.le_of_ble_eq_true rfl) q2293 dX6_copy_5 w (fun g4 w => ?_)
  refine jr_aload_n (pc := 8) F (j := 0) dX6_copy_8 rfl ?_
  refine jr_gi (pc := 9) (ci := 4) (f := 1) F rfl in_X6 (Nat.le_of_ble_eq_true rfl) q2297 dX6_copy_9 w (fun g5 w => ?_)
  refine jr_aload_n (pc := 12) F (j := 0) dX6_copy_12 rfl ?_
  refine jr_gi (pc := 13) (ci := 4) (f := 2) F rfl in_X6 (Nat.le_of_ble_eq_true rfl) q2300 dX6_copy_13 w (fun g6 w => ?_)
  refine jr_aload_n (pc := 16) F (j := 0) dX6_copy_16 rfl ?_
  refine jr_gi (pc := 17) (ci := 4) (f := 5) F rfl in_X6 (Nat.le_of_ble_eq_true rfl) q2310 dX6_copy_17 w (fun g7 w => ?_)
  refine jr_aload_n (pc := 20) F (j := 0) dX6_copy_20 rfl ?_
  refine jr_gi (pc := 21) (ci := 4) (f := 6) F rfl in_X6 (Nat.le_of_ble_eq_true rfl) q2313 dX6_copy_21 w (fun g8 w => ?_)
  refine jr_aload_n (pc := 24) F (j := 0) dX6_copy_24 rfl ?_
  refine jr_gr (pc := 25) (ci := 4) (f := 3) F rfl in_X6 (Nat.le_of_ble_eq_true rfl) q2303 dX6_copy_25 w (fun g9 w => ?_)
  obtain ⟨hi9, c10, hk9, w⟩ := w
  refine jr_cI (pc := 28) (As := [_, _, _, _, _, _]) F M q2007 q2008 q159 q2009 dX6_copy_28 rfl hC_X6_init.2 rfl (Nat.le_of_ble_eq_true rfl) (Nat.le_of_ble_eq_true rfl) (Nat.le_of_ble_eq_true rfl) hi9 hk9 (cC_X6_init J w) (fun v9 h12 q9 => ?_) (fun E9 q9 h9 w9 => jr_out F M O (hE _ _ _ w9))
  obtain ⟨rfl, w⟩ := q9
  exact jr_aret (pc := 31) F M (Or.inl ⟨_, rfl⟩) dX6_copy_31 (hQ _ _ w)

theorem cC_X6_copy {G : jj_G} {l : Launch} (J : jj_GJ G l) {x0 : Option Nat} {Q : Option Nat → jj_H → Prop} {E : String → Nat → jj_H → Prop} {h : jj_H} {k : Nat} (w : fC_X6_copy (jj_gk G) x0 Q E h k) : jj_Ct G l yX6_copy (ws_ yX6_copy cX6_copy 1 (some ((.object "NoteImporter$Note")))) 14 650 [.inr (.inr (.inl x0))] h k (jc_r Q) E := by
  refine jj_Ct.of (jK_gs J).1 (by decide +kernel) (Nat.le_of_ble_eq_true rfl) rfl (fun X hG hl F M O hnm => ?_)
  subst hG; subst hl
  exact sC_X6_copy F M O J hnm (fun r h q => ⟨r, rfl, q⟩) (fun _ _ _ q => q) _ _ _ w
theorem hC_X6_copy : yX6_copy.cls = RX6 ∧ yX6_copy.cls ≠ "java/lang/invoke/MethodHandle" ∧ yX6_copy.cls ≠ "java/lang/invoke/VarHandle" ∧ (parseMethodDescriptor yX6_copy.desc).map (fun d => d.parameters.length) = some 0 := by decide +kernel
/-! X2_copy()LNoteImporter$Library; -/
def fC_X2_copy_l100 (gk : Nat → Nat) (x0 : Option Nat) (x1 : Option Nat) (x2 : Option Nat) (Q : Option Nat → jj_H → Prop) (E : String → Nat → jj_H → Prop) : Nat → jj_H → Nat → Prop
  | 0, _, _ => False
  | n + 1, h, k =>
  jq_J21_hasNext x2 (fun r3 h1 k2 =>
  jj_r r3 ∧ (r3 = 0 → (
    jp_gi h1 x0 2 4 (fun g4 =>
    jp_pi h1 x1 2 4 g4 (fun h5 =>
    jp_gi h5 x0 2 5 (fun g6 =>
    jp_pi h5 x1 2 5 g6 (fun h7 =>
    Q x1 h7)))))) ∧
  (¬ r3 = 0 → (
    jq_J21_next x2 (fun r10 h8 k9 =>
    jp_is h8 r10 25 ∧
    jp_is h8 x1 2 ∧ ∃ c11, c11 ≤ k9 ∧ fC_X2_addReader gk x1 r10 (fun h13 =>
    fC_X2_copy_l100 gk x0 x1 x2 Q E n h13 (k9 - c11)) E h8 c11) h1 k2))) h k
def fC_X2_copy_l58 (gk : Nat → Nat) (x0 : Option Nat) (x1 : Option Nat) (x2 : Option Nat) (Q : Option Nat → jj_H → Prop) (E : String → Nat → jj_H → Prop) : Nat → jj_H → Nat → Prop
  | 0, _, _ => False
  | n + 1, h, k =>
  jq_J21_hasNext x2 (fun r16 h14 k15 =>
  jj_r r16 ∧ (r16 = 0 → (
    jp_gr h14 x0 2 2 (fun g17 =>
    jq_J2_iterator g17 (fun r20 h18 k19 =>
    ∃ n9, fC_X2_copy_l100 gk x0 x1 r20 Q E n9 h18 k19) h14 k15))) ∧
  (¬ r16 = 0 → (
    jq_J21_next x2 (fun r23 h21 k22 =>
    jp_is h21 r23 4 ∧
    jp_gr h21 x1 2 1 (fun g24 =>
    jp_is h21 r23 4 ∧ ∃ c25, c25 ≤ k22 ∧ fC_X6_copy gk r23 (fun r26 h27 =>
    jq_J2_add g24 r26 (fun r30 h28 k29 =>
    fC_X2_copy_l58 gk x0 x1 x2 Q E n h28 k29) h27 (k22 - c25)) E h21 c25)) h14 k15))) h k
def fC_X2_copy_l16 (gk : Nat → Nat) (x0 : Option Nat) (x1 : Option Nat) (x2 : Option Nat) (Q : Option Nat → jj_H → Prop) (E : String → Nat → jj_H → Prop) : Nat → jj_H → Nat → Prop
  | 0, _, _ => False
  | n + 1, h, k =>
  jq_J21_hasNext x2 (fun r33 h31 k32 =>
  jj_r r33 ∧ (r33 = 0 → (
    jp_gr h31 x0 2 1 (fun g34 =>
    jq_J2_iterator g34 (fun r37 h35 k36 =>
    ∃ n9, fC_X2_copy_l58 gk x0 x1 r37 Q E n9 h35 k36) h31 k32))) ∧
  (¬ r33 = 0 → (
    jq_J21_next x2 (fun r40 h38 k39 =>
    jp_is h38 r40 3 ∧
    jp_gr h38 x1 2 0 (fun g41 =>
    jp_is h38 r40 3 ∧ ∃ c42, c42 ≤ k39 ∧ fC_X5_copy gk r40 (fun r43 h44 =>
    jq_J2_add g41 r43 (fun r47 h45 k46 =>
    fC_X2_copy_l16 gk x0 x1 x2 Q E n h45 k46) h44 (k39 - c42)) E h38 c42)) h31 k32))) h k
def fC_X2_copy (gk : Nat → Nat) (x0 : Option Nat) (Q : Option Nat → jj_H → Prop) (E : String → Nat → jj_H → Prop) (h : jj_H) (k : Nat) : Prop :=
  jp_nw h k 2 2 df_X2 (fun a48 h49 k50 =>
  jp_so (some a48) ∧ ∃ c51, c51 ≤ k50 ∧ fC_X2_init gk (some a48) (fun h53 =>
  jp_gr h53 x0 2 0 (fun g54 =>
  jq_J2_iterator g54 (fun r57 h55 k56 =>
  ∃ n9, fC_X2_copy_l16 gk x0 (some a48) r57 Q E n9 h55 k56) h53 (k50 - c51))) E h49 c51)
theorem sC_X2_copy_l100 {X : jj_X} {N : Option jj_AV → jj_H → Prop} {XN : String → Nat → jj_H → Prop} (F : jj_F X RX2 cX2_copy 4) (M : jj_M X (some ((.object "NoteImporter$Library"))) 16 686 N XN) (O : jj_no X) (J : jj_GJ X.1 X.2.2.1) (hi : X.2.2.2.2.2.2.2.2.2.1.name = yX2_copy.name) {Q : Option Nat → jj_H → Prop} {E : String → Nat → jj_H → Prop} (hQ : ∀ r h, Q r h → N (some (.inr (.inr (.inl r)))) h) (hE : ∀ e q h, E e q h → XN e q h) (x0 : Option Nat) (x1 : Option Nat) (x2 : Option Nat) : ∀ (n : Nat) (h : jj_H) (k : Nat), fC_X2_copy_l100 (jj_gk X.1) x0 x1 x2 Q E n h k → jj_J X 4 100 [(0, .inr (.inr (.inl x0))), (1, .inr (.inr (.inl x1))), (2, .inr (.inr (.inl x2)))] [] h k := by
  intro n
  induction n with
  | zero =>
    intro  h k w
    exact (show False from w).elim
  | succ n ih =>
    intro  h k w
    rw [fC_X2_copy_l100] at w
    refine jr_aload_n (pc := 100) F (j := 2) dX2_copy_100 rfl ?_
    refine jr_jF (pc := 101) (As := []) (ci := 15) F M (fw_J21_hasNext q1846) (jK_f_J21_hasNext J) dX2_copy_101 (by decide +kernel) rfl (Nat.le_of_ble_eq_true rfl) (Nat.le_of_ble_eq_true rfl) (Nat.le_of_ble_eq_true rfl) rfl (jK_J21_hasNext J _ _ _ _ w) (fun v9 h1 k2 q9 => ?_)
    obtain ⟨r3, rfl, w⟩ := q9
    obtain ⟨hx9, w1, w2⟩ := w
    refine jr_if_eq (pc := 106) (tgt := 127) F hx9 dX2_copy_106 rfl (fun c9 => ?_) (fun c9 => ?_)
    · have w := w1 c9
      refine jr_aload_n (pc := 127) F (j := 1) dX2_copy_127 rfl ?_
      refine jr_aload_n (pc := 128) F (j := 0) dX2_copy_128 rfl ?_
      refine jr_gi (pc := 129) (ci := 2) (f := 4) F rfl in_X2 (Nat.le_of_ble_eq_true rfl) q603 dX2_copy_129 w (fun g4 w => ?_)
      refine jr_pi (pc := 132) (ci := 2) (f := 4) F rfl in_X2 tyX2_ok nmX2 (Nat.le_of_ble_eq_true rfl) rfl rfl q603 dX2_copy_132 w (fun h5 w => ?_)
      refine jr_aload_n (pc := 135) F (j := 1) dX2_copy_135 rfl ?_
      refine jr_aload_n (pc := 136) F (j := 0) dX2_copy_136 rfl ?_
      refine jr_gi (pc := 137) (ci := 2) (f := 5) F rfl in_X2 (Nat.le_of_ble_eq_true rfl) q606 dX2_copy_137 w (fun g6 w => ?_)
      refine jr_pi (pc := 140) (ci := 2) (f := 5) F rfl in_X2 tyX2_ok nmX2 (Nat.le_of_ble_eq_true rfl) rfl rfl q606 dX2_copy_140 w (fun h7 w => ?_)
      refine jr_aload_n (pc := 143) F (j := 1) dX2_copy_143 rfl ?_
      exact jr_aret (pc := 144) F M (Or.inl ⟨_, rfl⟩) dX2_copy_144 (hQ _ _ w)
    · have w := w2 c9
      refine jr_aload_n (pc := 109) F (j := 2) dX2_copy_109 rfl ?_
      refine jr_jF (pc := 110) (As := []) (ci := 15) F M (fw_J21_next q1848) (jK_f_J21_next J) dX2_copy_110 (by decide +kernel) rfl (Nat.le_of_ble_eq_true rfl) (Nat.le_of_ble_eq_true rfl) (Nat.le_of_ble_eq_true rfl) rfl (jK_J21_next J _ _ _ _ w) (fun v9 h8 k9 q9 => ?_)
      obtain ⟨r10, rfl, w⟩ := q9
      obtain ⟨hi9, w⟩ := w
      refine jr_cast (pc := 115) (ci := 25) F rfl q2330 dX2_copy_115 hi9 ?_
      refine jr_astore_n (pc := 118) F (vs' := [(3, .inr (.inr (.inl _))), (0, .inr (.inr (.inl _))), (1, .inr (.inr (.inl _))), (2, .inr (.inr (.inl _)))]) dX2_copy_118 (Nat.le_of_ble_eq_true rfl) rfl ?_
      refine jr_aload_n (pc := 119) F (j := 2) dX2_copy_119 rfl ?_
      refine jr_aload_n (pc := 120) F (j := 0) dX2_copy_120 rfl ?_
      obtain ⟨hi9, c11, hk9, w⟩ := w
      refine jr_cV (pc := 121) (As := [_]) (ci := 2) F M (lw_V q2331 q2332 q2333 q121 q2334) dX2_copy_121 hC_X2_addReader rfl (Nat.le_of_ble_eq_true rfl) (Nat.le_of_ble_eq_true rfl) (Nat.le_of_ble_eq_true rfl) rfl hi9 hk9 (cC_X2_addReader J w) (fun v9 h13 q9 => ?_) (fun E9 q9 h9 w9 => jr_out F M O (hE _ _ _ w9))
      obtain ⟨rfl, w⟩ := q9
      refine jr_goto (pc := 124) (tgt := 100) F dX2_copy_124 rfl ?_
      refine jj_J.sub [1, 2, 3] rfl ?_
      exact ih _ _ w

theorem sC_X2_copy_l58 {X : jj_X} {N : Option jj_AV → jj_H → Prop} {XN : String → Nat → jj_H → Prop} (F : jj_F X RX2 cX2_copy 4) (M : jj_M X (some ((.object "NoteImporter$Library"))) 16 686 N XN) (O : jj_no X) (J : jj_GJ X.1 X.2.2.1) (hi : X.2.2.2.2.2.2.2.2.2.1.name = yX2_copy.name) {Q : Option Nat → jj_H → Prop} {E : String → Nat → jj_H → Prop} (hQ : ∀ r h, Q r h → N (some (.inr (.inr (.inl r)))) h) (hE : ∀ e q h, E e q h → XN e q h) (x0 : Option Nat) (x1 : Option Nat) (x2 : Option Nat) : ∀ (n : Nat) (h : jj_H) (k : Nat), fC_X2_copy_l58 (jj_gk X.1) x0 x1 x2 Q E n h k → jj_J X 4 58 [(0, .inr (.inr (.inl x0))), (1, .inr (.inr (.inl x1))), (2, .inr (.inr (.inl x2)))] [] h k := by
  intro n
  induction n with
  | zero =>
    intro  h k w
    exact (show False from w).elim
  | succ n ih =>
    intro  h k w
    rw [fC_X2_copy_l58] at w
    refine jr_aload_n (pc := 58) F (j := 2) dX2_copy_58 rfl ?_
    refine jr_jF (pc := 59) (As := []) (ci := 15) F M (fw_J21_hasNext q1846) (jK_f_J21_hasNext J) dX2_copy_59 (by decide +kernel) rfl (Nat.le_of_ble_eq_true rfl) (Nat.le_of_ble_eq_true rfl) (Nat.le_of_ble_eq_true rfl) rfl (jK_J21_hasNext J _ _ _ _ w) (fun v9 h14 k15 q9 => ?_)
    obtain ⟨r16, rfl, w⟩ := q9
    obtain ⟨hx9, w1, w2⟩ := w
    refine jr_if_eq (pc := 64) (tgt := 92) F hx9 dX2_copy_64 rfl (fun c9 => ?_) (fun c9 => ?_)
    · have w := w1 c9
      refine jr_aload_n (pc := 92) F (j := 0) dX2_copy_92 rfl ?_
      refine jr_gr (pc := 93) (ci := 2) (f := 2) F rfl in_X2 (Nat.le_of_ble_eq_true rfl) q597 dX2_copy_93 w (fun g17 w => ?_)
      refine jr_jV (pc := 96) (As := []) (ci := 14) F M (lw_V q1844 q1616 q1617 q124 q1618) dX2_copy_96 hj_J2_iterator rfl (Nat.le_of_ble_eq_true rfl) (Nat.le_of_ble_eq_true rfl) (Nat.le_of_ble_eq_true rfl) rfl (jK_J2_iterator J _ _ _ _ w) (fun v9 h18 k19 q9 => ?_)
      obtain ⟨r20, rfl, w⟩ := q9
      refine jr_astore_n (pc := 99) F (vs' := [(2, .inr (.inr (.inl _))), (0, .inr (.inr (.inl _))), (1, .inr (.inr (.inl _)))]) dX2_copy_99 (Nat.le_of_ble_eq_true rfl) rfl ?_
      refine jj_J.sub [1, 2, 0] rfl ?_
      obtain ⟨n9, w⟩ := w
      exact sC_X2_copy_l100 F M O J hi hQ hE _ _ _ n9 _ _ w
    · have w := w2 c9
      refine jr_aload_n (pc := 67) F (j := 2) dX2_copy_67 rfl ?_
      refine jr_jF (pc := 68) (As := []) (ci := 15) F M (fw_J21_next q1848) (jK_f_J21_next J) dX2_copy_68 (by decide +kernel) rfl (Nat.le_of_ble_eq_true rfl) (Nat.le_of_ble_eq_true rfl) (Nat.le_of_ble_eq_true rfl) rfl (jK_J21_next J _ _ _ _ w) (fun v9 h21 k22 q9 => ?_)
      obtain ⟨r23, rfl, w⟩ := q9
      obtain ⟨hi9, w⟩ := w
      refine jr_cast (pc := 73) (ci := 4) F rfl q2000 dX2_copy_73 hi9 ?_
      refine jr_astore_n (pc := 76) F (vs' := [(3, .inr (.inr (.inl _))), (0, .inr (.inr (.inl _))), (1, .inr (.inr (.inl _))), (2, .inr (.inr (.inl _)))]) dX2_copy_76 (Nat.le_of_ble_eq_true rfl) rfl ?_
      refine jr_aload_n (pc := 77) F (j := 2) dX2_copy_77 rfl ?_
      refine jr_gr (pc := 78) (ci := 2) (f := 1) F rfl in_X2 (Nat.le_of_ble_eq_true rfl) q593 dX2_copy_78 w (fun g24 w => ?_)
      refine jr_aload_n (pc := 81) F (j := 0) dX2_copy_81 rfl ?_
      obtain ⟨hi9, c25, hk9, w⟩ := w
      refine jr_cV (pc := 82) (As := []) (ci := 4) F M (lw_V q2001 q2002 q2003 q159 q2004) dX2_copy_82 hC_X6_copy rfl (Nat.le_of_ble_eq_true rfl) (Nat.le_of_ble_eq_true rfl) (Nat.le_of_ble_eq_true rfl) rfl hi9 hk9 (cC_X6_copy J w) (fun v9 h27 q9 => ?_) (fun E9 q9 h9 w9 => jr_out F M O (hE _ _ _ w9))
      obtain ⟨r26, rfl, w⟩ := q9
      refine jr_jV (pc := 85) (As := [_]) (ci := 14) F M (lw_V q1999 q820 q821 q124 q822) dX2_copy_85 hj_J2_add rfl (Nat.le_of_ble_eq_true rfl) (Nat.le_of_ble_eq_true rfl) (Nat.le_of_ble_eq_true rfl) rfl (jK_J2_add J _ _ _ _ _ w) (fun v9 h28 k29 q9 => ?_)
      obtain ⟨r30, rfl, w⟩ := q9
      refine jr_pop (pc := 88) F dX2_copy_88 rfl ?_
      refine jr_goto (pc := 89) (tgt := 58) F dX2_copy_89 rfl ?_
      refine jj_J.sub [1, 2, 3] rfl ?_
      exact ih _ _ w

theorem sC_X2_copy_l16 {X : jj_X} {N : Option jj_AV → jj_H → Prop} {XN : String → Nat → jj_H → Prop} (F : jj_F X RX2 cX2_copy 4) (M : jj_M X (some ((.object "NoteImporter$Library"))) 16 686 N XN) (O : jj_no X) (J : jj_GJ X.1 X.2.2.1) (hi : X.2.2.2.2.2.2.2.2.2.1.name = yX2_copy.name) {Q : Option Nat → jj_H → Prop} {E : String → Nat → jj_H → Prop} (hQ : ∀ r h, Q r h → N (some (.inr (.inr (.inl r)))) h) (hE : ∀ e q h, E e q h → XN e q h) (x0 : Option Nat) (x1 : Option Nat) (x2 : Option Nat) : ∀ (n : Nat) (h : jj_H) (k : Nat), fC_X2_copy_l16 (jj_gk X.1) x0 x1 x2 Q E n h k → jj_J X 4 16 [(0, .inr (.inr (.inl x0))), (1, .inr (.inr (.inl x1))), (2, .inr (.inr (.inl x2)))] [] h k := by
  intro n
  induction n with
  | zero =>
    intro  h k w
    exact (show False from w).elim
  | succ n ih =>
    intro  h k w
    rw [fC_X2_copy_l16] at w
    refine jr_aload_n (pc := 16) F (j := 2) dX2_copy_16 rfl ?_
    refine jr_jF (pc := 17) (As := []) (ci := 15) F M (fw_J21_hasNext q1846) (jK_f_J21_hasNext J) dX2_copy_17 (by decide +kernel) rfl (Nat.le_of_ble_eq_true rfl) (Nat.le_of_ble_eq_true rfl) (Nat.le_of_ble_eq_true rfl) rfl (jK_J21_hasNext J _ _ _ _ w) (fun v9 h31 k32 q9 => ?_)
    obtain ⟨r33, rfl, w⟩ := q9
    obtain ⟨hx9, w1, w2⟩ := w
    refine jr_if_eq (pc := 22) (tgt := 50) F hx9 dX2_copy_22 rfl (fun c9 => ?_) (fun c9 => ?_)
    · have w := w1 c9
      refine jr_aload_n (pc := 50) F (j := 0) dX2_copy_50 rfl ?_
      refine jr_gr (pc := 51) (ci := 2) (f := 1) F rfl in_X2 (Nat.le_of_ble_eq_true rfl) q593 dX2_copy_51 w (fun g34 w => ?_)
      refine jr_jV (pc := 54) (As := []) (ci := 14) F M (lw_V q1844 q1616 q1617 q124 q1618) dX2_copy_54 hj_J2_iterator rfl (Nat.le_of_ble_eq_true rfl) (Nat.le_of_ble_eq_true rfl) (Nat.le_of_ble_eq_true rfl) rfl (jK_J2_iterator J _ _ _ _ w) (fun v9 h35 k36 q9 => ?_)
      obtain ⟨r37, rfl, w⟩ := q9
      refine jr_astore_n (pc := 57) F (vs' := [(2, .inr (.inr (.inl _))), (0, .inr (.inr (.inl _))), (1, .inr (.inr (.inl _)))]) dX2_copy_57 (Nat.le_of_ble_eq_true rfl) rfl ?_
      refine jj_J.sub [1, 2, 0] rfl ?_
      obtain ⟨n9, w⟩ := w
      exact sC_X2_copy_l58 F M O J hi hQ hE _ _ _ n9 _ _ w
    · have w := w2 c9
      refine jr_aload_n (pc := 25) F (j := 2) dX2_copy_25 rfl ?_
      refine jr_jF (pc := 26) (As := []) (ci := 15) F M (fw_J21_next q1848) (jK_f_J21_next J) dX2_copy_26 (by decide +kernel) rfl (Nat.le_of_ble_eq_true rfl) (Nat.le_of_ble_eq_true rfl) (Nat.le_of_ble_eq_true rfl) rfl (jK_J21_next J _ _ _ _ w) (fun v9 h38 k39 q9 => ?_)
      obtain ⟨r40, rfl, w⟩ := q9
      obtain ⟨hi9, w⟩ := w
      refine jr_cast (pc := 31) (ci := 3) F rfl q700 dX2_copy_31 hi9 ?_
      refine jr_astore_n (pc := 34) F (vs' := [(3, .inr (.inr (.inl _))), (0, .inr (.inr (.inl _))), (1, .inr (.inr (.inl _))), (2, .inr (.inr (.inl _)))]) dX2_copy_34 (Nat.le_of_ble_eq_true rfl) rfl ?_
      refine jr_aload_n (pc := 35) F (j := 2) dX2_copy_35 rfl ?_
      refine jr_gr (pc := 36) (ci := 2) (f := 0) F rfl in_X2 (Nat.le_of_ble_eq_true rfl) q589 dX2_copy_36 w (fun g41 w => ?_)
      refine jr_aload_n (pc := 39) F (j := 0) dX2_copy_39 rfl ?_
      obtain ⟨hi9, c42, hk9, w⟩ := w
      refine jr_cV (pc := 40) (As := []) (ci := 3) F M (lw_V q1849 q1850 q1851 q149 q1852) dX2_copy_40 hC_X5_copy rfl (Nat.le_of_ble_eq_true rfl) (Nat.le_of_ble_eq_true rfl) (Nat.le_of_ble_eq_true rfl) rfl hi9 hk9 (cC_X5_copy J w) (fun v9 h44 q9 => ?_) (fun E9 q9 h9 w9 => jr_out F M O (hE _ _ _ w9))
      obtain ⟨r43, rfl, w⟩ := q9
      refine jr_jV (pc := 43) (As := [_]) (ci := 14) F M (lw_V q1999 q820 q821 q124 q822) dX2_copy_43 hj_J2_add rfl (Nat.le_of_ble_eq_true rfl) (Nat.le_of_ble_eq_true rfl) (Nat.le_of_ble_eq_true rfl) rfl (jK_J2_add J _ _ _ _ _ w) (fun v9 h45 k46 q9 => ?_)
      obtain ⟨r47, rfl, w⟩ := q9
      refine jr_pop (pc := 46) F dX2_copy_46 rfl ?_
      refine jr_goto (pc := 47) (tgt := 16) F dX2_copy_47 rfl ?_
      refine jj_J.sub [1, 2, 3] rfl ?_
      exact ih _ _ w

theorem sC_X2_copy {X : jj_X} {N : Option jj_AV → jj_H → Prop} {XN : String → Nat → jj_H → Prop} (F : jj_F X RX2 cX2_copy 4) (M : jj_M X (some ((.object "NoteImporter$Library"))) 16 686 N XN) (O : jj_no X) (J : jj_GJ X.1 X.2.2.1) (hi : X.2.2.2.2.2.2.2.2.2.1.name = yX2_copy.name) {Q : Option Nat → jj_H → Prop} {E : String → Nat → jj_H → Prop} (hQ : ∀ r h, Q r h → N (some (.inr (.inr (.inl r)))) h) (hE : ∀ e q h, E e q h → XN e q h) (x0 : Option Nat) : ∀ (h : jj_H) (k : Nat), fC_X2_copy (jj_gk X.1) x0 Q E h k → jj_J X 4 0 [(0, .inr (.inr (.inl x0)))] [] h k := by
  intro h k w
  unfold fC_X2_copy at w
  refine jr_new (pc := 0) (ci := 2) F rfl in_X2 tyX2_ok q1842 q195 q121 dfo_X2 rfl ⟨by decide, by decide⟩ dX2_copy_0 w (fun a48 h49 k50 w => ?_)
  refine jr_dup (pc := 3) F dX2_copy_3 rfl ?_
  obtain ⟨hi9, c51, hk9, w⟩ := w
  refine jr_cI (pc := 4) (As := []) F M q1843 q197 q121 q198 dX2_copy_4 rfl hC_X2_init.2 rfl (Nat.le_of_ble_eq_true rfl) (Nat.le_of_ble_eq_true rfl) (Nat.le_of_ble_eq_true rfl) hi9 hk9 (cC_X2_init J w) (fun v9 h53 q9 => ?_) (fun E9 q9 h9 w9 => jr_out F M O (hE _ _ _ w9))
  obtain ⟨rfl, w⟩ := q9
  refine jr_astore_n (pc := 7) F (vs' := [(1, .inr (.inr (.inl _))), (0, .inr (.inr (.inl _)))]) dX2_copy_7 (Nat.le_of_ble_eq_true rfl) rfl ?_
  refine jr_aload_n (pc := 8) F (j := 1) dX2_copy_8 rfl ?_
  refine jr_gr (pc := 9) (ci := 2) (f := 0) F rfl in_X2 (Nat.le_of_ble_eq_true rfl) q589 dX2_copy_9 w (fun g54 w => ?_)
  refine jr_jV (pc := 12) (As := []) (ci := 14) F M (lw_V q1844 q1616 q1617 q124 q1618) dX2_copy_12 hj_J2_iterator rfl (Nat.le_of_ble_eq_true rfl) (Nat.le_of_ble_eq_true rfl) (Nat.le_of_ble_eq_true rfl) rfl (jK_J2_iterator J _ _ _ _ w) (fun v9 h55 k56 q9 => ?_)
  obtain ⟨r57, rfl, w⟩ := q9
  refine jr_astore_n (pc := 15) F (vs' := [(2, .inr (.inr (.inl _))), (1, .inr (.inr (.inl _))), (0, .inr (.inr (.inl _)))]) dX2_copy_15 (Nat.le_of_ble_eq_true rfl) rfl ?_
  refine jj_J.sub [2, 1, 0] rfl ?_
  obtain ⟨n9, w⟩ := w
  exact sC_X2_copy_l16 F M O J hi hQ hE _ _ _ n9 _ _ w

theorem cC_X2_copy {G : jj_G} {l : Launch} (J : jj_GJ G l) {x0 : Option Nat} {Q : Option Nat → jj_H → Prop} {E : String → Nat → jj_H → Prop} {h : jj_H} {k : Nat} (w : fC_X2_copy (jj_gk G) x0 Q E h k) : jj_Ct G l yX2_copy (ws_ yX2_copy cX2_copy 4 (some ((.object "NoteImporter$Library")))) 16 686 [.inr (.inr (.inl x0))] h k (jc_r Q) E := by
  refine jj_Ct.of (jK_gs J).1 (by decide +kernel) (Nat.le_of_ble_eq_true rfl) rfl (fun X hG hl F M O hnm => ?_)
  subst hG; subst hl
  exact sC_X2_copy F M O J hnm (fun r h q => ⟨r, rfl, q⟩) (fun _ _ _ q => q) _ _ _ w
theorem hC_X2_copy : yX2_copy.cls = RX2 ∧ yX2_copy.cls ≠ "java/lang/invoke/MethodHandle" ∧ yX2_copy.cls ≠ "java/lang/invoke/VarHandle" ∧ (parseMethodDescriptor yX2_copy.desc).map (fun d => d.parameters.length) = some 0 := by decide +kernel
/-! X1_isBlank(I)Z -/
def fC_X1_isBlank (gk : Nat → Nat) (x0 : Int) (Q : Int → jj_H → Prop) (E : String → Nat → jj_H → Prop) (h : jj_H) (k : Nat) : Prop :=
  jj_r x0 ∧ (x0 = 32 → (
    Q 1 h)) ∧
  (¬ x0 = 32 → (
    jj_r x0 ∧ (¬ x0 = 10 → (
      Q 0 h)) ∧
    (x0 = 10 → (
      Q 1 h))))
theorem sC_X1_isBlank {X : jj_X} {N : Option jj_AV → jj_H → Prop} {XN : String → Nat → jj_H → Prop} (F : jj_F X RX1 cX1_isBlank 1) (M : jj_M X (some (.boolean)) 0 0 N XN) (O : jj_no X) (J : jj_GJ X.1 X.2.2.1) (hi : X.2.2.2.2.2.2.2.2.2.1.name = yX1_isBlank.name) {Q : Int → jj_H → Prop} {E : String → Nat → jj_H → Prop} (hQ : ∀ r h, Q r h → N (some (.inl r)) h) (hE : ∀ e q h, E e q h → XN e q h) (x0 : Int) : ∀ (h : jj_H) (k : Nat), fC_X1_isBlank (jj_gk X.1) x0 Q E h k → jj_J X 1 0 [(0, .inl x0)] [] h k := by
  intro h k w
  unfold fC_X1_isBlank at w
  refine jr_iload_n (pc := 0) F (j := 0) dX1_isBlank_0 rfl ?_
  refine jr_bipush (pc := 1) F dX1_isBlank_1 (by decide +kernel) ?_
  obtain ⟨hx9, w1, w2⟩ := w
  refine jr_icmp_eq (pc := 3) (tgt := 12) F hx9 ⟨by decide, by decide⟩ dX1_isBlank_3 rfl (fun c9 => ?_) (fun c9 => ?_)
  · have w := w1 c9
    refine jr_iconst (pc := 12) F dX1_isBlank_12 ?_
    refine jr_goto (pc := 13) (tgt := 17) F dX1_isBlank_13 rfl ?_
    exact jr_zret (pc := 17) F M dX1_isBlank_17 (by decide) (hQ _ _ w)
  · have w := w2 c9
    refine jr_iload_n (pc := 6) F (j := 0) dX1_isBlank_6 rfl ?_
    refine jr_bipush (pc := 7) F dX1_isBlank_7 (by decide +kernel) ?_
    obtain ⟨hx9, w1, w2⟩ := w
    refine jr_icmp_ne (pc := 9) (tgt := 16) F hx9 ⟨by decide, by decide⟩ dX1_isBlank_9 rfl (fun c9 => ?_) (fun c9 => ?_)
    · have w := w1 c9
      refine jr_iconst (pc := 16) F dX1_isBlank_16 ?_
      exact jr_zret (pc := 17) F M dX1_isBlank_17 (by decide) (hQ _ _ w)
    · have w := w2 c9
      refine jr_iconst (pc := 12) F dX1_isBlank_12 ?_
      refine jr_goto (pc := 13) (tgt := 17) F dX1_isBlank_13 rfl ?_
      exact jr_zret (pc := 17) F M dX1_isBlank_17 (by decide) (hQ _ _ w)

theorem cC_X1_isBlank {G : jj_G} {l : Launch} (J : jj_GJ G l) {x0 : Int} {Q : Int → jj_H → Prop} {E : String → Nat → jj_H → Prop} {h : jj_H} {k : Nat} (w : fC_X1_isBlank (jj_gk G) x0 Q E h k) : jj_Ct G l yX1_isBlank (ws_ yX1_isBlank cX1_isBlank 1 (some (.boolean))) 0 0 [.inl x0] h k (jc_i Q) E := by
  refine jj_Ct.of (jK_gs J).1 (by decide +kernel) (Nat.le_of_ble_eq_true rfl) rfl (fun X hG hl F M O hnm => ?_)
  subst hG; subst hl
  exact sC_X1_isBlank F M O J hnm (fun r h q => ⟨r, rfl, q⟩) (fun _ _ _ q => q) _ _ _ w
theorem hC_X1_isBlank : yX1_isBlank.cls = RX1 ∧ yX1_isBlank.cls ≠ "java/lang/invoke/MethodHandle" ∧ yX1_isBlank.cls ≠ "java/lang/invoke/VarHandle" ∧ (parseMethodDescriptor yX1_isBlank.desc).map (fun d => d.parameters.length) = some 1 := by decide +kernel
/-! X4_byteAt(I)I -/
def fC_X4_byteAt (gk : Nat → Nat) (x0 : Option Nat) (x1 : Int) (Q : Int → jj_H → Prop) (E : String → Nat → jj_H → Prop) (h : jj_H) (k : Nat) : Prop :=
  jp_gi h x0 10 0 (fun g1 =>
  jj_r x1 ∧ jj_r g1 ∧ (g1 ≤ x1 → (
    Q (-1) h)) ∧
  (¬ g1 ≤ x1 → (
    jp_gr h x0 10 8 (fun g2 =>
    jp_gr h g2 1 3 (fun g3 =>
    jp_al h g3 2 x1 (fun g4 =>
    Q (jj_and g4 255) h))))))
theorem sC_X4_byteAt {X : jj_X} {N : Option jj_AV → jj_H → Prop} {XN : String → Nat → jj_H → Prop} (F : jj_F X RX4 cX4_byteAt 2) (M : jj_M X (some (.int)) 0 0 N XN) (O : jj_no X) (J : jj_GJ X.1 X.2.2.1) (hi : X.2.2.2.2.2.2.2.2.2.1.name = yX4_byteAt.name) {Q : Int → jj_H → Prop} {E : String → Nat → jj_H → Prop} (hQ : ∀ r h, Q r h → N (some (.inl r)) h) (hE : ∀ e q h, E e q h → XN e q h) (x0 : Option Nat) (x1 : Int) : ∀ (h : jj_H) (k : Nat), fC_X4_byteAt (jj_gk X.1) x0 x1 Q E h k → jj_J X 2 0 [(0, .inr (.inr (.inl x0))), (1, .inl x1)] [] h k := by
  intro h k w
  unfold fC_X4_byteAt at w
  refine jr_iload_n (pc := 0) F (j := 1) dX4_byteAt_0 rfl ?_
  refine jr_aload_n (pc := 1) F (j := 0) dX4_byteAt_1 rfl ?_
  refine jr_gi (pc := 2) (ci := 10) (f := 0) F rfl in_X4 (Nat.le_of_ble_eq_true rfl) q2384 dX4_byteAt_2 w (fun g1 w => ?_)
  obtain ⟨hx9, hy9, w1, w2⟩ := w
  refine jr_icmp_ge (pc := 5) (tgt := 24) F hx9 hy9 dX4_byteAt_5 rfl (fun c9 => ?_) (fun c9 => ?_)
  · have w := w1 c9
    refine jr_iconst (pc := 24) F dX4_byteAt_24 ?_
    exact jr_iret (pc := 25) F M dX4_byteAt_25 (hQ _ _ w)
  · have w := w2 c9
    refine jr_aload_n (pc := 8) F (j := 0) dX4_byteAt_8 rfl ?_
    refine jr_gr (pc := 9) (ci := 10) (f := 8) F rfl in_X4 (Nat.le_of_ble_eq_true rfl) q2393 dX4_byteAt_9 w (fun g2 w => ?_)
    refine jr_grN (pc := 12) (ci := 1) (f := 3) F rfl in_X1 (Nat.le_of_ble_eq_true rfl) q628 dX4_byteAt_12 w (fun g3 w => ?_)
    refine jr_iload_n (pc := 15) F (j := 1) dX4_byteAt_15 rfl ?_
    refine jr_bald (pc := 16) F dX4_byteAt_16 w (fun g4 w => ?_)
    refine jr_sipush (pc := 17) F dX4_byteAt_17 (by decide +kernel) ?_
    refine jr_iand (pc := 20) F dX4_byteAt_20 ?_
    refine jr_goto (pc := 21) (tgt := 25) F dX4_byteAt_21 rfl ?_
    exact jr_iret (pc := 25) F M dX4_byteAt_25 (hQ _ _ w)

theorem cC_X4_byteAt {G : jj_G} {l : Launch} (J : jj_GJ G l) {x0 : Option Nat} {x1 : Int} {Q : Int → jj_H → Prop} {E : String → Nat → jj_H → Prop} {h : jj_H} {k : Nat} (w : fC_X4_byteAt (jj_gk G) x0 x1 Q E h k) : jj_Ct G l yX4_byteAt (ws_ yX4_byteAt cX4_byteAt 2 (some (.int))) 0 0 [.inr (.inr (.inl x0)), .inl x1] h k (jc_i Q) E := by
  refine jj_Ct.of (jK_gs J).1 (by decide +kernel) (Nat.le_of_ble_eq_true rfl) rfl (fun X hG hl F M O hnm => ?_)
  subst hG; subst hl
  exact sC_X4_byteAt F M O J hnm (fun r h q => ⟨r, rfl, q⟩) (fun _ _ _ q => q) _ _ _ _ w
theorem hC_X4_byteAt : yX4_byteAt.cls = RX4 ∧ yX4_byteAt.cls ≠ "java/lang/invoke/MethodHandle" ∧ yX4_byteAt.cls ≠ "java/lang/invoke/VarHandle" ∧ (parseMethodDescriptor yX4_byteAt.desc).map (fun d => d.parameters.length) = some 1 := by decide +kernel
/-! X4_advance()V -/
def fC_X4_advance_j265 (gk : Nat → Nat) (x0 : Option Nat) (x1 : Option Nat) (Q : jj_H → Prop) (E : String → Nat → jj_H → Prop) (h : jj_H) (k : Nat) : Prop :=
  jq_J8_toString x1 (fun r3 h1 k2 =>
  jp_pr h1 x0 10 7 r3 (fun h4 =>
  Q h4)) h k
def fC_X4_advance_j216 (gk : Nat → Nat) (x0 : Option Nat) (x1 : Option Nat) (Q : jj_H → Prop) (E : String → Nat → jj_H → Prop) (h : jj_H) (k : Nat) : Prop :=
  jp_gi h x0 10 4 (fun g5 =>
  jj_r g5 ∧ (¬ g5 = 0 → (
    fC_X4_advance_j265 gk x0 x1 Q E h k)) ∧
  (g5 = 0 → (
    jp_gi h x0 10 5 (fun g6 =>
    jj_r g6 ∧ (¬ g6 = 0 → (
      fC_X4_advance_j265 gk x0 x1 Q E h k)) ∧
    (g6 = 0 → (
      jp_gi h x0 10 2 (fun g7 =>
      jp_gi h x0 10 0 (fun g8 =>
      jj_r g7 ∧ jj_r g8 ∧ (g8 ≤ g7 → (
        fC_X4_advance_j265 gk x0 x1 Q E h k)) ∧
      (¬ g8 ≤ g7 → (
        jp_gi h x0 10 2 (fun g9 =>
        jp_is h x0 10 ∧ fC_X4_byteAt gk x0 g9 (fun r11 h12 =>
        jq_J8_append_3 x1 (jj_i2c r11) (fun r15 h13 k14 =>
        jp_gi h13 x0 10 2 (fun g16 =>
        jp_pi h13 x0 10 2 (g16 + 1) (fun h17 =>
        fC_X4_advance_j265 gk x0 x1 Q E h17 k14))) h12 k) E h 0)))))))))))
def fC_X4_advance_l161 (gk : Nat → Nat) (x0 : Option Nat) (x1 : Option Nat) (Q : jj_H → Prop) (E : String → Nat → jj_H → Prop) : Nat → jj_H → Nat → Prop
  | 0, _, _ => False
  | n + 1, h, k =>
  jp_gi h x0 10 5 (fun g18 =>
  jj_r g18 ∧ (g18 = 0 → (
    fC_X4_advance_j216 gk x0 x1 Q E h k)) ∧
  (¬ g18 = 0 → (
    jp_gi h x0 10 2 (fun g19 =>
    jp_is h x0 10 ∧ fC_X4_byteAt gk x0 g19 (fun r21 h22 =>
    fC_X1_isBetween gk (jj_i2l r21) 97 122 (fun r24 h25 =>
    jj_r r24 ∧ (r24 = 0 → (
      fC_X4_advance_j216 gk x0 x1 Q E h25 k)) ∧
    (¬ r24 = 0 → (
      jp_gi h25 x0 10 2 (fun g26 =>
      jp_is h25 x0 10 ∧ fC_X4_byteAt gk x0 g26 (fun r28 h29 =>
      jq_J8_append_3 x1 (jj_i2c r28) (fun r32 h30 k31 =>
      jp_gi h30 x0 10 2 (fun g33 =>
      jp_pi h30 x0 10 2 (g33 + 1) (fun h34 =>
      fC_X4_advance_l161 gk x0 x1 Q E n h34 k31))) h29 k) E h25 0)))) E h22 0) E h 0))))
def fC_X4_advance_l92 (gk : Nat → Nat) (x0 : Option Nat) (x1 : Option Nat) (Q : jj_H → Prop) (E : String → Nat → jj_H → Prop) : Nat → jj_H → Nat → Prop
  | 0, _, _ => False
  | n + 1, h, k =>
  jp_gi h x0 10 4 (fun g35 =>
  jj_r g35 ∧ (g35 = 0 → (
    ∃ n9, fC_X4_advance_l161 gk x0 x1 Q E n9 h k)) ∧
  (¬ g35 = 0 → (
    jp_gi h x0 10 2 (fun g36 =>
    jp_is h x0 10 ∧ fC_X4_byteAt gk x0 g36 (fun r38 h39 =>
    fC_X1_isBetween gk (jj_i2l r38) 48 57 (fun r41 h42 =>
    jj_r r41 ∧ (r41 = 0 → (
      ∃ n9, fC_X4_advance_l161 gk x0 x1 Q E n9 h42 k)) ∧
    (¬ r41 = 0 → (
      jp_gi h42 x0 10 6 (fun g43 =>
      jp_gi h42 x0 10 2 (fun g44 =>
      jp_is h42 x0 10 ∧ fC_X4_byteAt gk x0 g44 (fun r46 h47 =>
      jj_r (((10 * g43) + r46) - 48) ∧
      jp_pi h47 x0 10 6 (min 99999 (((10 * g43) + r46) - 48)) (fun h48 =>
      jp_gi h48 x0 10 2 (fun g49 =>
      jp_pi h48 x0 10 2 (g49 + 1) (fun h50 =>
      fC_X4_advance_l92 gk x0 x1 Q E n h50 k)))) E h42 0))))) E h39 0) E h 0))))
def fC_X4_advance_l0 (gk : Nat → Nat) (x0 : Option Nat) (Q : jj_H → Prop) (E : String → Nat → jj_H → Prop) : Nat → jj_H → Nat → Prop
  | 0, _, _ => False
  | n + 1, h, k =>
  jp_gi h x0 10 2 (fun g51 =>
  jp_is h x0 10 ∧ fC_X4_byteAt gk x0 g51 (fun r53 h54 =>
  fC_X1_isBlank gk r53 (fun r56 h57 =>
  jj_r r56 ∧ (r56 = 0 → (
    jp_gi h57 x0 10 2 (fun g58 =>
    jp_pi h57 x0 10 3 g58 (fun h59 =>
    jp_pi h59 x0 10 6 0 (fun h60 =>
    jp_gi h60 x0 10 2 (fun g61 =>
    jp_is h60 x0 10 ∧ fC_X4_byteAt gk x0 g61 (fun r63 h64 =>
    fC_X1_isBetween gk (jj_i2l r63) 48 57 (fun r66 h67 =>
    jp_pz h67 x0 10 4 r66 (fun h68 =>
    jp_gi h68 x0 10 2 (fun g69 =>
    jp_is h68 x0 10 ∧ fC_X4_byteAt gk x0 g69 (fun r71 h72 =>
    fC_X1_isBetween gk (jj_i2l r71) 97 122 (fun r74 h75 =>
    jp_pz h75 x0 10 5 r74 (fun h76 =>
    jp_nw h76 k 26 1 df_J8 (fun a77 h78 k79 =>
    jq_J8_init (some a77) (fun h80 k81 =>
    ∃ n9, fC_X4_advance_l92 gk x0 (some a77) Q E n9 h80 k81) h78 k79))) E h72 0) E h68 0))) E h64 0) E h60 0)))))) ∧
  (¬ r56 = 0 → (
    jp_gi h57 x0 10 2 (fun g82 =>
    jp_pi h57 x0 10 2 (g82 + 1) (fun h83 =>
    fC_X4_advance_l0 gk x0 Q E n h83 k))))) E h54 0) E h 0)
def fC_X4_advance (gk : Nat → Nat) (x0 : Option Nat) (Q : jj_H → Prop) (E : String → Nat → jj_H → Prop) (h : jj_H) (k : Nat) : Prop :=
  ∃ n9, fC_X4_advance_l0 gk x0 Q E n9 h k
theorem sC_X4_advance_j265 {X : jj_X} {N : Option jj_AV → jj_H → Prop} {XN : String → Nat → jj_H → Prop} (F : jj_F X RX4 cX4_advance 2) (M : jj_M X (none) 13 621 N XN) (O : jj_no X) (J : jj_GJ X.1 X.2.2.1) (hi : X.2.2.2.2.2.2.2.2.2.1.name = yX4_advance.name) {Q : jj_H → Prop} {E : String → Nat → jj_H → Prop} (hQ : ∀ h, Q h → N none h) (hE : ∀ e q h, E e q h → XN e q h) (x0 : Option Nat) (x1 : Option Nat) : ∀ (h : jj_H) (k : Nat), fC_X4_advance_j265 (jj_gk X.1) x0 x1 Q E h k → jj_J X 2 265 [(0, .inr (.inr (.inl x0))), (1, .inr (.inr (.inl x1)))] [] h k := by
  intro h k w
  unfold fC_X4_advance_j265 at w
  refine jr_aload_n (pc := 265) F (j := 0) dX4_advance_265 rfl ?_
  refine jr_aload_n (pc := 266) F (j := 1) dX4_advance_266 rfl ?_
  refine jr_jV (pc := 267) (As := []) (ci := 26) F M (lw_V q2383 q442 q443 q130 q444) dX4_advance_267 hj_J8_toString rfl (Nat.le_of_ble_eq_true rfl) (Nat.le_of_ble_eq_true rfl) (Nat.le_of_ble_eq_true rfl) rfl (jK_J8_toString J _ _ _ _ w) (fun v9 h1 k2 q9 => ?_)
  obtain ⟨r3, rfl, w⟩ := q9
  refine jr_pr (pc := 270) (ci := 10) (f := 7) F rfl in_X4 tyX4_ok nmX4 (Nat.le_of_ble_eq_true rfl) rfl rfl q2392 dX4_advance_270 w (fun h4 w => ?_)
  exact jr_vret (pc := 273) F M dX4_advance_273 (hQ _ w)

theorem sC_X4_advance_j216 {X : jj_X} {N : Option jj_AV → jj_H → Prop} {XN : String → Nat → jj_H → Prop} (F : jj_F X RX4 cX4_advance 2) (M : jj_M X (none) 13 621 N XN) (O : jj_no X) (J : jj_GJ X.1 X.2.2.1) (hi : X.2.2.2.2.2.2.2.2.2.1.name = yX4_advance.name) {Q : jj_H → Prop} {E : String → Nat → jj_H → Prop} (hQ : ∀ h, Q h → N none h) (hE : ∀ e q h, E e q h → XN e q h) (x0 : Option Nat) (x1 : Option Nat) : ∀ (h : jj_H) (k : Nat), fC_X4_advance_j216 (jj_gk X.1) x0 x1 Q E h k → jj_J X 2 216 [(0, .inr (.inr (.inl x0))), (1, .inr (.inr (.inl x1)))] [] h k := by
  intro h k w
  unfold fC_X4_advance_j216 at w
  refine jr_aload_n (pc := 216) F (j := 0) dX4_advance_216 rfl ?_
  refine jr_gi (pc := 217) (ci := 10) (f := 4) F rfl in_X4 (Nat.le_of_ble_eq_true rfl) q2389 dX4_advance_217 w (fun g5 w => ?_)
  obtain ⟨hx9, w1, w2⟩ := w
  refine jr_if_ne (pc := 220) (tgt := 265) F hx9 dX4_advance_220 rfl (fun c9 => ?_) (fun c9 => ?_)
  · have w := w1 c9
    exact sC_X4_advance_j265 F M O J hi hQ hE _ _ _ _ w
  · have w := w2 c9
    refine jr_aload_n (pc := 223) F (j := 0) dX4_advance_223 rfl ?_
    refine jr_gi (pc := 224) (ci := 10) (f := 5) F rfl in_X4 (Nat.le_of_ble_eq_true rfl) q2390 dX4_advance_224 w (fun g6 w => ?_)
    obtain ⟨hx9, w1, w2⟩ := w
    refine jr_if_ne (pc := 227) (tgt := 265) F hx9 dX4_advance_227 rfl (fun c9 => ?_) (fun c9 => ?_)
    · have w := w1 c9
      exact sC_X4_advance_j265 F M O J hi hQ hE _ _ _ _ w
    · have w := w2 c9
      refine jr_aload_n (pc := 230) F (j := 0) dX4_advance_230 rfl ?_
      refine jr_gi (pc := 231) (ci := 10) (f := 2) F rfl in_X4 (Nat.le_of_ble_eq_true rfl) q2387 dX4_advance_231 w (fun g7 w => ?_)
      refine jr_aload_n (pc := 234) F (j := 0) dX4_advance_234 rfl ?_
      refine jr_gi (pc := 235) (ci := 10) (f := 0) F rfl in_X4 (Nat.le_of_ble_eq_true rfl) q2384 dX4_advance_235 w (fun g8 w => ?_)
      obtain ⟨hx9, hy9, w1, w2⟩ := w
      refine jr_icmp_ge (pc := 238) (tgt := 265) F hx9 hy9 dX4_advance_238 rfl (fun c9 => ?_) (fun c9 => ?_)
      · have w := w1 c9
        exact sC_X4_advance_j265 F M O J hi hQ hE _ _ _ _ w
      · have w := w2 c9
        refine jr_aload_n (pc := 241) F (j := 1) dX4_advance_241 rfl ?_
        refine jr_aload_n (pc := 242) F (j := 0) dX4_advance_242 rfl ?_
        refine jr_aload_n (pc := 243) F (j := 0) dX4_advance_243 rfl ?_
        refine jr_gi (pc := 244) (ci := 10) (f := 2) F rfl in_X4 (Nat.le_of_ble_eq_true rfl) q2387 dX4_advance_244 w (fun g9 w => ?_)
        obtain ⟨hi9, w⟩ := w
        refine jr_cV (pc := 247) (As := [_]) (ci := 10) F M (lw_V q2347 q2349 qs21 q145 q2350) dX4_advance_247 hC_X4_byteAt rfl (Nat.le_of_ble_eq_true rfl) (Nat.le_of_ble_eq_true rfl) (Nat.le_of_ble_eq_true rfl) rfl hi9 (Nat.zero_le _) (cC_X4_byteAt J w) (fun v9 h12 q9 => ?_) (fun E9 q9 h9 w9 => jr_out F M O (hE _ _ _ w9))
        obtain ⟨r11, rfl, w⟩ := q9
        refine jr_i2c (pc := 250) F dX4_advance_250 ?_
        refine jr_jV (pc := 251) (As := [_]) (ci := 26) F M (lw_V q2363 q2364 q2365 q130 q2366) dX4_advance_251 hj_J8_append_3 rfl (Nat.le_of_ble_eq_true rfl) (Nat.le_of_ble_eq_true rfl) (Nat.le_of_ble_eq_true rfl) rfl (jK_J8_append_3 J _ _ _ _ _ w) (fun v9 h13 k14 q9 => ?_)
        obtain ⟨r15, rfl, w⟩ := q9
        refine jr_pop (pc := 254) F dX4_advance_254 rfl ?_
        refine jr_aload_n (pc := 255) F (j := 0) dX4_advance_255 rfl ?_
        refine jr_dup (pc := 256) F dX4_advance_256 rfl ?_
        refine jr_gi (pc := 257) (ci := 10) (f := 2) F rfl in_X4 (Nat.le_of_ble_eq_true rfl) q2387 dX4_advance_257 w (fun g16 w => ?_)
        refine jr_iconst (pc := 260) F dX4_advance_260 ?_
        refine jr_iadd (pc := 261) F dX4_advance_261 ?_
        refine jr_pi (pc := 262) (ci := 10) (f := 2) F rfl in_X4 tyX4_ok nmX4 (Nat.le_of_ble_eq_true rfl) rfl rfl q2387 dX4_advance_262 w (fun h17 w => ?_)
        exact sC_X4_advance_j265 F M O J hi hQ hE _ _ _ _ w

theorem sC_X4_advance_l161 {X : jj_X} {N : Option jj_AV → jj_H → Prop} {XN : String → Nat → jj_H → Prop} (F : jj_F X RX4 cX4_advance 2) (M : jj_M X (none) 13 621 N XN) (O : jj_no X) (J : jj_GJ X.1 X.2.2.1) (hi : X.2.2.2.2.2.2.2.2.2.1.name = yX4_advance.name) {Q : jj_H → Prop} {E : String → Nat → jj_H → Prop} (hQ : ∀ h, Q h → N none h) (hE : ∀ e q h, E e q h → XN e q h) (x0 : Option Nat) (x1 : Option Nat) : ∀ (n : Nat) (h : jj_H) (k : Nat), fC_X4_advance_l161 (jj_gk X.1) x0 x1 Q E n h k → jj_J X 2 161 [(0, .inr (.inr (.inl x0))), (1, .inr (.inr (.inl x1)))] [] h k := by
  intro n
  induction n with
  | zero =>
    intro  h k w
    exact (show False from w).elim
  | succ n ih =>
    intro  h k w
    rw [fC_X4_advance_l161] at w
    refine jr_aload_n (pc := 161) F (j := 0) dX4_advance_161 rfl ?_
    refine jr_gi (pc := 162) (ci := 10) (f := 5) F rfl in_X4 (Nat.le_of_ble_eq_true rfl) q2390 dX4_advance_162 w (fun g18 w => ?_)
    obtain ⟨hx9, w1, w2⟩ := w
    refine jr_if_eq (pc := 165) (tgt := 216) F hx9 dX4_advance_165 rfl (fun c9 => ?_) (fun c9 => ?_)
    · have w := w1 c9
      exact sC_X4_advance_j216 F M O J hi hQ hE _ _ _ _ w
    · have w := w2 c9
      refine jr_aload_n (pc := 168) F (j := 0) dX4_advance_168 rfl ?_
      refine jr_aload_n (pc := 169) F (j := 0) dX4_advance_169 rfl ?_
      refine jr_gi (pc := 170) (ci := 10) (f := 2) F rfl in_X4 (Nat.le_of_ble_eq_true rfl) q2387 dX4_advance_170 w (fun g19 w => ?_)
      obtain ⟨hi9, w⟩ := w
      refine jr_cV (pc := 173) (As := [_]) (ci := 10) F M (lw_V q2347 q2349 qs21 q145 q2350) dX4_advance_173 hC_X4_byteAt rfl (Nat.le_of_ble_eq_true rfl) (Nat.le_of_ble_eq_true rfl) (Nat.le_of_ble_eq_true rfl) rfl hi9 (Nat.zero_le _) (cC_X4_byteAt J w) (fun v9 h22 q9 => ?_) (fun E9 q9 h9 w9 => jr_out F M O (hE _ _ _ w9))
      obtain ⟨r21, rfl, w⟩ := q9
      refine jr_i2l (pc := 176) F dX4_advance_176 ?_
      refine jr_ldc2 (pc := 177) F (x := 97) q2357 dX4_advance_177 (by decide +kernel) ?_
      refine jr_ldc2 (pc := 180) F (x := 122) q2358 dX4_advance_180 (by decide +kernel) ?_
      refine jr_callSN (pc := 183) (As := [_, _, _]) F M q2356 q1678 q120 q1679 dX4_advance_183 hC_X1_isBetween.2 rfl (Nat.le_of_ble_eq_true rfl) (Nat.le_of_ble_eq_true rfl) (Nat.le_of_ble_eq_true rfl) (Nat.zero_le _) (cC_X1_isBetween J w) (fun v9 h25 q9 => ?_) (fun E9 q9 h9 w9 => jr_out F M O (hE _ _ _ w9))
      obtain ⟨r24, rfl, w⟩ := q9
      obtain ⟨hx9, w1, w2⟩ := w
      refine jr_if_eq (pc := 186) (tgt := 216) F hx9 dX4_advance_186 rfl (fun c9 => ?_) (fun c9 => ?_)
      · have w := w1 c9
        exact sC_X4_advance_j216 F M O J hi hQ hE _ _ _ _ w
      · have w := w2 c9
        refine jr_aload_n (pc := 189) F (j := 1) dX4_advance_189 rfl ?_
        refine jr_aload_n (pc := 190) F (j := 0) dX4_advance_190 rfl ?_
        refine jr_aload_n (pc := 191) F (j := 0) dX4_advance_191 rfl ?_
        refine jr_gi (pc := 192) (ci := 10) (f := 2) F rfl in_X4 (Nat.le_of_ble_eq_true rfl) q2387 dX4_advance_192 w (fun g26 w => ?_)
        obtain ⟨hi9, w⟩ := w
        refine jr_cV (pc := 195) (As := [_]) (ci := 10) F M (lw_V q2347 q2349 qs21 q145 q2350) dX4_advance_195 hC_X4_byteAt rfl (Nat.le_of_ble_eq_true rfl) (Nat.le_of_ble_eq_true rfl) (Nat.le_of_ble_eq_true rfl) rfl hi9 (Nat.zero_le _) (cC_X4_byteAt J w) (fun v9 h29 q9 => ?_) (fun E9 q9 h9 w9 => jr_out F M O (hE _ _ _ w9))
        obtain ⟨r28, rfl, w⟩ := q9
        refine jr_i2c (pc := 198) F dX4_advance_198 ?_
        refine jr_jV (pc := 199) (As := [_]) (ci := 26) F M (lw_V q2363 q2364 q2365 q130 q2366) dX4_advance_199 hj_J8_append_3 rfl (Nat.le_of_ble_eq_true rfl) (Nat.le_of_ble_eq_true rfl) (Nat.le_of_ble_eq_true rfl) rfl (jK_J8_append_3 J _ _ _ _ _ w) (fun v9 h30 k31 q9 => ?_)
        obtain ⟨r32, rfl, w⟩ := q9
        refine jr_pop (pc := 202) F dX4_advance_202 rfl ?_
        refine jr_aload_n (pc := 203) F (j := 0) dX4_advance_203 rfl ?_
        refine jr_dup (pc := 204) F dX4_advance_204 rfl ?_
        refine jr_gi (pc := 205) (ci := 10) (f := 2) F rfl in_X4 (Nat.le_of_ble_eq_true rfl) q2387 dX4_advance_205 w (fun g33 w => ?_)
        refine jr_iconst (pc := 208) F dX4_advance_208 ?_
        refine jr_iadd (pc := 209) F dX4_advance_209 ?_
        refine jr_pi (pc := 210) (ci := 10) (f := 2) F rfl in_X4 tyX4_ok nmX4 (Nat.le_of_ble_eq_true rfl) rfl rfl q2387 dX4_advance_210 w (fun h34 w => ?_)
        refine jr_goto (pc := 213) (tgt := 161) F dX4_advance_213 rfl ?_
        exact ih _ _ w

theorem sC_X4_advance_l92 {X : jj_X} {N : Option jj_AV → jj_H → Prop} {XN : String → Nat → jj_H → Prop} (F : jj_F X RX4 cX4_advance 2) (M : jj_M X (none) 13 621 N XN) (O : jj_no X) (J : jj_GJ X.1 X.2.2.1) (hi : X.2.2.2.2.2.2.2.2.2.1.name = yX4_advance.name) {Q : jj_H → Prop} {E : String → Nat → jj_H → Prop} (hQ : ∀ h, Q h → N none h) (hE : ∀ e q h, E e q h → XN e q h) (x0 : Option Nat) (x1 : Option Nat) : ∀ (n : Nat) (h : jj_H) (k : Nat), fC_X4_advance_l92 (jj_gk X.1) x0 x1 Q E n h k → jj_J X 2 92 [(0, .inr (.inr (.inl x0))), (1, .inr (.inr (.inl x1)))] [] h k := by
  intro n
  induction n with
  | zero =>
    intro  h k w
    exact (show False from w).elim
  | succ n ih =>
    intro  h k w
    rw [fC_X4_advance_l92] at w
    refine jr_aload_n (pc := 92) F (j := 0) dX4_advance_92 rfl ?_
    refine jr_gi (pc := 93) (ci := 10) (f := 4) F rfl in_X4 (Nat.le_of_ble_eq_true rfl) q2389 dX4_advance_93 w (fun g35 w => ?_)
    obtain ⟨hx9, w1, w2⟩ := w
    refine jr_if_eq (pc := 96) (tgt := 161) F hx9 dX4_advance_96 rfl (fun c9 => ?_) (fun c9 => ?_)
    · have w := w1 c9
      obtain ⟨n9, w⟩ := w
      exact sC_X4_advance_l161 F M O J hi hQ hE _ _ n9 _ _ w
    · have w := w2 c9
      refine jr_aload_n (pc := 99) F (j := 0) dX4_advance_99 rfl ?_
      refine jr_aload_n (pc := 100) F (j := 0) dX4_advance_100 rfl ?_
      refine jr_gi (pc := 101) (ci := 10) (f := 2) F rfl in_X4 (Nat.le_of_ble_eq_true rfl) q2387 dX4_advance_101 w (fun g36 w => ?_)
      obtain ⟨hi9, w⟩ := w
      refine jr_cV (pc := 104) (As := [_]) (ci := 10) F M (lw_V q2347 q2349 qs21 q145 q2350) dX4_advance_104 hC_X4_byteAt rfl (Nat.le_of_ble_eq_true rfl) (Nat.le_of_ble_eq_true rfl) (Nat.le_of_ble_eq_true rfl) rfl hi9 (Nat.zero_le _) (cC_X4_byteAt J w) (fun v9 h39 q9 => ?_) (fun E9 q9 h9 w9 => jr_out F M O (hE _ _ _ w9))
      obtain ⟨r38, rfl, w⟩ := q9
      refine jr_i2l (pc := 107) F dX4_advance_107 ?_
      refine jr_ldc2 (pc := 108) F (x := 48) q2354 dX4_advance_108 (by decide +kernel) ?_
      refine jr_ldc2 (pc := 111) F (x := 57) q2355 dX4_advance_111 (by decide +kernel) ?_
      refine jr_callSN (pc := 114) (As := [_, _, _]) F M q2356 q1678 q120 q1679 dX4_advance_114 hC_X1_isBetween.2 rfl (Nat.le_of_ble_eq_true rfl) (Nat.le_of_ble_eq_true rfl) (Nat.le_of_ble_eq_true rfl) (Nat.zero_le _) (cC_X1_isBetween J w) (fun v9 h42 q9 => ?_) (fun E9 q9 h9 w9 => jr_out F M O (hE _ _ _ w9))
      obtain ⟨r41, rfl, w⟩ := q9
      obtain ⟨hx9, w1, w2⟩ := w
      refine jr_if_eq (pc := 117) (tgt := 161) F hx9 dX4_advance_117 rfl (fun c9 => ?_) (fun c9 => ?_)
      · have w := w1 c9
        obtain ⟨n9, w⟩ := w
        exact sC_X4_advance_l161 F M O J hi hQ hE _ _ n9 _ _ w
      · have w := w2 c9
        refine jr_aload_n (pc := 120) F (j := 0) dX4_advance_120 rfl ?_
        refine jr_ldc (pc := 121) F (x := 99999) q2361 dX4_advance_121 (by decide +kernel) ?_
        refine jr_bipush (pc := 123) F dX4_advance_123 (by decide +kernel) ?_
        refine jr_aload_n (pc := 125) F (j := 0) dX4_advance_125 rfl ?_
        refine jr_gi (pc := 126) (ci := 10) (f := 6) F rfl in_X4 (Nat.le_of_ble_eq_true rfl) q2391 dX4_advance_126 w (fun g43 w => ?_)
        refine jr_imul (pc := 129) F dX4_advance_129 ?_
        refine jr_aload_n (pc := 130) F (j := 0) dX4_advance_130 rfl ?_
        refine jr_aload_n (pc := 131) F (j := 0) dX4_advance_131 rfl ?_
        refine jr_gi (pc := 132) (ci := 10) (f := 2) F rfl in_X4 (Nat.le_of_ble_eq_true rfl) q2387 dX4_advance_132 w (fun g44 w => ?_)
        obtain ⟨hi9, w⟩ := w
        refine jr_cV (pc := 135) (As := [_]) (ci := 10) F M (lw_V q2347 q2349 qs21 q145 q2350) dX4_advance_135 hC_X4_byteAt rfl (Nat.le_of_ble_eq_true rfl) (Nat.le_of_ble_eq_true rfl) (Nat.le_of_ble_eq_true rfl) rfl hi9 (Nat.zero_le _) (cC_X4_byteAt J w) (fun v9 h47 q9 => ?_) (fun E9 q9 h9 w9 => jr_out F M O (hE _ _ _ w9))
        obtain ⟨r46, rfl, w⟩ := q9
        refine jr_iadd (pc := 138) F dX4_advance_138 ?_
        refine jr_bipush (pc := 139) F dX4_advance_139 (by decide +kernel) ?_
        refine jr_isub (pc := 141) F dX4_advance_141 ?_
        obtain ⟨hy9, w⟩ := w
        refine jr_mmin (pc := 142) F M ⟨by decide, by decide⟩ hy9 q2362 (Nat.le_of_ble_eq_true rfl) (Nat.le_of_ble_eq_true rfl) (Nat.le_of_ble_eq_true rfl) dX4_advance_142 ?_
        refine jr_pi (pc := 145) (ci := 10) (f := 6) F rfl in_X4 tyX4_ok nmX4 (Nat.le_of_ble_eq_true rfl) rfl rfl q2391 dX4_advance_145 w (fun h48 w => ?_)
        refine jr_aload_n (pc := 148) F (j := 0) dX4_advance_148 rfl ?_
        refine jr_dup (pc := 149) F dX4_advance_149 rfl ?_
        refine jr_gi (pc := 150) (ci := 10) (f := 2) F rfl in_X4 (Nat.le_of_ble_eq_true rfl) q2387 dX4_advance_150 w (fun g49 w => ?_)
        refine jr_iconst (pc := 153) F dX4_advance_153 ?_
        refine jr_iadd (pc := 154) F dX4_advance_154 ?_
        refine jr_pi (pc := 155) (ci := 10) (f := 2) F rfl in_X4 tyX4_ok nmX4 (Nat.le_of_ble_eq_true rfl) rfl rfl q2387 dX4_advance_155 w (fun h50 w => ?_)
        refine jr_goto (pc := 158) (tgt := 92) F dX4_advance_158 rfl ?_
        exact ih _ _ w

theorem sC_X4_advance_l0 {X : jj_X} {N : Option jj_AV → jj_H → Prop} {XN : String → Nat → jj_H → Prop} (F : jj_F X RX4 cX4_advance 2) (M : jj_M X (none) 13 621 N XN) (O : jj_no X) (J : jj_GJ X.1 X.2.2.1) (hi : X.2.2.2.2.2.2.2.2.2.1.name = yX4_advance.name) {Q : jj_H → Prop} {E : String → Nat → jj_H → Prop} (hQ : ∀ h, Q h → N none h) (hE : ∀ e q h, E e q h → XN e q h) (x0 : Option Nat) : ∀ (n : Nat) (h : jj_H) (k : Nat), fC_X4_advance_l0 (jj_gk X.1) x0 Q E n h k → jj_J X 2 0 [(0, .inr (.inr (.inl x0)))] [] h k := by
  intro n
  induction n with
  | zero =>
    intro  h k w
    exact (show False from w).elim
  | succ n ih =>
    intro  h k w
    rw [fC_X4_advance_l0] at w
    refine jr_aload_n (pc := 0) F (j := 0) dX4_advance_0 rfl ?_
    refine jr_aload_n (pc := 1) F (j := 0) dX4_advance_1 rfl ?_
    refine jr_gi (pc := 2) (ci := 10) (f := 2) F rfl in_X4 (Nat.le_of_ble_eq_true rfl) q2387 dX4_advance_2 w (fun g51 w => ?_)
    obtain ⟨hi9, w⟩ := w
    refine jr_cV (pc := 5) (As := [_]) (ci := 10) F M (lw_V q2347 q2349 qs21 q145 q2350) dX4_advance_5 hC_X4_byteAt rfl (Nat.le_of_ble_eq_true rfl) (Nat.le_of_ble_eq_true rfl) (Nat.le_of_ble_eq_true rfl) rfl hi9 (Nat.zero_le _) (cC_X4_byteAt J w) (fun v9 h54 q9 => ?_) (fun E9 q9 h9 w9 => jr_out F M O (hE _ _ _ w9))
    obtain ⟨r53, rfl, w⟩ := q9
    refine jr_callSN (pc := 8) (As := [_]) F M q2351 q2352 q120 q2353 dX4_advance_8 hC_X1_isBlank.2 rfl (Nat.le_of_ble_eq_true rfl) (Nat.le_of_ble_eq_true rfl) (Nat.le_of_ble_eq_true rfl) (Nat.zero_le _) (cC_X1_isBlank J w) (fun v9 h57 q9 => ?_) (fun E9 q9 h9 w9 => jr_out F M O (hE _ _ _ w9))
    obtain ⟨r56, rfl, w⟩ := q9
    obtain ⟨hx9, w1, w2⟩ := w
    refine jr_if_eq (pc := 11) (tgt := 27) F hx9 dX4_advance_11 rfl (fun c9 => ?_) (fun c9 => ?_)
    · have w := w1 c9
      refine jr_aload_n (pc := 27) F (j := 0) dX4_advance_27 rfl ?_
      refine jr_aload_n (pc := 28) F (j := 0) dX4_advance_28 rfl ?_
      refine jr_gi (pc := 29) (ci := 10) (f := 2) F rfl in_X4 (Nat.le_of_ble_eq_true rfl) q2387 dX4_advance_29 w (fun g58 w => ?_)
      refine jr_pi (pc := 32) (ci := 10) (f := 3) F rfl in_X4 tyX4_ok nmX4 (Nat.le_of_ble_eq_true rfl) rfl rfl q2388 dX4_advance_32 w (fun h59 w => ?_)
      refine jr_aload_n (pc := 35) F (j := 0) dX4_advance_35 rfl ?_
      refine jr_iconst (pc := 36) F dX4_advance_36 ?_
      refine jr_pi (pc := 37) (ci := 10) (f := 6) F rfl in_X4 tyX4_ok nmX4 (Nat.le_of_ble_eq_true rfl) rfl rfl q2391 dX4_advance_37 w (fun h60 w => ?_)
      refine jr_aload_n (pc := 40) F (j := 0) dX4_advance_40 rfl ?_
      refine jr_aload_n (pc := 41) F (j := 0) dX4_advance_41 rfl ?_
      refine jr_aload_n (pc := 42) F (j := 0) dX4_advance_42 rfl ?_
      refine jr_gi (pc := 43) (ci := 10) (f := 2) F rfl in_X4 (Nat.le_of_ble_eq_true rfl) q2387 dX4_advance_43 w (fun g61 w => ?_)
      obtain ⟨hi9, w⟩ := w
      refine jr_cV (pc := 46) (As := [_]) (ci := 10) F M (lw_V q2347 q2349 qs21 q145 q2350) dX4_advance_46 hC_X4_byteAt rfl (Nat.le_of_ble_eq_true rfl) (Nat.le_of_ble_eq_true rfl) (Nat.le_of_ble_eq_true rfl) rfl hi9 (Nat.zero_le _) (cC_X4_byteAt J w) (fun v9 h64 q9 => ?_) (fun E9 q9 h9 w9 => jr_out F M O (hE _ _ _ w9))
      obtain ⟨r63, rfl, w⟩ := q9
      refine jr_i2l (pc := 49) F dX4_advance_49 ?_
      refine jr_ldc2 (pc := 50) F (x := 48) q2354 dX4_advance_50 (by decide +kernel) ?_
      refine jr_ldc2 (pc := 53) F (x := 57) q2355 dX4_advance_53 (by decide +kernel) ?_
      refine jr_callSN (pc := 56) (As := [_, _, _]) F M q2356 q1678 q120 q1679 dX4_advance_56 hC_X1_isBetween.2 rfl (Nat.le_of_ble_eq_true rfl) (Nat.le_of_ble_eq_true rfl) (Nat.le_of_ble_eq_true rfl) (Nat.zero_le _) (cC_X1_isBetween J w) (fun v9 h67 q9 => ?_) (fun E9 q9 h9 w9 => jr_out F M O (hE _ _ _ w9))
      obtain ⟨r66, rfl, w⟩ := q9
      refine jr_pz (pc := 59) (ci := 10) (f := 4) F rfl in_X4 tyX4_ok nmX4 (Nat.le_of_ble_eq_true rfl) rfl rfl q2389 dX4_advance_59 w (fun h68 w => ?_)
      refine jr_aload_n (pc := 62) F (j := 0) dX4_advance_62 rfl ?_
      refine jr_aload_n (pc := 63) F (j := 0) dX4_advance_63 rfl ?_
      refine jr_aload_n (pc := 64) F (j := 0) dX4_advance_64 rfl ?_
      refine jr_gi (pc := 65) (ci := 10) (f := 2) F rfl in_X4 (Nat.le_of_ble_eq_true rfl) q2387 dX4_advance_65 w (fun g69 w => ?_)
      obtain ⟨hi9, w⟩ := w
      refine jr_cV (pc := 68) (As := [_]) (ci := 10) F M (lw_V q2347 q2349 qs21 q145 q2350) dX4_advance_68 hC_X4_byteAt rfl (Nat.le_of_ble_eq_true rfl) (Nat.le_of_ble_eq_true rfl) (Nat.le_of_ble_eq_true rfl) rfl hi9 (Nat.zero_le _) (cC_X4_byteAt J w) (fun v9 h72 q9 => ?_) (fun E9 q9 h9 w9 => jr_out F M O (hE _ _ _ w9))
      obtain ⟨r71, rfl, w⟩ := q9
      refine jr_i2l (pc := 71) F dX4_advance_71 ?_
      refine jr_ldc2 (pc := 72) F (x := 97) q2357 dX4_advance_72 (by decide +kernel) ?_
      refine jr_ldc2 (pc := 75) F (x := 122) q2358 dX4_advance_75 (by decide +kernel) ?_
      refine jr_callSN (pc := 78) (As := [_, _, _]) F M q2356 q1678 q120 q1679 dX4_advance_78 hC_X1_isBetween.2 rfl (Nat.le_of_ble_eq_true rfl) (Nat.le_of_ble_eq_true rfl) (Nat.le_of_ble_eq_true rfl) (Nat.zero_le _) (cC_X1_isBetween J w) (fun v9 h75 q9 => ?_) (fun E9 q9 h9 w9 => jr_out F M O (hE _ _ _ w9))
      obtain ⟨r74, rfl, w⟩ := q9
      refine jr_pz (pc := 81) (ci := 10) (f := 5) F rfl in_X4 tyX4_ok nmX4 (Nat.le_of_ble_eq_true rfl) rfl rfl q2390 dX4_advance_81 w (fun h76 w => ?_)
      refine jr_new (pc := 84) (ci := 26) F rfl in_J8 tyJ8_ok q2359 q263 q130 dfo_J8 rfl ⟨by decide, by decide⟩ dX4_advance_84 w (fun a77 h78 k79 w => ?_)
      refine jr_dup (pc := 87) F dX4_advance_87 rfl ?_
      refine jr_jI (pc := 88) (As := []) F M q2360 q265 q130 q266 dX4_advance_88 rfl hj_J8_init.2 rfl (Nat.le_of_ble_eq_true rfl) (Nat.le_of_ble_eq_true rfl) (Nat.le_of_ble_eq_true rfl) (jK_J8_init J _ _ _ _ w) (fun v9 h80 k81 q9 => ?_)
      obtain ⟨rfl, w⟩ := q9
      refine jr_astore_n (pc := 91) F (vs' := [(1, .inr (.inr (.inl _))), (0, .inr (.inr (.inl _)))]) dX4_advance_91 (Nat.le_of_ble_eq_true rfl) rfl ?_
      refine jj_J.sub [1, 0] rfl ?_
      obtain ⟨n9, w⟩ := w
      exact sC_X4_advance_l92 F M O J hi hQ hE _ _ n9 _ _ w
    · have w := w2 c9
      refine jr_aload_n (pc := 14) F (j := 0) dX4_advance_14 rfl ?_
      refine jr_dup (pc := 15) F dX4_advance_15 rfl ?_
      refine jr_gi (pc := 16) (ci := 10) (f := 2) F rfl in_X4 (Nat.le_of_ble_eq_true rfl) q2387 dX4_advance_16 w (fun g82 w => ?_)
      refine jr_iconst (pc := 19) F dX4_advance_19 ?_
      refine jr_iadd (pc := 20) F dX4_advance_20 ?_
      refine jr_pi (pc := 21) (ci := 10) (f := 2) F rfl in_X4 tyX4_ok nmX4 (Nat.le_of_ble_eq_true rfl) rfl rfl q2387 dX4_advance_21 w (fun h83 w => ?_)
      refine jr_goto (pc := 24) (tgt := 0) F dX4_advance_24 rfl ?_
      exact ih _ _ w

theorem sC_X4_advance {X : jj_X} {N : Option jj_AV → jj_H → Prop} {XN : String → Nat → jj_H → Prop} (F : jj_F X RX4 cX4_advance 2) (M : jj_M X (none) 13 621 N XN) (O : jj_no X) (J : jj_GJ X.1 X.2.2.1) (hi : X.2.2.2.2.2.2.2.2.2.1.name = yX4_advance.name) {Q : jj_H → Prop} {E : String → Nat → jj_H → Prop} (hQ : ∀ h, Q h → N none h) (hE : ∀ e q h, E e q h → XN e q h) (x0 : Option Nat) : ∀ (h : jj_H) (k : Nat), fC_X4_advance (jj_gk X.1) x0 Q E h k → jj_J X 2 0 [(0, .inr (.inr (.inl x0)))] [] h k := by
  intro h k w
  unfold fC_X4_advance at w
  obtain ⟨n9, w⟩ := w
  exact sC_X4_advance_l0 F M O J hi hQ hE _ n9 _ _ w

theorem cC_X4_advance {G : jj_G} {l : Launch} (J : jj_GJ G l) {x0 : Option Nat} {Q : jj_H → Prop} {E : String → Nat → jj_H → Prop} {h : jj_H} {k : Nat} (w : fC_X4_advance (jj_gk G) x0 Q E h k) : jj_Ct G l yX4_advance (ws_ yX4_advance cX4_advance 2 (none)) 13 621 [.inr (.inr (.inl x0))] h k (jc_v Q) E := by
  refine jj_Ct.of (jK_gs J).1 (by decide +kernel) (Nat.le_of_ble_eq_true rfl) rfl (fun X hG hl F M O hnm => ?_)
  subst hG; subst hl
  exact sC_X4_advance F M O J hnm (fun h q => ⟨rfl, q⟩) (fun _ _ _ q => q) _ _ _ w
theorem hC_X4_advance : yX4_advance.cls = RX4 ∧ yX4_advance.cls ≠ "java/lang/invoke/MethodHandle" ∧ yX4_advance.cls ≠ "java/lang/invoke/VarHandle" ∧ (parseMethodDescriptor yX4_advance.desc).map (fun d => d.parameters.length) = some 0 := by decide +kernel
/-! X4_init(LNoteImporter;ILNoteImporter$Library;)V -/
def fC_X4_init (gk : Nat → Nat) (x0 : Option Nat) (x1 : Option Nat) (x2 : Int) (x3 : Option Nat) (Q : jj_H → Prop) (E : String → Nat → jj_H → Prop) (h : jj_H) (k : Nat) : Prop :=
  jp_pr h x0 10 8 x1 (fun h1 =>
  jp_so x0 ∧
  jp_pr h1 x0 10 7 (some (gk 14)) (fun h2 =>
  jp_pi h2 x0 10 0 x2 (fun h3 =>
  jp_pr h3 x0 10 1 x3 (fun h4 =>
  jp_is h4 x0 10 ∧ ∃ c5, c5 ≤ k ∧ fC_X4_advance gk x0 (fun h7 =>
  Q h7) E h4 c5))))
theorem sC_X4_init {X : jj_X} {N : Option jj_AV → jj_H → Prop} {XN : String → Nat → jj_H → Prop} (F : jj_F X RX4 cX4_init 4) (M : jj_M X (none) 14 642 N XN) (O : jj_no X) (J : jj_GJ X.1 X.2.2.1) (hi : X.2.2.2.2.2.2.2.2.2.1.name = yX4_init.name) {Q : jj_H → Prop} {E : String → Nat → jj_H → Prop} (hQ : ∀ h, Q h → N none h) (hE : ∀ e q h, E e q h → XN e q h) (x0 : Option Nat) (x1 : Option Nat) (x2 : Int) (x3 : Option Nat) : ∀ (h : jj_H) (k : Nat), fC_X4_init (jj_gk X.1) x0 x1 x2 x3 Q E h k → jj_J X 4 0 [(0, .inr (.inr (.inl x0))), (1, .inr (.inr (.inl x1))), (2, .inl x2), (3, .inr (.inr (.inl x3)))] [] h k := by
  intro h k w
  unfold fC_X4_init at w
  refine jr_aload_n (pc := 0) F (j := 0) dX4_init_0 rfl ?_
  refine jr_aload_n (pc := 1) F (j := 1) dX4_init_1 rfl ?_
  refine jr_prF (pc := 2) (ci := 10) (f := 8) F rfl in_X4 tyX4_ok nmX4 (Nat.le_of_ble_eq_true rfl) rfl rfl rfl hi q2393 dX4_init_2 w (fun h1 w => ?_)
  refine jr_aload_n (pc := 5) F (j := 0) dX4_init_5 rfl ?_
  obtain ⟨ha9, w⟩ := w
  refine jr_objInitO (pc := 6) F M q2341 q192 q193 ha9 (Nat.le_of_ble_eq_true rfl) (Nat.le_of_ble_eq_true rfl) (Nat.le_of_ble_eq_true rfl) dX4_init_6 ?_
  refine jr_aload_n (pc := 9) F (j := 0) dX4_init_9 rfl ?_
  refine jr_ldcS (pc := 10) F (jK_gs J) 14 rfl dX4_init_10 ?_
  refine jr_pr (pc := 12) (ci := 10) (f := 7) F rfl in_X4 tyX4_ok nmX4 (Nat.le_of_ble_eq_true rfl) rfl rfl q2392 dX4_init_12 w (fun h2 w => ?_)
  refine jr_aload_n (pc := 15) F (j := 0) dX4_init_15 rfl ?_
  refine jr_iload_n (pc := 16) F (j := 2) dX4_init_16 rfl ?_
  refine jr_piF (pc := 17) (ci := 10) (f := 0) F rfl in_X4 tyX4_ok nmX4 (Nat.le_of_ble_eq_true rfl) rfl rfl rfl hi q2384 dX4_init_17 w (fun h3 w => ?_)
  refine jr_aload_n (pc := 20) F (j := 0) dX4_init_20 rfl ?_
  refine jr_aload_n (pc := 21) F (j := 3) dX4_init_21 rfl ?_
  refine jr_prF (pc := 22) (ci := 10) (f := 1) F rfl in_X4 tyX4_ok nmX4 (Nat.le_of_ble_eq_true rfl) rfl rfl rfl hi q2385 dX4_init_22 w (fun h4 w => ?_)
  refine jr_aload_n (pc := 25) F (j := 0) dX4_init_25 rfl ?_
  obtain ⟨hi9, c5, hk9, w⟩ := w
  refine jr_cV (pc := 26) (As := []) (ci := 10) F M (lw_V q2343 q2345 qs20 q145 q2346) dX4_init_26 hC_X4_advance rfl (Nat.le_of_ble_eq_true rfl) (Nat.le_of_ble_eq_true rfl) (Nat.le_of_ble_eq_true rfl) rfl hi9 hk9 (cC_X4_advance J w) (fun v9 h7 q9 => ?_) (fun E9 q9 h9 w9 => jr_out F M O (hE _ _ _ w9))
  obtain ⟨rfl, w⟩ := q9
  exact jr_vret (pc := 29) F M dX4_init_29 (hQ _ w)

theorem cC_X4_init {G : jj_G} {l : Launch} (J : jj_GJ G l) {x0 : Option Nat} {x1 : Option Nat} {x2 : Int} {x3 : Option Nat} {Q : jj_H → Prop} {E : String → Nat → jj_H → Prop} {h : jj_H} {k : Nat} (w : fC_X4_init (jj_gk G) x0 x1 x2 x3 Q E h k) : jj_Ct G l yX4_init (ws_ yX4_init cX4_init 4 (none)) 14 642 [.inr (.inr (.inl x0)), .inr (.inr (.inl x1)), .inl x2, .inr (.inr (.inl x3))] h k (jc_v Q) E := by
  refine jj_Ct.of (jK_gs J).1 (by decide +kernel) (Nat.le_of_ble_eq_true rfl) rfl (fun X hG hl F M O hnm => ?_)
  subst hG; subst hl
  exact sC_X4_init F M O J hnm (fun h q => ⟨rfl, q⟩) (fun _ _ _ q => q) _ _ _ _ _ _ w
theorem hC_X4_init : yX4_init.cls = RX4 ∧ yX4_init.cls ≠ "java/lang/invoke/MethodHandle" ∧ yX4_init.cls ≠ "java/lang/invoke/VarHandle" ∧ (parseMethodDescriptor yX4_init.desc).map (fun d => d.parameters.length) = some 3 := by decide +kernel
/-! X7_init(IILjava/lang/Exception;)V -/
def fC_X7_init (gk : Nat → Nat) (x0 : Option Nat) (x1 : Int) (x2 : Int) (x3 : Option Nat) (Q : jj_H → Prop) (E : String → Nat → jj_H → Prop) (h : jj_H) (k : Nat) : Prop :=
  jq_J4_init_3 x0 none x3 0 0 (fun h1 k2 =>
  jp_pi h1 x0 11 6 x1 (fun h3 =>
  jp_pi h3 x0 11 7 x2 (fun h4 =>
  Q h4))) h k
theorem sC_X7_init {X : jj_X} {N : Option jj_AV → jj_H → Prop} {XN : String → Nat → jj_H → Prop} (F : jj_F X RX7 cX7_init 4) (M : jj_M X (none) 13 624 N XN) (O : jj_no X) (J : jj_GJ X.1 X.2.2.1) (hi : X.2.2.2.2.2.2.2.2.2.1.name = yX7_init.name) {Q : jj_H → Prop} {E : String → Nat → jj_H → Prop} (hQ : ∀ h, Q h → N none h) (hE : ∀ e q h, E e q h → XN e q h) (x0 : Option Nat) (x1 : Int) (x2 : Int) (x3 : Option Nat) : ∀ (h : jj_H) (k : Nat), fC_X7_init (jj_gk X.1) x0 x1 x2 x3 Q E h k → jj_J X 4 0 [(0, .inr (.inr (.inl x0))), (1, .inl x1), (2, .inl x2), (3, .inr (.inr (.inl x3)))] [] h k := by
  intro h k w
  unfold fC_X7_init at w
  refine jr_aload_n (pc := 0) F (j := 0) dX7_init_0 rfl ?_
  refine jr_null (pc := 1) F dX7_init_1 ?_
  refine jr_aload_n (pc := 2) F (j := 3) dX7_init_2 rfl ?_
  refine jr_iconst (pc := 3) F dX7_init_3 ?_
  refine jr_iconst (pc := 4) F dX7_init_4 ?_
  refine jr_jI (pc := 5) (As := [_, _, _, _]) F M q2444 q2445 q126 q2446 dX7_init_5 rfl hj_J4_init_3.2 rfl (Nat.le_of_ble_eq_true rfl) (Nat.le_of_ble_eq_true rfl) (Nat.le_of_ble_eq_true rfl) (jK_J4_init_3 J _ _ _ _ _ _ _ _ w) (fun v9 h1 k2 q9 => ?_)
  obtain ⟨rfl, w⟩ := q9
  refine jr_aload_n (pc := 8) F (j := 0) dX7_init_8 rfl ?_
  refine jr_iload_n (pc := 9) F (j := 1) dX7_init_9 rfl ?_
  refine jr_piF (pc := 10) (ci := 11) (f := 6) F rfl in_X7 tyX7_ok nmX7 (Nat.le_of_ble_eq_true rfl) rfl rfl rfl hi q2450 dX7_init_10 w (fun h3 w => ?_)
  refine jr_aload_n (pc := 13) F (j := 0) dX7_init_13 rfl ?_
  refine jr_iload_n (pc := 14) F (j := 2) dX7_init_14 rfl ?_
  refine jr_piF (pc := 15) (ci := 11) (f := 7) F rfl in_X7 tyX7_ok nmX7 (Nat.le_of_ble_eq_true rfl) rfl rfl rfl hi q2452 dX7_init_15 w (fun h4 w => ?_)
  exact jr_vret (pc := 18) F M dX7_init_18 (hQ _ w)

theorem cC_X7_init {G : jj_G} {l : Launch} (J : jj_GJ G l) {x0 : Option Nat} {x1 : Int} {x2 : Int} {x3 : Option Nat} {Q : jj_H → Prop} {E : String → Nat → jj_H → Prop} {h : jj_H} {k : Nat} (w : fC_X7_init (jj_gk G) x0 x1 x2 x3 Q E h k) : jj_Ct G l yX7_init (ws_ yX7_init cX7_init 4 (none)) 13 624 [.inr (.inr (.inl x0)), .inl x1, .inl x2, .inr (.inr (.inl x3))] h k (jc_v Q) E := by
  refine jj_Ct.of (jK_gs J).1 (by decide +kernel) (Nat.le_of_ble_eq_true rfl) rfl (fun X hG hl F M O hnm => ?_)
  subst hG; subst hl
  exact sC_X7_init F M O J hnm (fun h q => ⟨rfl, q⟩) (fun _ _ _ q => q) _ _ _ _ _ _ w
theorem hC_X7_init : yX7_init.cls = RX7 ∧ yX7_init.cls ≠ "java/lang/invoke/MethodHandle" ∧ yX7_init.cls ≠ "java/lang/invoke/VarHandle" ∧ (parseMethodDescriptor yX7_init.desc).map (fun d => d.parameters.length) = some 3 := by decide +kernel
/-! X4_require(ZI)V -/
def fC_X4_require (gk : Nat → Nat) (x0 : Option Nat) (x1 : Int) (x2 : Int) (Q : jj_H → Prop) (E : String → Nat → jj_H → Prop) (h : jj_H) (k : Nat) : Prop :=
  jj_r x1 ∧ (¬ x1 = 0 → (
    Q h)) ∧
  (x1 = 0 → (
    jp_nw h k 11 2 df_X7 (fun a1 h2 k3 =>
    jp_gi h2 x0 10 3 (fun g4 =>
    jp_so (some a1) ∧ fC_X7_init gk (some a1) x2 g4 none (fun h7 =>
    jp_th h7 (some a1) 11 (fun q9 => E "NoteImporter$ImportException" q9 h7)) E h2 0))))
theorem sC_X4_require {X : jj_X} {N : Option jj_AV → jj_H → Prop} {XN : String → Nat → jj_H → Prop} (F : jj_F X RX4 cX4_require 3) (M : jj_M X (none) 14 647 N XN) (O : jj_no X) (J : jj_GJ X.1 X.2.2.1) (hi : X.2.2.2.2.2.2.2.2.2.1.name = yX4_require.name) {Q : jj_H → Prop} {E : String → Nat → jj_H → Prop} (hQ : ∀ h, Q h → N none h) (hE : ∀ e q h, E e q h → XN e q h) (x0 : Option Nat) (x1 : Int) (x2 : Int) : ∀ (h : jj_H) (k : Nat), fC_X4_require (jj_gk X.1) x0 x1 x2 Q E h k → jj_J X 3 0 [(0, .inr (.inr (.inl x0))), (1, .inl x1), (2, .inl x2)] [] h k := by
  intro h k w
  unfold fC_X4_require at w
  refine jr_iload_n (pc := 0) F (j := 1) dX4_require_0 rfl ?_
  obtain ⟨hx9, w1, w2⟩ := w
  refine jr_if_ne (pc := 1) (tgt := 18) F hx9 dX4_require_1 rfl (fun c9 => ?_) (fun c9 => ?_)
  · have w := w1 c9
    exact jr_vret (pc := 18) F M dX4_require_18 (hQ _ w)
  · have w := w2 c9
    refine jr_new (pc := 4) (ci := 11) F rfl in_X7 tyX7_ok q2432 q2433 q173 dfo_X7 rfl ⟨by decide, by decide⟩ dX4_require_4 w (fun a1 h2 k3 w => ?_)
    refine jr_dup (pc := 7) F dX4_require_7 rfl ?_
    refine jr_iload_n (pc := 8) F (j := 2) dX4_require_8 rfl ?_
    refine jr_aload_n (pc := 9) F (j := 0) dX4_require_9 rfl ?_
    refine jr_gi (pc := 10) (ci := 10) (f := 3) F rfl in_X4 (Nat.le_of_ble_eq_true rfl) q2388 dX4_require_10 w (fun g4 w => ?_)
    refine jr_null (pc := 13) F dX4_require_13 ?_
    obtain ⟨hi9, w⟩ := w
    refine jr_cI (pc := 14) (As := [_, _, _]) F M q2441 q2442 q173 q2443 dX4_require_14 rfl hC_X7_init.2 rfl (Nat.le_of_ble_eq_true rfl) (Nat.le_of_ble_eq_true rfl) (Nat.le_of_ble_eq_true rfl) hi9 (Nat.zero_le _) (cC_X7_init J w) (fun v9 h7 q9 => ?_) (fun E9 q9 h9 w9 => jr_out F M O (hE _ _ _ w9))
    obtain ⟨rfl, w⟩ := q9
    refine jr_thr (pc := 17) (ci := 11) F rfl dX4_require_17 w (fun q9 w => ?_)
    exact jr_out F M O (hE _ _ _ w)

theorem cC_X4_require {G : jj_G} {l : Launch} (J : jj_GJ G l) {x0 : Option Nat} {x1 : Int} {x2 : Int} {Q : jj_H → Prop} {E : String → Nat → jj_H → Prop} {h : jj_H} {k : Nat} (w : fC_X4_require (jj_gk G) x0 x1 x2 Q E h k) : jj_Ct G l yX4_require (ws_ yX4_require cX4_require 3 (none)) 14 647 [.inr (.inr (.inl x0)), .inl x1, .inl x2] h k (jc_v Q) E := by
  refine jj_Ct.of (jK_gs J).1 (by decide +kernel) (Nat.le_of_ble_eq_true rfl) rfl (fun X hG hl F M O hnm => ?_)
  subst hG; subst hl
  exact sC_X4_require F M O J hnm (fun h q => ⟨rfl, q⟩) (fun _ _ _ q => q) _ _ _ _ _ w
theorem hC_X4_require : yX4_require.cls = RX4 ∧ yX4_require.cls ≠ "java/lang/invoke/MethodHandle" ∧ yX4_require.cls ≠ "java/lang/invoke/VarHandle" ∧ (parseMethodDescriptor yX4_require.desc).map (fun d => d.parameters.length) = some 2 := by decide +kernel
/-! X4_expect(Ljava/lang/String;)V -/
def fC_X4_expect (gk : Nat → Nat) (x0 : Option Nat) (x1 : Option Nat) (Q : jj_H → Prop) (E : String → Nat → jj_H → Prop) (h : jj_H) (k : Nat) : Prop :=
  jp_gr h x0 10 7 (fun g1 =>
  jq_J9_equals g1 x1 (fun r4 h2 k3 =>
  jp_is h2 x0 10 ∧ ∃ c5, c5 ≤ k3 ∧ fC_X4_require gk x0 r4 1 (fun h7 =>
  jp_is h7 x0 10 ∧ ∃ c8, c8 ≤ (k3 - c5) ∧ fC_X4_advance gk x0 (fun h10 =>
  Q h10) E h7 c8) E h2 c5) h k)
theorem sC_X4_expect {X : jj_X} {N : Option jj_AV → jj_H → Prop} {XN : String → Nat → jj_H → Prop} (F : jj_F X RX4 cX4_expect 2) (M : jj_M X (none) 15 669 N XN) (O : jj_no X) (J : jj_GJ X.1 X.2.2.1) (hi : X.2.2.2.2.2.2.2.2.2.1.name = yX4_expect.name) {Q : jj_H → Prop} {E : String → Nat → jj_H → Prop} (hQ : ∀ h, Q h → N none h) (hE : ∀ e q h, E e q h → XN e q h) (x0 : Option Nat) (x1 : Option Nat) : ∀ (h : jj_H) (k : Nat), fC_X4_expect (jj_gk X.1) x0 x1 Q E h k → jj_J X 2 0 [(0, .inr (.inr (.inl x0))), (1, .inr (.inr (.inl x1)))] [] h k := by
  intro h k w
  unfold fC_X4_expect at w
  refine jr_aload_n (pc := 0) F (j := 0) dX4_expect_0 rfl ?_
  refine jr_aload_n (pc := 1) F (j := 0) dX4_expect_1 rfl ?_
  refine jr_gr (pc := 2) (ci := 10) (f := 7) F rfl in_X4 (Nat.le_of_ble_eq_true rfl) q2392 dX4_expect_2 w (fun g1 w => ?_)
  refine jr_aload_n (pc := 5) F (j := 1) dX4_expect_5 rfl ?_
  refine jr_jV (pc := 6) (As := [_]) (ci := 25) F M (lw_V q2423 q713 q714 q131 q715) dX4_expect_6 hj_J9_equals rfl (Nat.le_of_ble_eq_true rfl) (Nat.le_of_ble_eq_true rfl) (Nat.le_of_ble_eq_true rfl) rfl (jK_J9_equals J _ _ _ _ _ w) (fun v9 h2 k3 q9 => ?_)
  obtain ⟨r4, rfl, w⟩ := q9
  refine jr_iconst (pc := 9) F dX4_expect_9 ?_
  obtain ⟨hi9, c5, hk9, w⟩ := w
  refine jr_cV (pc := 10) (As := [_, _]) (ci := 10) F M (lw_V q2428 q2430 qs23 q145 q2431) dX4_expect_10 hC_X4_require rfl (Nat.le_of_ble_eq_true rfl) (Nat.le_of_ble_eq_true rfl) (Nat.le_of_ble_eq_true rfl) rfl hi9 hk9 (cC_X4_require J w) (fun v9 h7 q9 => ?_) (fun E9 q9 h9 w9 => jr_out F M O (hE _ _ _ w9))
  obtain ⟨rfl, w⟩ := q9
  refine jr_aload_n (pc := 13) F (j := 0) dX4_expect_13 rfl ?_
  obtain ⟨hi9, c8, hk9, w⟩ := w
  refine jr_cV (pc := 14) (As := []) (ci := 10) F M (lw_V q2343 q2345 qs20 q145 q2346) dX4_expect_14 hC_X4_advance rfl (Nat.le_of_ble_eq_true rfl) (Nat.le_of_ble_eq_true rfl) (Nat.le_of_ble_eq_true rfl) rfl hi9 hk9 (cC_X4_advance J w) (fun v9 h10 q9 => ?_) (fun E9 q9 h9 w9 => jr_out F M O (hE _ _ _ w9))
  obtain ⟨rfl, w⟩ := q9
  exact jr_vret (pc := 17) F M dX4_expect_17 (hQ _ w)

theorem cC_X4_expect {G : jj_G} {l : Launch} (J : jj_GJ G l) {x0 : Option Nat} {x1 : Option Nat} {Q : jj_H → Prop} {E : String → Nat → jj_H → Prop} {h : jj_H} {k : Nat} (w : fC_X4_expect (jj_gk G) x0 x1 Q E h k) : jj_Ct G l yX4_expect (ws_ yX4_expect cX4_expect 2 (none)) 15 669 [.inr (.inr (.inl x0)), .inr (.inr (.inl x1))] h k (jc_v Q) E := by
  refine jj_Ct.of (jK_gs J).1 (by decide +kernel) (Nat.le_of_ble_eq_true rfl) rfl (fun X hG hl F M O hnm => ?_)
  subst hG; subst hl
  exact sC_X4_expect F M O J hnm (fun h q => ⟨rfl, q⟩) (fun _ _ _ q => q) _ _ _ _ w
theorem hC_X4_expect : yX4_expect.cls = RX4 ∧ yX4_expect.cls ≠ "java/lang/invoke/MethodHandle" ∧ yX4_expect.cls ≠ "java/lang/invoke/VarHandle" ∧ (parseMethodDescriptor yX4_expect.desc).map (fun d => d.parameters.length) = some 1 := by decide +kernel
/-! X2_addEdition(LNoteImporter$Edition;)I -/
def fC_X2_addEdition (gk : Nat → Nat) (x0 : Option Nat) (x1 : Option Nat) (Q : Int → jj_H → Prop) (E : String → Nat → jj_H → Prop) (h : jj_H) (k : Nat) : Prop :=
  jp_is h x1 3 ∧ fC_X5_lay gk x1 (fun h3 =>
  jp_gr h3 x0 2 0 (fun g4 =>
  jq_J2_add g4 x1 (fun r7 h5 k6 =>
  jp_gr h5 x0 2 0 (fun g8 =>
  jq_J2_size g8 (fun r11 h9 k10 =>
  Q (r11 - 1) h9) h5 k6)) h3 k)) E h 0
theorem sC_X2_addEdition {X : jj_X} {N : Option jj_AV → jj_H → Prop} {XN : String → Nat → jj_H → Prop} (F : jj_F X RX2 cX2_addEdition 2) (M : jj_M X (some (.int)) 15 665 N XN) (O : jj_no X) (J : jj_GJ X.1 X.2.2.1) (hi : X.2.2.2.2.2.2.2.2.2.1.name = yX2_addEdition.name) {Q : Int → jj_H → Prop} {E : String → Nat → jj_H → Prop} (hQ : ∀ r h, Q r h → N (some (.inl r)) h) (hE : ∀ e q h, E e q h → XN e q h) (x0 : Option Nat) (x1 : Option Nat) : ∀ (h : jj_H) (k : Nat), fC_X2_addEdition (jj_gk X.1) x0 x1 Q E h k → jj_J X 2 0 [(0, .inr (.inr (.inl x0))), (1, .inr (.inr (.inl x1)))] [] h k := by
  intro h k w
  unfold fC_X2_addEdition at w
  refine jr_aload_n (pc := 0) F (j := 1) dX2_addEdition_0 rfl ?_
  obtain ⟨hi9, w⟩ := w
  refine jr_cV (pc := 1) (As := []) (ci := 3) F M (lw_V q2512 q1990 q1991 q149 q1992) dX2_addEdition_1 hC_X5_lay rfl (Nat.le_of_ble_eq_true rfl) (Nat.le_of_ble_eq_true rfl) (Nat.le_of_ble_eq_true rfl) rfl hi9 (Nat.zero_le _) (cC_X5_lay J w) (fun v9 h3 q9 => ?_) (fun E9 q9 h9 w9 => jr_out F M O (hE _ _ _ w9))
  obtain ⟨rfl, w⟩ := q9
  refine jr_aload_n (pc := 4) F (j := 0) dX2_addEdition_4 rfl ?_
  refine jr_gr (pc := 5) (ci := 2) (f := 0) F rfl in_X2 (Nat.le_of_ble_eq_true rfl) q589 dX2_addEdition_5 w (fun g4 w => ?_)
  refine jr_aload_n (pc := 8) F (j := 1) dX2_addEdition_8 rfl ?_
  refine jr_jV (pc := 9) (As := [_]) (ci := 14) F M (lw_V q1999 q820 q821 q124 q822) dX2_addEdition_9 hj_J2_add rfl (Nat.le_of_ble_eq_true rfl) (Nat.le_of_ble_eq_true rfl) (Nat.le_of_ble_eq_true rfl) rfl (jK_J2_add J _ _ _ _ _ w) (fun v9 h5 k6 q9 => ?_)
  obtain ⟨r7, rfl, w⟩ := q9
  refine jr_pop (pc := 12) F dX2_addEdition_12 rfl ?_
  refine jr_aload_n (pc := 13) F (j := 0) dX2_addEdition_13 rfl ?_
  refine jr_gr (pc := 14) (ci := 2) (f := 0) F rfl in_X2 (Nat.le_of_ble_eq_true rfl) q589 dX2_addEdition_14 w (fun g8 w => ?_)
  refine jr_jV (pc := 17) (As := []) (ci := 14) F M (lw_V q2335 q676 q677 q124 q678) dX2_addEdition_17 hj_J2_size rfl (Nat.le_of_ble_eq_true rfl) (Nat.le_of_ble_eq_true rfl) (Nat.le_of_ble_eq_true rfl) rfl (jK_J2_size J _ _ _ _ w) (fun v9 h9 k10 q9 => ?_)
  obtain ⟨r11, rfl, w⟩ := q9
  refine jr_iconst (pc := 20) F dX2_addEdition_20 ?_
  refine jr_isub (pc := 21) F dX2_addEdition_21 ?_
  exact jr_iret (pc := 22) F M dX2_addEdition_22 (hQ _ _ w)

theorem cC_X2_addEdition {G : jj_G} {l : Launch} (J : jj_GJ G l) {x0 : Option Nat} {x1 : Option Nat} {Q : Int → jj_H → Prop} {E : String → Nat → jj_H → Prop} {h : jj_H} {k : Nat} (w : fC_X2_addEdition (jj_gk G) x0 x1 Q E h k) : jj_Ct G l yX2_addEdition (ws_ yX2_addEdition cX2_addEdition 2 (some (.int))) 15 665 [.inr (.inr (.inl x0)), .inr (.inr (.inl x1))] h k (jc_i Q) E := by
  refine jj_Ct.of (jK_gs J).1 (by decide +kernel) (Nat.le_of_ble_eq_true rfl) rfl (fun X hG hl F M O hnm => ?_)
  subst hG; subst hl
  exact sC_X2_addEdition F M O J hnm (fun r h q => ⟨r, rfl, q⟩) (fun _ _ _ q => q) _ _ _ _ w
theorem hC_X2_addEdition : yX2_addEdition.cls = RX2 ∧ yX2_addEdition.cls ≠ "java/lang/invoke/MethodHandle" ∧ yX2_addEdition.cls ≠ "java/lang/invoke/VarHandle" ∧ (parseMethodDescriptor yX2_addEdition.desc).map (fun d => d.parameters.length) = some 1 := by decide +kernel
/-! X8_init()V -/
def fC_X8_init (gk : Nat → Nat) (x0 : Option Nat) (Q : jj_H → Prop) (E : String → Nat → jj_H → Prop) (h : jj_H) (k : Nat) : Prop :=
  jq_J4_init_3 x0 none none 0 0 (fun h1 k2 =>
  Q h1) h k
theorem sC_X8_init {X : jj_X} {N : Option jj_AV → jj_H → Prop} {XN : String → Nat → jj_H → Prop} (F : jj_F X RX8 cX8_init 1) (M : jj_M X (none) 13 624 N XN) (O : jj_no X) (J : jj_GJ X.1 X.2.2.1) (hi : X.2.2.2.2.2.2.2.2.2.1.name = yX8_init.name) {Q : jj_H → Prop} {E : String → Nat → jj_H → Prop} (hQ : ∀ h, Q h → N none h) (hE : ∀ e q h, E e q h → XN e q h) (x0 : Option Nat) : ∀ (h : jj_H) (k : Nat), fC_X8_init (jj_gk X.1) x0 Q E h k → jj_J X 1 0 [(0, .inr (.inr (.inl x0)))] [] h k := by
  intro h k w
  unfold fC_X8_init at w
  refine jr_aload_n (pc := 0) F (j := 0) dX8_init_0 rfl ?_
  refine jr_null (pc := 1) F dX8_init_1 ?_
  refine jr_null (pc := 2) F dX8_init_2 ?_
  refine jr_iconst (pc := 3) F dX8_init_3 ?_
  refine jr_iconst (pc := 4) F dX8_init_4 ?_
  refine jr_jI (pc := 5) (As := [_, _, _, _]) F M q2492 q2445 q126 q2446 dX8_init_5 rfl hj_J4_init_3.2 rfl (Nat.le_of_ble_eq_true rfl) (Nat.le_of_ble_eq_true rfl) (Nat.le_of_ble_eq_true rfl) (jK_J4_init_3 J _ _ _ _ _ _ _ _ w) (fun v9 h1 k2 q9 => ?_)
  obtain ⟨rfl, w⟩ := q9
  exact jr_vret (pc := 8) F M dX8_init_8 (hQ _ w)

theorem cC_X8_init {G : jj_G} {l : Launch} (J : jj_GJ G l) {x0 : Option Nat} {Q : jj_H → Prop} {E : String → Nat → jj_H → Prop} {h : jj_H} {k : Nat} (w : fC_X8_init (jj_gk G) x0 Q E h k) : jj_Ct G l yX8_init (ws_ yX8_init cX8_init 1 (none)) 13 624 [.inr (.inr (.inl x0))] h k (jc_v Q) E := by
  refine jj_Ct.of (jK_gs J).1 (by decide +kernel) (Nat.le_of_ble_eq_true rfl) rfl (fun X hG hl F M O hnm => ?_)
  subst hG; subst hl
  exact sC_X8_init F M O J hnm (fun h q => ⟨rfl, q⟩) (fun _ _ _ q => q) _ _ _ w
theorem hC_X8_init : yX8_init.cls = RX8 ∧ yX8_init.cls ≠ "java/lang/invoke/MethodHandle" ∧ yX8_init.cls ≠ "java/lang/invoke/VarHandle" ∧ (parseMethodDescriptor yX8_init.desc).map (fun d => d.parameters.length) = some 0 := by decide +kernel
/-! X4_word()Ljava/lang/String; -/
def fC_X4_word_j19 (gk : Nat → Nat) (Q : Option Nat → jj_H → Prop) (E : String → Nat → jj_H → Prop) (h : jj_H) (k : Nat) : Prop :=
  jp_nw h k 12 2 df_X8 (fun a1 h2 k3 =>
  jp_so (some a1) ∧ fC_X8_init gk (some a1) (fun h6 =>
  jp_th h6 (some a1) 12 (fun q9 => E "NoteImporter$WordException" q9 h6)) E h2 0)
def fC_X4_word (gk : Nat → Nat) (x0 : Option Nat) (Q : Option Nat → jj_H → Prop) (E : String → Nat → jj_H → Prop) (h : jj_H) (k : Nat) : Prop :=
  jp_gi h x0 10 5 (fun g7 =>
  jj_r g7 ∧ (g7 = 0 → (
    fC_X4_word_j19 gk Q E h k)) ∧
  (¬ g7 = 0 → (
    jp_gr h x0 10 7 (fun g8 =>
    jq_J9_length g8 (fun r11 h9 k10 =>
    jj_r r11 ∧ (r11 ≤ 8 → (
      jp_gr h9 x0 10 7 (fun g12 =>
      Q g12 h9))) ∧
    (¬ r11 ≤ 8 → (
      fC_X4_word_j19 gk Q E h9 k10))) h k))))
theorem sC_X4_word_j19 {X : jj_X} {N : Option jj_AV → jj_H → Prop} {XN : String → Nat → jj_H → Prop} (F : jj_F X RX4 cX4_word 1) (M : jj_M X (some ((.object "java/lang/String"))) 14 644 N XN) (O : jj_no X) (J : jj_GJ X.1 X.2.2.1) (hi : X.2.2.2.2.2.2.2.2.2.1.name = yX4_word.name) {Q : Option Nat → jj_H → Prop} {E : String → Nat → jj_H → Prop} (hQ : ∀ r h, Q r h → N (some (.inr (.inr (.inl r)))) h) (hE : ∀ e q h, E e q h → XN e q h) : ∀ (h : jj_H) (k : Nat), fC_X4_word_j19 (jj_gk X.1) Q E h k → jj_J X 1 19 [] [] h k := by
  intro h k w
  unfold fC_X4_word_j19 at w
  refine jr_new (pc := 19) (ci := 12) F rfl in_X8 tyX8_ok q2475 q2481 q174 dfo_X8 rfl ⟨by decide, by decide⟩ dX4_word_19 w (fun a1 h2 k3 w => ?_)
  refine jr_dup (pc := 22) F dX4_word_22 rfl ?_
  obtain ⟨hi9, w⟩ := w
  refine jr_cI (pc := 23) (As := []) F M q2489 q2490 q174 q2491 dX4_word_23 rfl hC_X8_init.2 rfl (Nat.le_of_ble_eq_true rfl) (Nat.le_of_ble_eq_true rfl) (Nat.le_of_ble_eq_true rfl) hi9 (Nat.zero_le _) (cC_X8_init J w) (fun v9 h6 q9 => ?_) (fun E9 q9 h9 w9 => jr_out F M O (hE _ _ _ w9))
  obtain ⟨rfl, w⟩ := q9
  refine jr_thr (pc := 26) (ci := 12) F rfl dX4_word_26 w (fun q9 w => ?_)
  exact jr_out F M O (hE _ _ _ w)

theorem sC_X4_word {X : jj_X} {N : Option jj_AV → jj_H → Prop} {XN : String → Nat → jj_H → Prop} (F : jj_F X RX4 cX4_word 1) (M : jj_M X (some ((.object "java/lang/String"))) 14 644 N XN) (O : jj_no X) (J : jj_GJ X.1 X.2.2.1) (hi : X.2.2.2.2.2.2.2.2.2.1.name = yX4_word.name) {Q : Option Nat → jj_H → Prop} {E : String → Nat → jj_H → Prop} (hQ : ∀ r h, Q r h → N (some (.inr (.inr (.inl r)))) h) (hE : ∀ e q h, E e q h → XN e q h) (x0 : Option Nat) : ∀ (h : jj_H) (k : Nat), fC_X4_word (jj_gk X.1) x0 Q E h k → jj_J X 1 0 [(0, .inr (.inr (.inl x0)))] [] h k := by
  intro h k w
  unfold fC_X4_word at w
  refine jr_aload_n (pc := 0) F (j := 0) dX4_word_0 rfl ?_
  refine jr_gi (pc := 1) (ci := 10) (f := 5) F rfl in_X4 (Nat.le_of_ble_eq_true rfl) q2390 dX4_word_1 w (fun g7 w => ?_)
  obtain ⟨hx9, w1, w2⟩ := w
  refine jr_if_eq (pc := 4) (tgt := 19) F hx9 dX4_word_4 rfl (fun c9 => ?_) (fun c9 => ?_)
  · have w := w1 c9
    refine jj_J.sub [] rfl ?_
    exact sC_X4_word_j19 F M O J hi hQ hE _ _ w
  · have w := w2 c9
    refine jr_aload_n (pc := 7) F (j := 0) dX4_word_7 rfl ?_
    refine jr_gr (pc := 8) (ci := 10) (f := 7) F rfl in_X4 (Nat.le_of_ble_eq_true rfl) q2392 dX4_word_8 w (fun g8 w => ?_)
    refine jr_jV (pc := 11) (As := []) (ci := 25) F M (lw_V q2480 q374 q375 q131 q376) dX4_word_11 hj_J9_length rfl (Nat.le_of_ble_eq_true rfl) (Nat.le_of_ble_eq_true rfl) (Nat.le_of_ble_eq_true rfl) rfl (jK_J9_length J _ _ _ _ w) (fun v9 h9 k10 q9 => ?_)
    obtain ⟨r11, rfl, w⟩ := q9
    refine jr_bipush (pc := 14) F dX4_word_14 (by decide +kernel) ?_
    obtain ⟨hx9, w1, w2⟩ := w
    refine jr_icmp_le (pc := 16) (tgt := 27) F hx9 ⟨by decide, by decide⟩ dX4_word_16 rfl (fun c9 => ?_) (fun c9 => ?_)
    · have w := w1 c9
      refine jr_aload_n (pc := 27) F (j := 0) dX4_word_27 rfl ?_
      refine jr_gr (pc := 28) (ci := 10) (f := 7) F rfl in_X4 (Nat.le_of_ble_eq_true rfl) q2392 dX4_word_28 w (fun g12 w => ?_)
      exact jr_aret (pc := 31) F M (Or.inl ⟨_, rfl⟩) dX4_word_31 (hQ _ _ w)
    · have w := w2 c9
      refine jj_J.sub [] rfl ?_
      exact sC_X4_word_j19 F M O J hi hQ hE _ _ w

theorem cC_X4_word {G : jj_G} {l : Launch} (J : jj_GJ G l) {x0 : Option Nat} {Q : Option Nat → jj_H → Prop} {E : String → Nat → jj_H → Prop} {h : jj_H} {k : Nat} (w : fC_X4_word (jj_gk G) x0 Q E h k) : jj_Ct G l yX4_word (ws_ yX4_word cX4_word 1 (some ((.object "java/lang/String")))) 14 644 [.inr (.inr (.inl x0))] h k (jc_r Q) E := by
  refine jj_Ct.of (jK_gs J).1 (by decide +kernel) (Nat.le_of_ble_eq_true rfl) rfl (fun X hG hl F M O hnm => ?_)
  subst hG; subst hl
  exact sC_X4_word F M O J hnm (fun r h q => ⟨r, rfl, q⟩) (fun _ _ _ q => q) _ _ _ w
theorem hC_X4_word : yX4_word.cls = RX4 ∧ yX4_word.cls ≠ "java/lang/invoke/MethodHandle" ∧ yX4_word.cls ≠ "java/lang/invoke/VarHandle" ∧ (parseMethodDescriptor yX4_word.desc).map (fun d => d.parameters.length) = some 0 := by decide +kernel
/-! X4_name()Ljava/lang/String; -/
def fC_X4_name_j22 (gk : Nat → Nat) (x0 : Option Nat) (x1 : Option Nat) (y0 : Option Nat) (y1 : Option Nat) (y2 : Int) (Q : Option Nat → jj_H → Prop) (E : String → Nat → jj_H → Prop) (h : jj_H) (k : Nat) : Prop :=
  jp_gi h x0 10 3 (fun g1 =>
  jp_so y1 ∧ fC_X7_init gk y1 y2 g1 x1 (fun h4 =>
  jp_th h4 y0 11 (fun q9 => E "NoteImporter$ImportException" q9 h4)) E h 0)
def fC_X4_name_j5 (gk : Nat → Nat) (x0 : Option Nat) (y0 : Option Nat) (Q : Option Nat → jj_H → Prop) (E : String → Nat → jj_H → Prop) (h : jj_H) (k : Nat) : Prop :=
  jp_nw h k 11 2 df_X7 (fun a5 h6 k7 =>
  jp_gi h6 x0 10 5 (fun g8 =>
  jj_r g8 ∧ (g8 = 0 → (
    fC_X4_name_j22 gk x0 y0 (some a5) (some a5) 1 Q E h6 k7)) ∧
  (¬ g8 = 0 → (
    fC_X4_name_j22 gk x0 y0 (some a5) (some a5) 2 Q E h6 k7))))
def fC_X4_name (gk : Nat → Nat) (x0 : Option Nat) (Q : Option Nat → jj_H → Prop) (E : String → Nat → jj_H → Prop) (h : jj_H) (k : Nat) : Prop :=
  jp_is h x0 10 ∧ ∃ c9, c9 ≤ k ∧ fC_X4_word gk x0 (fun r10 h11 =>
  Q r10 h11) (fun E9 q9 h9 => (E9 = "NoteImporter$WordException" ∧ fC_X4_name_j5 gk x0 (some q9) Q E h9 (k - c9))) h c9
theorem sC_X4_name_j22 {X : jj_X} {N : Option jj_AV → jj_H → Prop} {XN : String → Nat → jj_H → Prop} (F : jj_F X RX4 cX4_name 2) (M : jj_M X (some ((.object "java/lang/String"))) 15 664 N XN) (O : jj_tb X [(0, 4, 5, 108)]) (J : jj_GJ X.1 X.2.2.1) (hi : X.2.2.2.2.2.2.2.2.2.1.name = yX4_name.name) {Q : Option Nat → jj_H → Prop} {E : String → Nat → jj_H → Prop} (hQ : ∀ r h, Q r h → N (some (.inr (.inr (.inl r)))) h) (hE : ∀ e q h, E e q h → XN e q h) (x0 : Option Nat) (x1 : Option Nat) (y0 : Option Nat) (y1 : Option Nat) (y2 : Int) : ∀ (h : jj_H) (k : Nat), fC_X4_name_j22 (jj_gk X.1) x0 x1 y0 y1 y2 Q E h k → jj_J X 2 22 [(0, .inr (.inr (.inl x0))), (1, .inr (.inr (.inl x1)))] [.inl y2, .inr (.inr (.inl y1)), .inr (.inr (.inl y0))] h k := by
  intro h k w
  unfold fC_X4_name_j22 at w
  refine jr_aload_n (pc := 22) F (j := 0) dX4_name_22 rfl ?_
  refine jr_gi (pc := 23) (ci := 10) (f := 3) F rfl in_X4 (Nat.le_of_ble_eq_true rfl) q2388 dX4_name_23 w (fun g1 w => ?_)
  refine jr_aload_n (pc := 26) F (j := 1) dX4_name_26 rfl ?_
  obtain ⟨hi9, w⟩ := w
  refine jr_cI (pc := 27) (As := [_, _, _]) F M q2441 q2442 q173 q2443 dX4_name_27 rfl hC_X7_init.2 rfl (Nat.le_of_ble_eq_true rfl) (Nat.le_of_ble_eq_true rfl) (Nat.le_of_ble_eq_true rfl) hi9 (Nat.zero_le _) (cC_X7_init J w) (fun v9 h4 q9 => ?_) (fun E9 q9 h9 w9 => jr_outP F M (jK_nc J) O (fun z9 hz9 => Or.inl ((by decide : ∀ z ∈ tableOf [(0, 4, 5, 108)], covers z 27 = false) z9 hz9)) (hE _ _ _ w9))
  obtain ⟨rfl, w⟩ := q9
  refine jr_thr (pc := 30) (ci := 11) F rfl dX4_name_30 w (fun q9 w => ?_)
  exact jr_outP F M (jK_nc J) O (fun z9 hz9 => Or.inl ((by decide : ∀ z ∈ tableOf [(0, 4, 5, 108)], covers z 30 = false) z9 hz9)) (hE _ _ _ w)

theorem sC_X4_name_j5 {X : jj_X} {N : Option jj_AV → jj_H → Prop} {XN : String → Nat → jj_H → Prop} (F : jj_F X RX4 cX4_name 2) (M : jj_M X (some ((.object "java/lang/String"))) 15 664 N XN) (O : jj_tb X [(0, 4, 5, 108)]) (J : jj_GJ X.1 X.2.2.1) (hi : X.2.2.2.2.2.2.2.2.2.1.name = yX4_name.name) {Q : Option Nat → jj_H → Prop} {E : String → Nat → jj_H → Prop} (hQ : ∀ r h, Q r h → N (some (.inr (.inr (.inl r)))) h) (hE : ∀ e q h, E e q h → XN e q h) (x0 : Option Nat) (y0 : Option Nat) : ∀ (h : jj_H) (k : Nat), fC_X4_name_j5 (jj_gk X.1) x0 y0 Q E h k → jj_J X 2 5 [(0, .inr (.inr (.inl x0)))] [.inr (.inr (.inl y0))] h k := by
  intro h k w
  unfold fC_X4_name_j5 at w
  refine jr_astore_n (pc := 5) F (vs' := [(1, .inr (.inr (.inl _))), (0, .inr (.inr (.inl _)))]) dX4_name_5 (Nat.le_of_ble_eq_true rfl) rfl ?_
  refine jr_new (pc := 6) (ci := 11) F rfl in_X7 tyX7_ok q2432 q2433 q173 dfo_X7 rfl ⟨by decide, by decide⟩ dX4_name_6 w (fun a5 h6 k7 w => ?_)
  refine jr_dup (pc := 9) F dX4_name_9 rfl ?_
  refine jr_aload_n (pc := 10) F (j := 1) dX4_name_10 rfl ?_
  refine jr_gi (pc := 11) (ci := 10) (f := 5) F rfl in_X4 (Nat.le_of_ble_eq_true rfl) q2390 dX4_name_11 w (fun g8 w => ?_)
  obtain ⟨hx9, w1, w2⟩ := w
  refine jr_if_eq (pc := 14) (tgt := 21) F hx9 dX4_name_14 rfl (fun c9 => ?_) (fun c9 => ?_)
  · have w := w1 c9
    refine jr_iconst (pc := 21) F dX4_name_21 ?_
    refine jj_J.sub [1, 0] rfl ?_
    exact sC_X4_name_j22 F M O J hi hQ hE _ _ _ _ _ _ _ w
  · have w := w2 c9
    refine jr_iconst (pc := 17) F dX4_name_17 ?_
    refine jr_goto (pc := 18) (tgt := 22) F dX4_name_18 rfl ?_
    refine jj_J.sub [1, 0] rfl ?_
    exact sC_X4_name_j22 F M O J hi hQ hE _ _ _ _ _ _ _ w

theorem sC_X4_name {X : jj_X} {N : Option jj_AV → jj_H → Prop} {XN : String → Nat → jj_H → Prop} (F : jj_F X RX4 cX4_name 2) (M : jj_M X (some ((.object "java/lang/String"))) 15 664 N XN) (O : jj_tb X [(0, 4, 5, 108)]) (J : jj_GJ X.1 X.2.2.1) (hi : X.2.2.2.2.2.2.2.2.2.1.name = yX4_name.name) {Q : Option Nat → jj_H → Prop} {E : String → Nat → jj_H → Prop} (hQ : ∀ r h, Q r h → N (some (.inr (.inr (.inl r)))) h) (hE : ∀ e q h, E e q h → XN e q h) (x0 : Option Nat) : ∀ (h : jj_H) (k : Nat), fC_X4_name (jj_gk X.1) x0 Q E h k → jj_J X 2 0 [(0, .inr (.inr (.inl x0)))] [] h k := by
  intro h k w
  unfold fC_X4_name at w
  refine jr_aload_n (pc := 0) F (j := 0) dX4_name_0 rfl ?_
  obtain ⟨hi9, c9, hk9, w⟩ := w
  refine jr_cV (pc := 1) (As := []) (ci := 10) F M (lw_V q2476 q2478 qs27 q145 q2479) dX4_name_1 hC_X4_word rfl (Nat.le_of_ble_eq_true rfl) (Nat.le_of_ble_eq_true rfl) (Nat.le_of_ble_eq_true rfl) rfl hi9 hk9 (cC_X4_word J w) (fun v9 h11 q9 => ?_) (fun E9 q9 h9 w9 => ?_)
  · obtain ⟨r10, rfl, w⟩ := q9
    exact jr_aret (pc := 4) F M (Or.inl ⟨_, rfl⟩) dX4_name_4 (hQ _ _ w)
  · obtain ⟨rfl, w⟩ := w9
    refine jr_catch F (jK_nc J) O [] ⟨0, 4, 5, 108⟩ [] rfl (fun z9 hz9 => nomatch hz9) (by decide) (by decide) q2475 q2482 (tgt := 5) rfl ?_
    exact sC_X4_name_j5 F M O J hi hQ hE _ _ _ _ w

theorem cC_X4_name {G : jj_G} {l : Launch} (J : jj_GJ G l) {x0 : Option Nat} {Q : Option Nat → jj_H → Prop} {E : String → Nat → jj_H → Prop} {h : jj_H} {k : Nat} (w : fC_X4_name (jj_gk G) x0 Q E h k) : jj_Ct G l yX4_name (wsW_ yX4_name cX4_name 2 (some ((.object "java/lang/String"))) [(0, 4, 5, 108)]) 15 664 [.inr (.inr (.inl x0))] h k (jc_r Q) E := by
  refine jj_Ct.ofW (jK_gs J).1 (by decide +kernel) (Nat.le_of_ble_eq_true rfl) rfl (fun X hG hl F M O hnm => ?_)
  subst hG; subst hl
  exact sC_X4_name F M O J hnm (fun r h q => ⟨r, rfl, q⟩) (fun _ _ _ q => q) _ _ _ w
theorem hC_X4_name : yX4_name.cls = RX4 ∧ yX4_name.cls ≠ "java/lang/invoke/MethodHandle" ∧ yX4_name.cls ≠ "java/lang/invoke/VarHandle" ∧ (parseMethodDescriptor yX4_name.desc).map (fun d => d.parameters.length) = some 0 := by decide +kernel
/-! X4_number(II)I -/
def fC_X4_number (gk : Nat → Nat) (x0 : Option Nat) (x1 : Int) (x2 : Int) (Q : Int → jj_H → Prop) (E : String → Nat → jj_H → Prop) (h : jj_H) (k : Nat) : Prop :=
  jp_gi h x0 10 4 (fun g1 =>
  jp_is h x0 10 ∧ ∃ c2, c2 ≤ k ∧ fC_X4_require gk x0 g1 1 (fun h4 =>
  jp_gi h4 x0 10 6 (fun g5 =>
  fC_X1_isBetween gk (jj_i2l g5) (jj_i2l x1) (jj_i2l x2) (fun r7 h8 =>
  jp_is h8 x0 10 ∧ ∃ c9, c9 ≤ (k - c2) ∧ fC_X4_require gk x0 r7 2 (fun h11 =>
  jp_gi h11 x0 10 6 (fun g12 =>
  jp_is h11 x0 10 ∧ ∃ c13, c13 ≤ ((k - c2) - c9) ∧ fC_X4_advance gk x0 (fun h15 =>
  Q g12 h15) E h11 c13)) E h8 c9) E h4 0)) E h c2)
theorem sC_X4_number {X : jj_X} {N : Option jj_AV → jj_H → Prop} {XN : String → Nat → jj_H → Prop} (F : jj_F X RX4 cX4_number 4) (M : jj_M X (some (.int)) 15 669 N XN) (O : jj_no X) (J : jj_GJ X.1 X.2.2.1) (hi : X.2.2.2.2.2.2.2.2.2.1.name = yX4_number.name) {Q : Int → jj_H → Prop} {E : String → Nat → jj_H → Prop} (hQ : ∀ r h, Q r h → N (some (.inl r)) h) (hE : ∀ e q h, E e q h → XN e q h) (x0 : Option Nat) (x1 : Int) (x2 : Int) : ∀ (h : jj_H) (k : Nat), fC_X4_number (jj_gk X.1) x0 x1 x2 Q E h k → jj_J X 4 0 [(0, .inr (.inr (.inl x0))), (1, .inl x1), (2, .inl x2)] [] h k := by
  intro h k w
  unfold fC_X4_number at w
  refine jr_aload_n (pc := 0) F (j := 0) dX4_number_0 rfl ?_
  refine jr_aload_n (pc := 1) F (j := 0) dX4_number_1 rfl ?_
  refine jr_gi (pc := 2) (ci := 10) (f := 4) F rfl in_X4 (Nat.le_of_ble_eq_true rfl) q2389 dX4_number_2 w (fun g1 w => ?_)
  refine jr_iconst (pc := 5) F dX4_number_5 ?_
  obtain ⟨hi9, c2, hk9, w⟩ := w
  refine jr_cV (pc := 6) (As := [_, _]) (ci := 10) F M (lw_V q2428 q2430 qs23 q145 q2431) dX4_number_6 hC_X4_require rfl (Nat.le_of_ble_eq_true rfl) (Nat.le_of_ble_eq_true rfl) (Nat.le_of_ble_eq_true rfl) rfl hi9 hk9 (cC_X4_require J w) (fun v9 h4 q9 => ?_) (fun E9 q9 h9 w9 => jr_out F M O (hE _ _ _ w9))
  obtain ⟨rfl, w⟩ := q9
  refine jr_aload_n (pc := 9) F (j := 0) dX4_number_9 rfl ?_
  refine jr_aload_n (pc := 10) F (j := 0) dX4_number_10 rfl ?_
  refine jr_gi (pc := 11) (ci := 10) (f := 6) F rfl in_X4 (Nat.le_of_ble_eq_true rfl) q2391 dX4_number_11 w (fun g5 w => ?_)
  refine jr_i2l (pc := 14) F dX4_number_14 ?_
  refine jr_iload_n (pc := 15) F (j := 1) dX4_number_15 rfl ?_
  refine jr_i2l (pc := 16) F dX4_number_16 ?_
  refine jr_iload_n (pc := 17) F (j := 2) dX4_number_17 rfl ?_
  refine jr_i2l (pc := 18) F dX4_number_18 ?_
  refine jr_callSN (pc := 19) (As := [_, _, _]) F M q2356 q1678 q120 q1679 dX4_number_19 hC_X1_isBetween.2 rfl (Nat.le_of_ble_eq_true rfl) (Nat.le_of_ble_eq_true rfl) (Nat.le_of_ble_eq_true rfl) (Nat.zero_le _) (cC_X1_isBetween J w) (fun v9 h8 q9 => ?_) (fun E9 q9 h9 w9 => jr_out F M O (hE _ _ _ w9))
  obtain ⟨r7, rfl, w⟩ := q9
  refine jr_iconst (pc := 22) F dX4_number_22 ?_
  obtain ⟨hi9, c9, hk9, w⟩ := w
  refine jr_cV (pc := 23) (As := [_, _]) (ci := 10) F M (lw_V q2428 q2430 qs23 q145 q2431) dX4_number_23 hC_X4_require rfl (Nat.le_of_ble_eq_true rfl) (Nat.le_of_ble_eq_true rfl) (Nat.le_of_ble_eq_true rfl) rfl hi9 hk9 (cC_X4_require J w) (fun v9 h11 q9 => ?_) (fun E9 q9 h9 w9 => jr_out F M O (hE _ _ _ w9))
  obtain ⟨rfl, w⟩ := q9
  refine jr_aload_n (pc := 26) F (j := 0) dX4_number_26 rfl ?_
  refine jr_gi (pc := 27) (ci := 10) (f := 6) F rfl in_X4 (Nat.le_of_ble_eq_true rfl) q2391 dX4_number_27 w (fun g12 w => ?_)
  refine jr_istore_n (pc := 30) F (vs' := [(3, .inl _), (0, .inr (.inr (.inl _))), (1, .inl _), (2, .inl _)]) dX4_number_30 (Nat.le_of_ble_eq_true rfl) rfl ?_
  refine jr_aload_n (pc := 31) F (j := 1) dX4_number_31 rfl ?_
  obtain ⟨hi9, c13, hk9, w⟩ := w
  refine jr_cV (pc := 32) (As := []) (ci := 10) F M (lw_V q2343 q2345 qs20 q145 q2346) dX4_number_32 hC_X4_advance rfl (Nat.le_of_ble_eq_true rfl) (Nat.le_of_ble_eq_true rfl) (Nat.le_of_ble_eq_true rfl) rfl hi9 hk9 (cC_X4_advance J w) (fun v9 h15 q9 => ?_) (fun E9 q9 h9 w9 => jr_out F M O (hE _ _ _ w9))
  obtain ⟨rfl, w⟩ := q9
  refine jr_iload_n (pc := 35) F (j := 0) dX4_number_35 rfl ?_
  exact jr_iret (pc := 36) F M dX4_number_36 (hQ _ _ w)

theorem cC_X4_number {G : jj_G} {l : Launch} (J : jj_GJ G l) {x0 : Option Nat} {x1 : Int} {x2 : Int} {Q : Int → jj_H → Prop} {E : String → Nat → jj_H → Prop} {h : jj_H} {k : Nat} (w : fC_X4_number (jj_gk G) x0 x1 x2 Q E h k) : jj_Ct G l yX4_number (ws_ yX4_number cX4_number 4 (some (.int))) 15 669 [.inr (.inr (.inl x0)), .inl x1, .inl x2] h k (jc_i Q) E := by
  refine jj_Ct.of (jK_gs J).1 (by decide +kernel) (Nat.le_of_ble_eq_true rfl) rfl (fun X hG hl F M O hnm => ?_)
  subst hG; subst hl
  exact sC_X4_number F M O J hnm (fun r h q => ⟨r, rfl, q⟩) (fun _ _ _ q => q) _ _ _ _ _ w
theorem hC_X4_number : yX4_number.cls = RX4 ∧ yX4_number.cls ≠ "java/lang/invoke/MethodHandle" ∧ yX4_number.cls ≠ "java/lang/invoke/VarHandle" ∧ (parseMethodDescriptor yX4_number.desc).map (fun d => d.parameters.length) = some 2 := by decide +kernel
/-! X5_add(Ljava/lang/String;Z)V -/
def fC_X5_add (gk : Nat → Nat) (x0 : Option Nat) (x1 : Option Nat) (x2 : Int) (Q : jj_H → Prop) (E : String → Nat → jj_H → Prop) (h : jj_H) (k : Nat) : Prop :=
  jp_gr h x0 3 0 (fun g1 =>
  jq_J2_add g1 x1 (fun r4 h2 k3 =>
  jp_gr h2 x0 3 1 (fun g5 =>
  jq_J34_valueOf gk x2 (fun r8 h6 k7 =>
  jq_J2_add g5 r8 (fun r11 h9 k10 =>
  Q h9) h6 k7) h2 k3)) h k)
theorem sC_X5_add {X : jj_X} {N : Option jj_AV → jj_H → Prop} {XN : String → Nat → jj_H → Prop} (F : jj_F X RX5 cX5_add 3) (M : jj_M X (none) 13 621 N XN) (O : jj_no X) (J : jj_GJ X.1 X.2.2.1) (hi : X.2.2.2.2.2.2.2.2.2.1.name = yX5_add.name) {Q : jj_H → Prop} {E : String → Nat → jj_H → Prop} (hQ : ∀ h, Q h → N none h) (hE : ∀ e q h, E e q h → XN e q h) (x0 : Option Nat) (x1 : Option Nat) (x2 : Int) : ∀ (h : jj_H) (k : Nat), fC_X5_add (jj_gk X.1) x0 x1 x2 Q E h k → jj_J X 3 0 [(0, .inr (.inr (.inl x0))), (1, .inr (.inr (.inl x1))), (2, .inl x2)] [] h k := by
  intro h k w
  unfold fC_X5_add at w
  refine jr_aload_n (pc := 0) F (j := 0) dX5_add_0 rfl ?_
  refine jr_gr (pc := 1) (ci := 3) (f := 0) F rfl in_X5 (Nat.le_of_ble_eq_true rfl) q1861 dX5_add_1 w (fun g1 w => ?_)
  refine jr_aload_n (pc := 4) F (j := 1) dX5_add_4 rfl ?_
  refine jr_jV (pc := 5) (As := [_]) (ci := 14) F M (lw_V q2500 q820 q821 q124 q822) dX5_add_5 hj_J2_add rfl (Nat.le_of_ble_eq_true rfl) (Nat.le_of_ble_eq_true rfl) (Nat.le_of_ble_eq_true rfl) rfl (jK_J2_add J _ _ _ _ _ w) (fun v9 h2 k3 q9 => ?_)
  obtain ⟨r4, rfl, w⟩ := q9
  refine jr_pop (pc := 8) F dX5_add_8 rfl ?_
  refine jr_aload_n (pc := 9) F (j := 0) dX5_add_9 rfl ?_
  refine jr_gr (pc := 10) (ci := 3) (f := 1) F rfl in_X5 (Nat.le_of_ble_eq_true rfl) q1864 dX5_add_10 w (fun g5 w => ?_)
  refine jr_iload_n (pc := 13) F (j := 2) dX5_add_13 rfl ?_
  refine jr_jS (pc := 14) (As := [_]) F M (lw_S q2501 q2502 q161 q2503) dX5_add_14 hj_J34_valueOf.2 rfl (Nat.le_of_ble_eq_true rfl) (Nat.le_of_ble_eq_true rfl) (Nat.le_of_ble_eq_true rfl) (jK_J34_valueOf J _ _ _ _ w) (fun v9 h6 k7 q9 => ?_)
  obtain ⟨r8, rfl, w⟩ := q9
  refine jr_jV (pc := 17) (As := [_]) (ci := 14) F M (lw_V q2500 q820 q821 q124 q822) dX5_add_17 hj_J2_add rfl (Nat.le_of_ble_eq_true rfl) (Nat.le_of_ble_eq_true rfl) (Nat.le_of_ble_eq_true rfl) rfl (jK_J2_add J _ _ _ _ _ w) (fun v9 h9 k10 q9 => ?_)
  obtain ⟨r11, rfl, w⟩ := q9
  refine jr_pop (pc := 20) F dX5_add_20 rfl ?_
  exact jr_vret (pc := 21) F M dX5_add_21 (hQ _ w)

theorem cC_X5_add {G : jj_G} {l : Launch} (J : jj_GJ G l) {x0 : Option Nat} {x1 : Option Nat} {x2 : Int} {Q : jj_H → Prop} {E : String → Nat → jj_H → Prop} {h : jj_H} {k : Nat} (w : fC_X5_add (jj_gk G) x0 x1 x2 Q E h k) : jj_Ct G l yX5_add (ws_ yX5_add cX5_add 3 (none)) 13 621 [.inr (.inr (.inl x0)), .inr (.inr (.inl x1)), .inl x2] h k (jc_v Q) E := by
  refine jj_Ct.of (jK_gs J).1 (by decide +kernel) (Nat.le_of_ble_eq_true rfl) rfl (fun X hG hl F M O hnm => ?_)
  subst hG; subst hl
  exact sC_X5_add F M O J hnm (fun h q => ⟨rfl, q⟩) (fun _ _ _ q => q) _ _ _ _ _ w
theorem hC_X5_add : yX5_add.cls = RX5 ∧ yX5_add.cls ≠ "java/lang/invoke/MethodHandle" ∧ yX5_add.cls ≠ "java/lang/invoke/VarHandle" ∧ (parseMethodDescriptor yX5_add.desc).map (fun d => d.parameters.length) = some 2 := by decide +kernel
/-! X4_edition()V -/
def fC_X4_edition_j91 (gk : Nat → Nat) (K25 : jj_H → Nat → Prop) (x0 : Option Nat) (x2 : Option Nat) (y0 : Option Nat) (y1 : Option Nat) (y2 : Int) (Q : jj_H → Prop) (E : String → Nat → jj_H → Prop) (h : jj_H) (k : Nat) : Prop :=
  jp_is h y0 3 ∧ ∃ c1, c1 ≤ k ∧ fC_X5_add gk y0 y1 y2 (fun h3 =>
  jp_gi h3 x0 10 5 (fun g4 =>
  jj_r g4 ∧ (¬ g4 = 0 → (
    K25 h3 (k - c1))) ∧
  (g4 = 0 → (
    jp_gr h3 x0 10 7 (fun g5 =>
    jq_J9_equals g5 (some (gk 15)) (fun r8 h6 k7 =>
    jj_r r8 ∧ (¬ r8 = 0 → (
      K25 h6 k7)) ∧
    (r8 = 0 → (
      jp_gr h6 x0 10 1 (fun g9 =>
      jp_is h6 g9 2 ∧ ∃ c10, c10 ≤ k7 ∧ fC_X2_addEdition gk g9 x2 (fun r11 h12 =>
      Q h12) E h6 c10)))) h3 (k - c1)))))) E h c1
def fC_X4_edition_j86 (gk : Nat → Nat) (K25 : jj_H → Nat → Prop) (x0 : Option Nat) (x2 : Option Nat) (y0 : Option Nat) (y1 : Option Nat) (Q : jj_H → Prop) (E : String → Nat → jj_H → Prop) (h : jj_H) (k : Nat) : Prop :=
  fC_X4_edition_j91 gk K25 x0 x2 y0 y1 1 Q E h k
def fC_X4_edition_j64 (gk : Nat → Nat) (K25 : jj_H → Nat → Prop) (x0 : Option Nat) (x2 : Option Nat) (x3 : Int) (x4 : Option Nat) (y0 : Option Nat) (y1 : Int) (Q : jj_H → Prop) (E : String → Nat → jj_H → Prop) (h : jj_H) (k : Nat) : Prop :=
  jp_is h y0 10 ∧ ∃ c13, c13 ≤ k ∧ fC_X4_require gk y0 y1 4 (fun h15 =>
  jp_is h15 x0 10 ∧ ∃ c16, c16 ≤ (k - c13) ∧ fC_X4_advance gk x0 (fun h18 =>
  jj_r x3 ∧ (¬ x3 = 0 → (
    fC_X4_edition_j86 gk K25 x0 x2 x2 x4 Q E h18 ((k - c13) - c16))) ∧
  (x3 = 0 → (
    jp_is h18 x2 3 ∧ fC_X5_size gk x2 (fun r20 h21 =>
    jj_r r20 ∧ (¬ r20 = 0 → (
      fC_X4_edition_j91 gk K25 x0 x2 x2 x4 0 Q E h21 ((k - c13) - c16))) ∧
    (r20 = 0 → (
      fC_X4_edition_j86 gk K25 x0 x2 x2 x4 Q E h21 ((k - c13) - c16)))) E h18 0))) E h15 c16) E h c13
def fC_X4_edition_j43 (gk : Nat → Nat) (K25 : jj_H → Nat → Prop) (x0 : Option Nat) (x2 : Option Nat) (x3 : Int) (Q : jj_H → Prop) (E : String → Nat → jj_H → Prop) (h : jj_H) (k : Nat) : Prop :=
  jp_is h x0 10 ∧ ∃ c22, c22 ≤ k ∧ fC_X4_name gk x0 (fun r23 h24 =>
  jp_is h24 x2 3 ∧ fC_X5_size gk x2 (fun r26 h27 =>
  jj_r r26 ∧ (120 ≤ r26 → (
    fC_X4_edition_j64 gk K25 x0 x2 x3 r23 x0 0 Q E h27 (k - c22))) ∧
  (¬ 120 ≤ r26 → (
    fC_X4_edition_j64 gk K25 x0 x2 x3 r23 x0 1 Q E h27 (k - c22)))) E h24 0) E h c22
def fC_X4_edition_l25 (gk : Nat → Nat) (x0 : Option Nat) (x2 : Option Nat) (Q : jj_H → Prop) (E : String → Nat → jj_H → Prop) : Nat → jj_H → Nat → Prop
  | 0, _, _ => False
  | n + 1, h, k =>
  jp_gr h x0 10 7 (fun g28 =>
  jq_J9_equals g28 (some (gk 15)) (fun r31 h29 k30 =>
  jj_r r31 ∧ (r31 = 0 → (
    fC_X4_edition_j43 gk (fC_X4_edition_l25 gk x0 x2 Q E n) x0 x2 r31 Q E h29 k30)) ∧
  (¬ r31 = 0 → (
    jp_is h29 x0 10 ∧ ∃ c32, c32 ≤ k30 ∧ fC_X4_advance gk x0 (fun h34 =>
    fC_X4_edition_j43 gk (fC_X4_edition_l25 gk x0 x2 Q E n) x0 x2 r31 Q E h34 (k30 - c32)) E h29 c32))) h k)
def fC_X4_edition (gk : Nat → Nat) (x0 : Option Nat) (Q : jj_H → Prop) (E : String → Nat → jj_H → Prop) (h : jj_H) (k : Nat) : Prop :=
  jp_is h x0 10 ∧ ∃ c35, c35 ≤ k ∧ fC_X4_number gk x0 8 60 (fun r36 h37 =>
  jp_nw h37 (k - c35) 3 2 df_X5 (fun a38 h39 k40 =>
  jp_is h39 x0 10 ∧ ∃ c41, c41 ≤ k40 ∧ fC_X4_number gk x0 1 40 (fun r42 h43 =>
  jp_so (some a38) ∧ ∃ c44, c44 ≤ (k40 - c41) ∧ fC_X5_init gk (some a38) r36 r42 (fun h46 =>
  ∃ n9, fC_X4_edition_l25 gk x0 (some a38) Q E n9 h46 ((k40 - c41) - c44)) E h43 c44) E h39 c41)) E h c35
theorem sC_X4_edition_j91 {X : jj_X} {N : Option jj_AV → jj_H → Prop} {XN : String → Nat → jj_H → Prop} (F : jj_F X RX4 cX4_edition 5) (M : jj_M X (none) 16 692 N XN) (O : jj_no X) (J : jj_GJ X.1 X.2.2.1) (hi : X.2.2.2.2.2.2.2.2.2.1.name = yX4_edition.name) {Q : jj_H → Prop} {E : String → Nat → jj_H → Prop} (hQ : ∀ h, Q h → N none h) (hE : ∀ e q h, E e q h → XN e q h) (x0 : Option Nat) (x2 : Option Nat) (y0 : Option Nat) (y1 : Option Nat) (y2 : Int) {K25 : jj_H → Nat → Prop} (hK25 : ∀ (h : jj_H) (k : Nat), K25 h k → jj_J X 5 25 [(0, .inr (.inr (.inl x0))), (2, .inr (.inr (.inl x2)))] [] h k) : ∀ (h : jj_H) (k : Nat), fC_X4_edition_j91 (jj_gk X.1) K25 x0 x2 y0 y1 y2 Q E h k → jj_J X 5 91 [(0, .inr (.inr (.inl x0))), (2, .inr (.inr (.inl x2)))] [.inl y2, .inr (.inr (.inl y1)), .inr (.inr (.inl y0))] h k := by
  intro h k w
  unfold fC_X4_edition_j91 at w
  obtain ⟨hi9, c1, hk9, w⟩ := w
  refine jr_cV (pc := 91) (As := [_, _]) (ci := 3) F M (lw_V q2496 q2497 q2498 q149 q2499) dX4_edition_91 hC_X5_add rfl (Nat.le_of_ble_eq_true rfl) (Nat.le_of_ble_eq_true rfl) (Nat.le_of_ble_eq_true rfl) rfl hi9 hk9 (cC_X5_add J w) (fun v9 h3 q9 => ?_) (fun E9 q9 h9 w9 => jr_out F M O (hE _ _ _ w9))
  obtain ⟨rfl, w⟩ := q9
  refine jr_aload_n (pc := 94) F (j := 0) dX4_edition_94 rfl ?_
  refine jr_gi (pc := 95) (ci := 10) (f := 5) F rfl in_X4 (Nat.le_of_ble_eq_true rfl) q2390 dX4_edition_95 w (fun g4 w => ?_)
  obtain ⟨hx9, w1, w2⟩ := w
  refine jr_if_ne (pc := 98) (tgt := 25) F hx9 dX4_edition_98 rfl (fun c9 => ?_) (fun c9 => ?_)
  · have w := w1 c9
    exact hK25 _ _ w
  · have w := w2 c9
    refine jr_aload_n (pc := 101) F (j := 0) dX4_edition_101 rfl ?_
    refine jr_gr (pc := 102) (ci := 10) (f := 7) F rfl in_X4 (Nat.le_of_ble_eq_true rfl) q2392 dX4_edition_102 w (fun g5 w => ?_)
    refine jr_ldcS (pc := 105) F (jK_gs J) 19 rfl dX4_edition_105 ?_
    refine jr_jV (pc := 107) (As := [_]) (ci := 25) F M (lw_V q2423 q713 q714 q131 q715) dX4_edition_107 hj_J9_equals rfl (Nat.le_of_ble_eq_true rfl) (Nat.le_of_ble_eq_true rfl) (Nat.le_of_ble_eq_true rfl) rfl (jK_J9_equals J _ _ _ _ _ w) (fun v9 h6 k7 q9 => ?_)
    obtain ⟨r8, rfl, w⟩ := q9
    obtain ⟨hx9, w1, w2⟩ := w
    refine jr_if_ne (pc := 110) (tgt := 25) F hx9 dX4_edition_110 rfl (fun c9 => ?_) (fun c9 => ?_)
    · have w := w1 c9
      exact hK25 _ _ w
    · have w := w2 c9
      refine jr_aload_n (pc := 113) F (j := 0) dX4_edition_113 rfl ?_
      refine jr_gr (pc := 114) (ci := 10) (f := 1) F rfl in_X4 (Nat.le_of_ble_eq_true rfl) q2385 dX4_edition_114 w (fun g9 w => ?_)
      refine jr_aload_n (pc := 117) F (j := 1) dX4_edition_117 rfl ?_
      obtain ⟨hi9, c10, hk9, w⟩ := w
      refine jr_cV (pc := 118) (As := [_]) (ci := 2) F M (lw_V q2508 q2509 q2510 q121 q2511) dX4_edition_118 hC_X2_addEdition rfl (Nat.le_of_ble_eq_true rfl) (Nat.le_of_ble_eq_true rfl) (Nat.le_of_ble_eq_true rfl) rfl hi9 hk9 (cC_X2_addEdition J w) (fun v9 h12 q9 => ?_) (fun E9 q9 h9 w9 => jr_out F M O (hE _ _ _ w9))
      obtain ⟨r11, rfl, w⟩ := q9
      refine jr_istore_n (pc := 121) F (vs' := [(3, .inl _), (0, .inr (.inr (.inl _))), (2, .inr (.inr (.inl _)))]) dX4_edition_121 (Nat.le_of_ble_eq_true rfl) rfl ?_
      exact jr_vret (pc := 122) F M dX4_edition_122 (hQ _ w)

theorem sC_X4_edition_j86 {X : jj_X} {N : Option jj_AV → jj_H → Prop} {XN : String → Nat → jj_H → Prop} (F : jj_F X RX4 cX4_edition 5) (M : jj_M X (none) 16 692 N XN) (O : jj_no X) (J : jj_GJ X.1 X.2.2.1) (hi : X.2.2.2.2.2.2.2.2.2.1.name = yX4_edition.name) {Q : jj_H → Prop} {E : String → Nat → jj_H → Prop} (hQ : ∀ h, Q h → N none h) (hE : ∀ e q h, E e q h → XN e q h) (x0 : Option Nat) (x2 : Option Nat) (y0 : Option Nat) (y1 : Option Nat) {K25 : jj_H → Nat → Prop} (hK25 : ∀ (h : jj_H) (k : Nat), K25 h k → jj_J X 5 25 [(0, .inr (.inr (.inl x0))), (2, .inr (.inr (.inl x2)))] [] h k) : ∀ (h : jj_H) (k : Nat), fC_X4_edition_j86 (jj_gk X.1) K25 x0 x2 y0 y1 Q E h k → jj_J X 5 86 [(0, .inr (.inr (.inl x0))), (2, .inr (.inr (.inl x2)))] [.inr (.inr (.inl y1)), .inr (.inr (.inl y0))] h k := by
  intro h k w
  unfold fC_X4_edition_j86 at w
  refine jr_iconst (pc := 86) F dX4_edition_86 ?_
  refine jr_goto (pc := 87) (tgt := 91) F dX4_edition_87 rfl ?_
  exact sC_X4_edition_j91 F M O J hi hQ hE _ _ _ _ _ hK25 _ _ w

theorem sC_X4_edition_j64 {X : jj_X} {N : Option jj_AV → jj_H → Prop} {XN : String → Nat → jj_H → Prop} (F : jj_F X RX4 cX4_edition 5) (M : jj_M X (none) 16 692 N XN) (O : jj_no X) (J : jj_GJ X.1 X.2.2.1) (hi : X.2.2.2.2.2.2.2.2.2.1.name = yX4_edition.name) {Q : jj_H → Prop} {E : String → Nat → jj_H → Prop} (hQ : ∀ h, Q h → N none h) (hE : ∀ e q h, E e q h → XN e q h) (x0 : Option Nat) (x2 : Option Nat) (x3 : Int) (x4 : Option Nat) (y0 : Option Nat) (y1 : Int) {K25 : jj_H → Nat → Prop} (hK25 : ∀ (h : jj_H) (k : Nat), K25 h k → jj_J X 5 25 [(0, .inr (.inr (.inl x0))), (2, .inr (.inr (.inl x2)))] [] h k) : ∀ (h : jj_H) (k : Nat), fC_X4_edition_j64 (jj_gk X.1) K25 x0 x2 x3 x4 y0 y1 Q E h k → jj_J X 5 64 [(0, .inr (.inr (.inl x0))), (2, .inr (.inr (.inl x2))), (3, .inl x3), (4, .inr (.inr (.inl x4)))] [.inl y1, .inr (.inr (.inl y0))] h k := by
  intro h k w
  unfold fC_X4_edition_j64 at w
  refine jr_iconst (pc := 64) F dX4_edition_64 ?_
  obtain ⟨hi9, c13, hk9, w⟩ := w
  refine jr_cV (pc := 65) (As := [_, _]) (ci := 10) F M (lw_V q2428 q2430 qs23 q145 q2431) dX4_edition_65 hC_X4_require rfl (Nat.le_of_ble_eq_true rfl) (Nat.le_of_ble_eq_true rfl) (Nat.le_of_ble_eq_true rfl) rfl hi9 hk9 (cC_X4_require J w) (fun v9 h15 q9 => ?_) (fun E9 q9 h9 w9 => jr_out F M O (hE _ _ _ w9))
  obtain ⟨rfl, w⟩ := q9
  refine jr_aload_n (pc := 68) F (j := 0) dX4_edition_68 rfl ?_
  obtain ⟨hi9, c16, hk9, w⟩ := w
  refine jr_cV (pc := 69) (As := []) (ci := 10) F M (lw_V q2343 q2345 qs20 q145 q2346) dX4_edition_69 hC_X4_advance rfl (Nat.le_of_ble_eq_true rfl) (Nat.le_of_ble_eq_true rfl) (Nat.le_of_ble_eq_true rfl) rfl hi9 hk9 (cC_X4_advance J w) (fun v9 h18 q9 => ?_) (fun E9 q9 h9 w9 => jr_out F M O (hE _ _ _ w9))
  obtain ⟨rfl, w⟩ := q9
  refine jr_aload_n (pc := 72) F (j := 1) dX4_edition_72 rfl ?_
  refine jr_aload (pc := 73) F (j := 3) dX4_edition_73 rfl ?_
  refine jr_iload_n (pc := 75) F (j := 2) dX4_edition_75 rfl ?_
  obtain ⟨hx9, w1, w2⟩ := w
  refine jr_if_ne (pc := 76) (tgt := 86) F hx9 dX4_edition_76 rfl (fun c9 => ?_) (fun c9 => ?_)
  · have w := w1 c9
    refine jj_J.sub [0, 1] rfl ?_
    exact sC_X4_edition_j86 F M O J hi hQ hE _ _ _ _ hK25 _ _ w
  · have w := w2 c9
    refine jr_aload_n (pc := 79) F (j := 1) dX4_edition_79 rfl ?_
    obtain ⟨hi9, w⟩ := w
    refine jr_cV (pc := 80) (As := []) (ci := 3) F M (lw_V q2495 q706 q707 q149 q708) dX4_edition_80 hC_X5_size rfl (Nat.le_of_ble_eq_true rfl) (Nat.le_of_ble_eq_true rfl) (Nat.le_of_ble_eq_true rfl) rfl hi9 (Nat.zero_le _) (cC_X5_size J w) (fun v9 h21 q9 => ?_) (fun E9 q9 h9 w9 => jr_out F M O (hE _ _ _ w9))
    obtain ⟨r20, rfl, w⟩ := q9
    obtain ⟨hx9, w1, w2⟩ := w
    refine jr_if_ne (pc := 83) (tgt := 90) F hx9 dX4_edition_83 rfl (fun c9 => ?_) (fun c9 => ?_)
    · have w := w1 c9
      refine jr_iconst (pc := 90) F dX4_edition_90 ?_
      refine jj_J.sub [0, 1] rfl ?_
      exact sC_X4_edition_j91 F M O J hi hQ hE _ _ _ _ _ hK25 _ _ w
    · have w := w2 c9
      refine jj_J.sub [0, 1] rfl ?_
      exact sC_X4_edition_j86 F M O J hi hQ hE _ _ _ _ hK25 _ _ w

theorem sC_X4_edition_j43 {X : jj_X} {N : Option jj_AV → jj_H → Prop} {XN : String → Nat → jj_H → Prop} (F : jj_F X RX4 cX4_edition 5) (M : jj_M X (none) 16 692 N XN) (O : jj_no X) (J : jj_GJ X.1 X.2.2.1) (hi : X.2.2.2.2.2.2.2.2.2.1.name = yX4_edition.name) {Q : jj_H → Prop} {E : String → Nat → jj_H → Prop} (hQ : ∀ h, Q h → N none h) (hE : ∀ e q h, E e q h → XN e q h) (x0 : Option Nat) (x2 : Option Nat) (x3 : Int) {K25 : jj_H → Nat → Prop} (hK25 : ∀ (h : jj_H) (k : Nat), K25 h k → jj_J X 5 25 [(0, .inr (.inr (.inl x0))), (2, .inr (.inr (.inl x2)))] [] h k) : ∀ (h : jj_H) (k : Nat), fC_X4_edition_j43 (jj_gk X.1) K25 x0 x2 x3 Q E h k → jj_J X 5 43 [(0, .inr (.inr (.inl x0))), (2, .inr (.inr (.inl x2))), (3, .inl x3)] [] h k := by
  intro h k w
  unfold fC_X4_edition_j43 at w
  refine jr_aload_n (pc := 43) F (j := 0) dX4_edition_43 rfl ?_
  obtain ⟨hi9, c22, hk9, w⟩ := w
  refine jr_cVX (pc := 44) (As := []) (ci := 10) F M (lw_VW q2471 q2473 qs26 q145 q2474) dX4_edition_44 hC_X4_name rfl (Nat.le_of_ble_eq_true rfl) (Nat.le_of_ble_eq_true rfl) (Nat.le_of_ble_eq_true rfl) rfl hi9 hk9 (cC_X4_name J w) (fun v9 h24 q9 => ?_) (fun E9 q9 h9 w9 => jr_out F M O (hE _ _ _ w9))
  obtain ⟨r23, rfl, w⟩ := q9
  refine jr_astore (pc := 47) F (vs' := [(4, .inr (.inr (.inl _))), (0, .inr (.inr (.inl _))), (2, .inr (.inr (.inl _))), (3, .inl _)]) dX4_edition_47 (Nat.le_of_ble_eq_true rfl) rfl ?_
  refine jr_aload_n (pc := 49) F (j := 1) dX4_edition_49 rfl ?_
  refine jr_aload_n (pc := 50) F (j := 2) dX4_edition_50 rfl ?_
  obtain ⟨hi9, w⟩ := w
  refine jr_cV (pc := 51) (As := []) (ci := 3) F M (lw_V q2495 q706 q707 q149 q708) dX4_edition_51 hC_X5_size rfl (Nat.le_of_ble_eq_true rfl) (Nat.le_of_ble_eq_true rfl) (Nat.le_of_ble_eq_true rfl) rfl hi9 (Nat.zero_le _) (cC_X5_size J w) (fun v9 h27 q9 => ?_) (fun E9 q9 h9 w9 => jr_out F M O (hE _ _ _ w9))
  obtain ⟨r26, rfl, w⟩ := q9
  refine jr_bipush (pc := 54) F dX4_edition_54 (by decide +kernel) ?_
  obtain ⟨hx9, w1, w2⟩ := w
  refine jr_icmp_ge (pc := 56) (tgt := 63) F hx9 ⟨by decide, by decide⟩ dX4_edition_56 rfl (fun c9 => ?_) (fun c9 => ?_)
  · have w := w1 c9
    refine jr_iconst (pc := 63) F dX4_edition_63 ?_
    refine jj_J.sub [1, 2, 3, 0] rfl ?_
    exact sC_X4_edition_j64 F M O J hi hQ hE _ _ _ _ _ _ hK25 _ _ w
  · have w := w2 c9
    refine jr_iconst (pc := 59) F dX4_edition_59 ?_
    refine jr_goto (pc := 60) (tgt := 64) F dX4_edition_60 rfl ?_
    refine jj_J.sub [1, 2, 3, 0] rfl ?_
    exact sC_X4_edition_j64 F M O J hi hQ hE _ _ _ _ _ _ hK25 _ _ w

theorem sC_X4_edition_l25 {X : jj_X} {N : Option jj_AV → jj_H → Prop} {XN : String → Nat → jj_H → Prop} (F : jj_F X RX4 cX4_edition 5) (M : jj_M X (none) 16 692 N XN) (O : jj_no X) (J : jj_GJ X.1 X.2.2.1) (hi : X.2.2.2.2.2.2.2.2.2.1.name = yX4_edition.name) {Q : jj_H → Prop} {E : String → Nat → jj_H → Prop} (hQ : ∀ h, Q h → N none h) (hE : ∀ e q h, E e q h → XN e q h) (x0 : Option Nat) (x2 : Option Nat) : ∀ (n : Nat) (h : jj_H) (k : Nat), fC_X4_edition_l25 (jj_gk X.1) x0 x2 Q E n h k → jj_J X 5 25 [(0, .inr (.inr (.inl x0))), (2, .inr (.inr (.inl x2)))] [] h k := by
  intro n
  induction n with
  | zero =>
    intro  h k w
    exact (show False from w).elim
  | succ n ih =>
    intro  h k w
    rw [fC_X4_edition_l25] at w
    refine jr_aload_n (pc := 25) F (j := 0) dX4_edition_25 rfl ?_
    refine jr_gr (pc := 26) (ci := 10) (f := 7) F rfl in_X4 (Nat.le_of_ble_eq_true rfl) q2392 dX4_edition_26 w (fun g28 w => ?_)
    refine jr_ldcS (pc := 29) F (jK_gs J) 19 rfl dX4_edition_29 ?_
    refine jr_jV (pc := 31) (As := [_]) (ci := 25) F M (lw_V q2423 q713 q714 q131 q715) dX4_edition_31 hj_J9_equals rfl (Nat.le_of_ble_eq_true rfl) (Nat.le_of_ble_eq_true rfl) (Nat.le_of_ble_eq_true rfl) rfl (jK_J9_equals J _ _ _ _ _ w) (fun v9 h29 k30 q9 => ?_)
    obtain ⟨r31, rfl, w⟩ := q9
    refine jr_istore_n (pc := 34) F (vs' := [(3, .inl _), (0, .inr (.inr (.inl _))), (2, .inr (.inr (.inl _)))]) dX4_edition_34 (Nat.le_of_ble_eq_true rfl) rfl ?_
    refine jr_iload_n (pc := 35) F (j := 0) dX4_edition_35 rfl ?_
    obtain ⟨hx9, w1, w2⟩ := w
    refine jr_if_eq (pc := 36) (tgt := 43) F hx9 dX4_edition_36 rfl (fun c9 => ?_) (fun c9 => ?_)
    · have w := w1 c9
      refine jj_J.sub [1, 2, 0] rfl ?_
      exact sC_X4_edition_j43 F M O J hi hQ hE _ _ _ ih _ _ w
    · have w := w2 c9
      refine jr_aload_n (pc := 39) F (j := 1) dX4_edition_39 rfl ?_
      obtain ⟨hi9, c32, hk9, w⟩ := w
      refine jr_cV (pc := 40) (As := []) (ci := 10) F M (lw_V q2343 q2345 qs20 q145 q2346) dX4_edition_40 hC_X4_advance rfl (Nat.le_of_ble_eq_true rfl) (Nat.le_of_ble_eq_true rfl) (Nat.le_of_ble_eq_true rfl) rfl hi9 hk9 (cC_X4_advance J w) (fun v9 h34 q9 => ?_) (fun E9 q9 h9 w9 => jr_out F M O (hE _ _ _ w9))
      obtain ⟨rfl, w⟩ := q9
      refine jj_J.sub [1, 2, 0] rfl ?_
      exact sC_X4_edition_j43 F M O J hi hQ hE _ _ _ ih _ _ w

theorem sC_X4_edition {X : jj_X} {N : Option jj_AV → jj_H → Prop} {XN : String → Nat → jj_H → Prop} (F : jj_F X RX4 cX4_edition 5) (M : jj_M X (none) 16 692 N XN) (O : jj_no X) (J : jj_GJ X.1 X.2.2.1) (hi : X.2.2.2.2.2.2.2.2.2.1.name = yX4_edition.name) {Q : jj_H → Prop} {E : String → Nat → jj_H → Prop} (hQ : ∀ h, Q h → N none h) (hE : ∀ e q h, E e q h → XN e q h) (x0 : Option Nat) : ∀ (h : jj_H) (k : Nat), fC_X4_edition (jj_gk X.1) x0 Q E h k → jj_J X 5 0 [(0, .inr (.inr (.inl x0)))] [] h k := by
  intro h k w
  unfold fC_X4_edition at w
  refine jr_aload_n (pc := 0) F (j := 0) dX4_edition_0 rfl ?_
  refine jr_bipush (pc := 1) F dX4_edition_1 (by decide +kernel) ?_
  refine jr_bipush (pc := 3) F dX4_edition_3 (by decide +kernel) ?_
  obtain ⟨hi9, c35, hk9, w⟩ := w
  refine jr_cV (pc := 5) (As := [_, _]) (ci := 10) F M (lw_V q2464 q2466 qs25 q145 q2467) dX4_edition_5 hC_X4_number rfl (Nat.le_of_ble_eq_true rfl) (Nat.le_of_ble_eq_true rfl) (Nat.le_of_ble_eq_true rfl) rfl hi9 hk9 (cC_X4_number J w) (fun v9 h37 q9 => ?_) (fun E9 q9 h9 w9 => jr_out F M O (hE _ _ _ w9))
  obtain ⟨r36, rfl, w⟩ := q9
  refine jr_istore_n (pc := 8) F (vs' := [(1, .inl _), (0, .inr (.inr (.inl _)))]) dX4_edition_8 (Nat.le_of_ble_eq_true rfl) rfl ?_
  refine jr_new (pc := 9) (ci := 3) F rfl in_X5 tyX5_ok q2468 q1854 q149 dfo_X5 rfl ⟨by decide, by decide⟩ dX4_edition_9 w (fun a38 h39 k40 w => ?_)
  refine jr_dup (pc := 12) F dX4_edition_12 rfl ?_
  refine jr_iload_n (pc := 13) F (j := 0) dX4_edition_13 rfl ?_
  refine jr_aload_n (pc := 14) F (j := 1) dX4_edition_14 rfl ?_
  refine jr_iconst (pc := 15) F dX4_edition_15 ?_
  refine jr_bipush (pc := 16) F dX4_edition_16 (by decide +kernel) ?_
  obtain ⟨hi9, c41, hk9, w⟩ := w
  refine jr_cV (pc := 18) (As := [_, _]) (ci := 10) F M (lw_V q2464 q2466 qs25 q145 q2467) dX4_edition_18 hC_X4_number rfl (Nat.le_of_ble_eq_true rfl) (Nat.le_of_ble_eq_true rfl) (Nat.le_of_ble_eq_true rfl) rfl hi9 hk9 (cC_X4_number J w) (fun v9 h43 q9 => ?_) (fun E9 q9 h9 w9 => jr_out F M O (hE _ _ _ w9))
  obtain ⟨r42, rfl, w⟩ := q9
  obtain ⟨hi9, c44, hk9, w⟩ := w
  refine jr_cI (pc := 21) (As := [_, _]) F M q2469 q1856 q149 q1857 dX4_edition_21 rfl hC_X5_init.2 rfl (Nat.le_of_ble_eq_true rfl) (Nat.le_of_ble_eq_true rfl) (Nat.le_of_ble_eq_true rfl) hi9 hk9 (cC_X5_init J w) (fun v9 h46 q9 => ?_) (fun E9 q9 h9 w9 => jr_out F M O (hE _ _ _ w9))
  obtain ⟨rfl, w⟩ := q9
  refine jr_astore_n (pc := 24) F (vs' := [(2, .inr (.inr (.inl _))), (1, .inl _), (0, .inr (.inr (.inl _)))]) dX4_edition_24 (Nat.le_of_ble_eq_true rfl) rfl ?_
  refine jj_J.sub [2, 0] rfl ?_
  obtain ⟨n9, w⟩ := w
  exact sC_X4_edition_l25 F M O J hi hQ hE _ _ n9 _ _ w

theorem cC_X4_edition {G : jj_G} {l : Launch} (J : jj_GJ G l) {x0 : Option Nat} {Q : jj_H → Prop} {E : String → Nat → jj_H → Prop} {h : jj_H} {k : Nat} (w : fC_X4_edition (jj_gk G) x0 Q E h k) : jj_Ct G l yX4_edition (ws_ yX4_edition cX4_edition 5 (none)) 16 692 [.inr (.inr (.inl x0))] h k (jc_v Q) E := by
  refine jj_Ct.of (jK_gs J).1 (by decide +kernel) (Nat.le_of_ble_eq_true rfl) rfl (fun X hG hl F M O hnm => ?_)
  subst hG; subst hl
  exact sC_X4_edition F M O J hnm (fun h q => ⟨rfl, q⟩) (fun _ _ _ q => q) _ _ _ w
theorem hC_X4_edition : yX4_edition.cls = RX4 ∧ yX4_edition.cls ≠ "java/lang/invoke/MethodHandle" ∧ yX4_edition.cls ≠ "java/lang/invoke/VarHandle" ∧ (parseMethodDescriptor yX4_edition.desc).map (fun d => d.parameters.length) = some 0 := by decide +kernel
/-! X4_kind()I -/
def fC_X4_kind_l9 (gk : Nat → Nat) (x0 : Option Nat) (x1 : Option Nat) (x2 : Int) (Q : Int → jj_H → Prop) (E : String → Nat → jj_H → Prop) : Nat → Int → jj_H → Nat → Prop
  | 0, _, _, _ => False
  | n + 1, x3, h, k =>
  jj_r x3 ∧ jj_r x2 ∧ (x2 ≤ x3 → (
    jp_nw h k 11 2 df_X7 (fun a1 h2 k3 =>
    jp_gi h2 x0 10 3 (fun g4 =>
    jp_so (some a1) ∧ fC_X7_init gk (some a1) 1 g4 none (fun h7 =>
    jp_th h7 (some a1) 11 (fun q9 => E "NoteImporter$ImportException" q9 h7)) E h2 0)))) ∧
  (¬ x2 ≤ x3 → (
    jp_rl h x1 5 x3 (fun g8 =>
    jq_word g8 (fun r9 h10 k11 =>
    jp_gr h10 x0 10 7 (fun g12 =>
    jq_J9_equals r9 g12 (fun r15 h13 k14 =>
    jj_r r15 ∧ (r15 = 0 → (
      ∀ v16, v16 = x3 + 1 →
      fC_X4_kind_l9 gk x0 x1 x2 Q E n v16 h13 k14)) ∧
    (¬ r15 = 0 → (
      jp_is h13 x0 10 ∧ ∃ c17, c17 ≤ k14 ∧ fC_X4_advance gk x0 (fun h19 =>
      jq_J44_ordinal g8 (fun r22 h20 k21 =>
      Q r22 h20) h19 (k14 - c17)) E h13 c17))) h10 k11)) h k)))
def fC_X4_kind (gk : Nat → Nat) (x0 : Option Nat) (Q : Int → jj_H → Prop) (E : String → Nat → jj_H → Prop) (h : jj_H) (k : Nat) : Prop :=
  jq_X9_values gk (fun r25 h23 k24 =>
  jp_ar h23 r25 5 (fun g26 =>
  ∃ n9, fC_X4_kind_l9 gk x0 r25 g26 Q E n9 0 h23 k24)) h k
theorem sC_X4_kind_l9 {X : jj_X} {N : Option jj_AV → jj_H → Prop} {XN : String → Nat → jj_H → Prop} (F : jj_F X RX4 cX4_kind 5) (M : jj_M X (some (.int)) 14 647 N XN) (O : jj_no X) (J : jj_GJ X.1 X.2.2.1) (hi : X.2.2.2.2.2.2.2.2.2.1.name = yX4_kind.name) {Q : Int → jj_H → Prop} {E : String → Nat → jj_H → Prop} (hQ : ∀ r h, Q r h → N (some (.inl r)) h) (hE : ∀ e q h, E e q h → XN e q h) (x0 : Option Nat) (x1 : Option Nat) (x2 : Int) : ∀ (n : Nat) (x3 : Int) (h : jj_H) (k : Nat), fC_X4_kind_l9 (jj_gk X.1) x0 x1 x2 Q E n x3 h k → jj_J X 5 9 [(0, .inr (.inr (.inl x0))), (1, .inr (.inr (.inl x1))), (2, .inl x2), (3, .inl x3)] [] h k := by
  intro n
  induction n with
  | zero =>
    intro x3 h k w
    exact (show False from w).elim
  | succ n ih =>
    intro x3 h k w
    rw [fC_X4_kind_l9] at w
    refine jr_iload_n (pc := 9) F (j := 3) dX4_kind_9 rfl ?_
    refine jr_iload_n (pc := 10) F (j := 2) dX4_kind_10 rfl ?_
    obtain ⟨hx9, hy9, w1, w2⟩ := w
    refine jr_icmp_ge (pc := 11) (tgt := 50) F hx9 hy9 dX4_kind_11 rfl (fun c9 => ?_) (fun c9 => ?_)
    · have w := w1 c9
      refine jr_new (pc := 50) (ci := 11) F rfl in_X7 tyX7_ok q2432 q2433 q173 dfo_X7 rfl ⟨by decide, by decide⟩ dX4_kind_50 w (fun a1 h2 k3 w => ?_)
      refine jr_dup (pc := 53) F dX4_kind_53 rfl ?_
      refine jr_iconst (pc := 54) F dX4_kind_54 ?_
      refine jr_aload_n (pc := 55) F (j := 0) dX4_kind_55 rfl ?_
      refine jr_gi (pc := 56) (ci := 10) (f := 3) F rfl in_X4 (Nat.le_of_ble_eq_true rfl) q2388 dX4_kind_56 w (fun g4 w => ?_)
      refine jr_null (pc := 59) F dX4_kind_59 ?_
      obtain ⟨hi9, w⟩ := w
      refine jr_cI (pc := 60) (As := [_, _, _]) F M q2441 q2442 q173 q2443 dX4_kind_60 rfl hC_X7_init.2 rfl (Nat.le_of_ble_eq_true rfl) (Nat.le_of_ble_eq_true rfl) (Nat.le_of_ble_eq_true rfl) hi9 (Nat.zero_le _) (cC_X7_init J w) (fun v9 h7 q9 => ?_) (fun E9 q9 h9 w9 => jr_out F M O (hE _ _ _ w9))
      obtain ⟨rfl, w⟩ := q9
      refine jr_thr (pc := 63) (ci := 11) F rfl dX4_kind_63 w (fun q9 w => ?_)
      exact jr_out F M O (hE _ _ _ w)
    · have w := w2 c9
      refine jr_aload_n (pc := 14) F (j := 1) dX4_kind_14 rfl ?_
      refine jr_iload_n (pc := 15) F (j := 3) dX4_kind_15 rfl ?_
      refine jr_aald (pc := 16) F ⟨9, _, fun _ => rfl⟩ dX4_kind_16 w (fun g8 w => ?_)
      refine jr_astore (pc := 17) F (vs' := [(4, .inr (.inr (.inl _))), (0, .inr (.inr (.inl _))), (1, .inr (.inr (.inl _))), (2, .inl _), (3, .inl _)]) dX4_kind_17 (Nat.le_of_ble_eq_true rfl) rfl ?_
      refine jr_aload (pc := 19) F (j := 0) dX4_kind_19 rfl ?_
      refine jK_word J X _ _ _ 21 _ _ _ _ _ _ _ _ rfl F q3854 dX4_kind_21 w (fun r9 h10 k11 w => ?_)
      refine jr_aload_n (pc := 24) F (j := 1) dX4_kind_24 rfl ?_
      refine jr_gr (pc := 25) (ci := 10) (f := 7) F rfl in_X4 (Nat.le_of_ble_eq_true rfl) q2392 dX4_kind_25 w (fun g12 w => ?_)
      refine jr_jV (pc := 28) (As := [_]) (ci := 25) F M (lw_V q2423 q713 q714 q131 q715) dX4_kind_28 hj_J9_equals rfl (Nat.le_of_ble_eq_true rfl) (Nat.le_of_ble_eq_true rfl) (Nat.le_of_ble_eq_true rfl) rfl (jK_J9_equals J _ _ _ _ _ w) (fun v9 h13 k14 q9 => ?_)
      obtain ⟨r15, rfl, w⟩ := q9
      obtain ⟨hx9, w1, w2⟩ := w
      refine jr_if_eq (pc := 31) (tgt := 44) F hx9 dX4_kind_31 rfl (fun c9 => ?_) (fun c9 => ?_)
      · have w := w1 c9
        have w := w _ rfl
        refine jr_iinc (pc := 44) F (j := 4) (vs' := [(3, .inl _), (4, .inr (.inr (.inl _))), (0, .inr (.inr (.inl _))), (1, .inr (.inr (.inl _))), (2, .inl _)]) dX4_kind_44 rfl rfl (Nat.le_of_ble_eq_true rfl) rfl ?_
        refine jr_goto (pc := 47) (tgt := 9) F dX4_kind_47 rfl ?_
        refine jj_J.sub [2, 3, 4, 0] rfl ?_
        exact ih _ _ _ w
      · have w := w2 c9
        refine jr_aload_n (pc := 34) F (j := 1) dX4_kind_34 rfl ?_
        obtain ⟨hi9, c17, hk9, w⟩ := w
        refine jr_cV (pc := 35) (As := []) (ci := 10) F M (lw_V q2343 q2345 qs20 q145 q2346) dX4_kind_35 hC_X4_advance rfl (Nat.le_of_ble_eq_true rfl) (Nat.le_of_ble_eq_true rfl) (Nat.le_of_ble_eq_true rfl) rfl hi9 hk9 (cC_X4_advance J w) (fun v9 h19 q9 => ?_) (fun E9 q9 h9 w9 => jr_out F M O (hE _ _ _ w9))
        obtain ⟨rfl, w⟩ := q9
        refine jr_aload (pc := 38) F (j := 0) dX4_kind_38 rfl ?_
        refine jr_jU (pc := 40) (As := []) (ci := 32) F M (uw_J44_ordinal q2541) q2546 dX4_kind_40 hj_J44_ordinal.2 rfl (Nat.le_of_ble_eq_true rfl) (Nat.le_of_ble_eq_true rfl) (Nat.le_of_ble_eq_true rfl) rfl (jK_J44_ordinal J _ _ _ _ w) (fun v9 h20 k21 q9 => ?_)
        obtain ⟨r22, rfl, w⟩ := q9
        exact jr_iret (pc := 43) F M dX4_kind_43 (hQ _ _ w)

theorem sC_X4_kind {X : jj_X} {N : Option jj_AV → jj_H → Prop} {XN : String → Nat → jj_H → Prop} (F : jj_F X RX4 cX4_kind 5) (M : jj_M X (some (.int)) 14 647 N XN) (O : jj_no X) (J : jj_GJ X.1 X.2.2.1) (hi : X.2.2.2.2.2.2.2.2.2.1.name = yX4_kind.name) {Q : Int → jj_H → Prop} {E : String → Nat → jj_H → Prop} (hQ : ∀ r h, Q r h → N (some (.inl r)) h) (hE : ∀ e q h, E e q h → XN e q h) (x0 : Option Nat) : ∀ (h : jj_H) (k : Nat), fC_X4_kind (jj_gk X.1) x0 Q E h k → jj_J X 5 0 [(0, .inr (.inr (.inl x0)))] [] h k := by
  intro h k w
  unfold fC_X4_kind at w
  refine jr_jS (pc := 0) (As := []) F M (lw_S q2530 q2531 q176 q2532) dX4_kind_0 hj_X9_values.2 rfl (Nat.le_of_ble_eq_true rfl) (Nat.le_of_ble_eq_true rfl) (Nat.le_of_ble_eq_true rfl) (jK_X9_values J _ _ _ w) (fun v9 h23 k24 q9 => ?_)
  obtain ⟨r25, rfl, w⟩ := q9
  refine jr_astore_n (pc := 3) F (vs' := [(1, .inr (.inr (.inl _))), (0, .inr (.inr (.inl _)))]) dX4_kind_3 (Nat.le_of_ble_eq_true rfl) rfl ?_
  refine jr_aload_n (pc := 4) F (j := 0) dX4_kind_4 rfl ?_
  refine jr_alenR (pc := 5) F ⟨9, _, fun _ => rfl⟩ dX4_kind_5 w (fun g26 w => ?_)
  refine jr_istore_n (pc := 6) F (vs' := [(2, .inl _), (1, .inr (.inr (.inl _))), (0, .inr (.inr (.inl _)))]) dX4_kind_6 (Nat.le_of_ble_eq_true rfl) rfl ?_
  refine jr_iconst (pc := 7) F dX4_kind_7 ?_
  refine jr_istore_n (pc := 8) F (vs' := [(3, .inl _), (2, .inl _), (1, .inr (.inr (.inl _))), (0, .inr (.inr (.inl _)))]) dX4_kind_8 (Nat.le_of_ble_eq_true rfl) rfl ?_
  refine jj_J.sub [3, 2, 1, 0] rfl ?_
  obtain ⟨n9, w⟩ := w
  exact sC_X4_kind_l9 F M O J hi hQ hE _ _ _ n9 _ _ _ w

theorem cC_X4_kind {G : jj_G} {l : Launch} (J : jj_GJ G l) {x0 : Option Nat} {Q : Int → jj_H → Prop} {E : String → Nat → jj_H → Prop} {h : jj_H} {k : Nat} (w : fC_X4_kind (jj_gk G) x0 Q E h k) : jj_Ct G l yX4_kind (ws_ yX4_kind cX4_kind 5 (some (.int))) 14 647 [.inr (.inr (.inl x0))] h k (jc_i Q) E := by
  refine jj_Ct.of (jK_gs J).1 (by decide +kernel) (Nat.le_of_ble_eq_true rfl) rfl (fun X hG hl F M O hnm => ?_)
  subst hG; subst hl
  exact sC_X4_kind F M O J hnm (fun r h q => ⟨r, rfl, q⟩) (fun _ _ _ q => q) _ _ _ w
theorem hC_X4_kind : yX4_kind.cls = RX4 ∧ yX4_kind.cls ≠ "java/lang/invoke/MethodHandle" ∧ yX4_kind.cls ≠ "java/lang/invoke/VarHandle" ∧ (parseMethodDescriptor yX4_kind.desc).map (fun d => d.parameters.length) = some 0 := by decide +kernel
/-! X5_find_2(III)I -/
def fC_X5_find_2_l6 (gk : Nat → Nat) (x0 : Option Nat) (x1 : Int) (x2 : Int) (x3 : Int) (Q : Int → jj_H → Prop) (E : String → Nat → jj_H → Prop) : Nat → Int → Int → jj_H → Nat → Prop
  | 0, _, _, _, _ => False
  | n + 1, x4, x5, h, k =>
  jp_is h x0 3 ∧ fC_X5_size gk x0 (fun r2 h3 =>
  jj_r x5 ∧ jj_r r2 ∧ (r2 ≤ x5 → (
    Q x4 h3)) ∧
  (¬ r2 ≤ x5 → (
    jp_gi h3 x0 3 3 (fun g4 =>
    fC_X1_isBetween gk (jj_i2l x2) 0 (jj_i2l (g4 - 1)) (fun r6 h7 =>
    jj_r r6 ∧ (r6 = 0 → (
      ∀ v8, v8 = x5 + 1 →
      fC_X5_find_2_l6 gk x0 x1 x2 x3 Q E n x4 v8 h7 k)) ∧
    (¬ r6 = 0 → (
      jp_gr h7 x0 3 4 (fun g9 =>
      jp_al h7 g9 0 x5 (fun g10 =>
      jp_gi h7 x0 3 3 (fun g11 =>
      jj_r g10 ∧ jj_r ((g11 * x1) + x2) ∧ (¬ g10 = ((g11 * x1) + x2) → (
        ∀ v12, v12 = x5 + 1 →
        fC_X5_find_2_l6 gk x0 x1 x2 x3 Q E n x4 v12 h7 k)) ∧
      (g10 = ((g11 * x1) + x2) → (
        jp_gr h7 x0 3 6 (fun g13 =>
        jp_al h7 g13 0 x5 (fun g14 =>
        jj_r g14 ∧ jj_r x3 ∧ (¬ g14 = x3 → (
          ∀ v15, v15 = x5 + 1 →
          fC_X5_find_2_l6 gk x0 x1 x2 x3 Q E n x4 v15 h7 k)) ∧
        (g14 = x3 → (
          ∀ v16, v16 = x5 + 1 →
          fC_X5_find_2_l6 gk x0 x1 x2 x3 Q E n x5 v16 h7 k)))))))))))) E h3 0)))) E h 0
def fC_X5_find_2 (gk : Nat → Nat) (x0 : Option Nat) (x1 : Int) (x2 : Int) (x3 : Int) (Q : Int → jj_H → Prop) (E : String → Nat → jj_H → Prop) (h : jj_H) (k : Nat) : Prop :=
  ∃ n9, fC_X5_find_2_l6 gk x0 x1 x2 x3 Q E n9 (-1) 0 h k
theorem sC_X5_find_2_l6 {X : jj_X} {N : Option jj_AV → jj_H → Prop} {XN : String → Nat → jj_H → Prop} (F : jj_F X RX5 cX5_find_2 6) (M : jj_M X (some (.int)) 14 640 N XN) (O : jj_no X) (J : jj_GJ X.1 X.2.2.1) (hi : X.2.2.2.2.2.2.2.2.2.1.name = yX5_find_2.name) {Q : Int → jj_H → Prop} {E : String → Nat → jj_H → Prop} (hQ : ∀ r h, Q r h → N (some (.inl r)) h) (hE : ∀ e q h, E e q h → XN e q h) (x0 : Option Nat) (x1 : Int) (x2 : Int) (x3 : Int) : ∀ (n : Nat) (x4 : Int) (x5 : Int) (h : jj_H) (k : Nat), fC_X5_find_2_l6 (jj_gk X.1) x0 x1 x2 x3 Q E n x4 x5 h k → jj_J X 6 6 [(0, .inr (.inr (.inl x0))), (1, .inl x1), (2, .inl x2), (3, .inl x3), (4, .inl x4), (5, .inl x5)] [] h k := by
  intro n
  induction n with
  | zero =>
    intro x4 x5 h k w
    exact (show False from w).elim
  | succ n ih =>
    intro x4 x5 h k w
    rw [fC_X5_find_2_l6] at w
    refine jr_iload (pc := 6) F (j := 5) dX5_find_2_6 rfl ?_
    refine jr_aload_n (pc := 8) F (j := 0) dX5_find_2_8 rfl ?_
    obtain ⟨hi9, w⟩ := w
    refine jr_cV (pc := 9) (As := []) (ci := 3) F M (lw_V q1993 q706 q707 q149 q708) dX5_find_2_9 hC_X5_size rfl (Nat.le_of_ble_eq_true rfl) (Nat.le_of_ble_eq_true rfl) (Nat.le_of_ble_eq_true rfl) rfl hi9 (Nat.zero_le _) (cC_X5_size J w) (fun v9 h3 q9 => ?_) (fun E9 q9 h9 w9 => jr_out F M O (hE _ _ _ w9))
    obtain ⟨r2, rfl, w⟩ := q9
    obtain ⟨hx9, hy9, w1, w2⟩ := w
    refine jr_icmp_ge (pc := 12) (tgt := 75) F hx9 hy9 dX5_find_2_12 rfl (fun c9 => ?_) (fun c9 => ?_)
    · have w := w1 c9
      refine jr_iload (pc := 75) F (j := 4) dX5_find_2_75 rfl ?_
      exact jr_iret (pc := 77) F M dX5_find_2_77 (hQ _ _ w)
    · have w := w2 c9
      refine jr_iload_n (pc := 15) F (j := 2) dX5_find_2_15 rfl ?_
      refine jr_i2l (pc := 16) F dX5_find_2_16 ?_
      refine jr_lconst (pc := 17) F (x := 0) dX5_find_2_17 (by decide +kernel) ?_
      refine jr_aload_n (pc := 18) F (j := 0) dX5_find_2_18 rfl ?_
      refine jr_gi (pc := 19) (ci := 3) (f := 3) F rfl in_X5 (Nat.le_of_ble_eq_true rfl) q1868 dX5_find_2_19 w (fun g4 w => ?_)
      refine jr_iconst (pc := 22) F dX5_find_2_22 ?_
      refine jr_isub (pc := 23) F dX5_find_2_23 ?_
      refine jr_i2l (pc := 24) F dX5_find_2_24 ?_
      refine jr_callSN (pc := 25) (As := [_, _, _]) F M q2577 q1678 q120 q1679 dX5_find_2_25 hC_X1_isBetween.2 rfl (Nat.le_of_ble_eq_true rfl) (Nat.le_of_ble_eq_true rfl) (Nat.le_of_ble_eq_true rfl) (Nat.zero_le _) (cC_X1_isBetween J w) (fun v9 h7 q9 => ?_) (fun E9 q9 h9 w9 => jr_out F M O (hE _ _ _ w9))
      obtain ⟨r6, rfl, w⟩ := q9
      obtain ⟨hx9, w1, w2⟩ := w
      refine jr_if_eq (pc := 28) (tgt := 65) F hx9 dX5_find_2_28 rfl (fun c9 => ?_) (fun c9 => ?_)
      · have w := w1 c9
        refine jr_iload (pc := 65) F (j := 4) dX5_find_2_65 rfl ?_
        refine jr_istore (pc := 67) F (vs' := [(4, .inl _), (0, .inr (.inr (.inl _))), (1, .inl _), (2, .inl _), (3, .inl _), (5, .inl _)]) dX5_find_2_67 (Nat.le_of_ble_eq_true rfl) rfl ?_
        have w := w _ rfl
        refine jr_iinc (pc := 69) F (j := 5) (vs' := [(5, .inl _), (4, .inl _), (0, .inr (.inr (.inl _))), (1, .inl _), (2, .inl _), (3, .inl _)]) dX5_find_2_69 rfl rfl (Nat.le_of_ble_eq_true rfl) rfl ?_
        refine jr_goto (pc := 72) (tgt := 6) F dX5_find_2_72 rfl ?_
        refine jj_J.sub [2, 3, 4, 5, 1, 0] rfl ?_
        exact ih _ _ _ _ w
      · have w := w2 c9
        refine jr_aload_n (pc := 31) F (j := 0) dX5_find_2_31 rfl ?_
        refine jr_gr (pc := 32) (ci := 3) (f := 4) F rfl in_X5 (Nat.le_of_ble_eq_true rfl) q1871 dX5_find_2_32 w (fun g9 w => ?_)
        refine jr_iload (pc := 35) F (j := 5) dX5_find_2_35 rfl ?_
        refine jr_iald (pc := 37) F dX5_find_2_37 w (fun g10 w => ?_)
        refine jr_aload_n (pc := 38) F (j := 0) dX5_find_2_38 rfl ?_
        refine jr_gi (pc := 39) (ci := 3) (f := 3) F rfl in_X5 (Nat.le_of_ble_eq_true rfl) q1868 dX5_find_2_39 w (fun g11 w => ?_)
        refine jr_iload_n (pc := 42) F (j := 1) dX5_find_2_42 rfl ?_
        refine jr_imul (pc := 43) F dX5_find_2_43 ?_
        refine jr_iload_n (pc := 44) F (j := 2) dX5_find_2_44 rfl ?_
        refine jr_iadd (pc := 45) F dX5_find_2_45 ?_
        obtain ⟨hx9, hy9, w1, w2⟩ := w
        refine jr_icmp_ne (pc := 46) (tgt := 65) F hx9 hy9 dX5_find_2_46 rfl (fun c9 => ?_) (fun c9 => ?_)
        · have w := w1 c9
          refine jr_iload (pc := 65) F (j := 4) dX5_find_2_65 rfl ?_
          refine jr_istore (pc := 67) F (vs' := [(4, .inl _), (0, .inr (.inr (.inl _))), (1, .inl _), (2, .inl _), (3, .inl _), (5, .inl _)]) dX5_find_2_67 (Nat.le_of_ble_eq_true rfl) rfl ?_
          have w := w _ rfl
          refine jr_iinc (pc := 69) F (j := 5) (vs' := [(5, .inl _), (4, .inl _), (0, .inr (.inr (.inl _))), (1, .inl _), (2, .inl _), (3, .inl _)]) dX5_find_2_69 rfl rfl (Nat.le_of_ble_eq_true rfl) rfl ?_
          refine jr_goto (pc := 72) (tgt := 6) F dX5_find_2_72 rfl ?_
          refine jj_J.sub [2, 3, 4, 5, 1, 0] rfl ?_
          exact ih _ _ _ _ w
        · have w := w2 c9
          refine jr_aload_n (pc := 49) F (j := 0) dX5_find_2_49 rfl ?_
          refine jr_gr (pc := 50) (ci := 3) (f := 6) F rfl in_X5 (Nat.le_of_ble_eq_true rfl) q1877 dX5_find_2_50 w (fun g13 w => ?_)
          refine jr_iload (pc := 53) F (j := 5) dX5_find_2_53 rfl ?_
          refine jr_iald (pc := 55) F dX5_find_2_55 w (fun g14 w => ?_)
          refine jr_iload_n (pc := 56) F (j := 3) dX5_find_2_56 rfl ?_
          obtain ⟨hx9, hy9, w1, w2⟩ := w
          refine jr_icmp_ne (pc := 57) (tgt := 65) F hx9 hy9 dX5_find_2_57 rfl (fun c9 => ?_) (fun c9 => ?_)
          · have w := w1 c9
            refine jr_iload (pc := 65) F (j := 4) dX5_find_2_65 rfl ?_
            refine jr_istore (pc := 67) F (vs' := [(4, .inl _), (0, .inr (.inr (.inl _))), (1, .inl _), (2, .inl _), (3, .inl _), (5, .inl _)]) dX5_find_2_67 (Nat.le_of_ble_eq_true rfl) rfl ?_
            have w := w _ rfl
            refine jr_iinc (pc := 69) F (j := 5) (vs' := [(5, .inl _), (4, .inl _), (0, .inr (.inr (.inl _))), (1, .inl _), (2, .inl _), (3, .inl _)]) dX5_find_2_69 rfl rfl (Nat.le_of_ble_eq_true rfl) rfl ?_
            refine jr_goto (pc := 72) (tgt := 6) F dX5_find_2_72 rfl ?_
            refine jj_J.sub [2, 3, 4, 5, 1, 0] rfl ?_
            exact ih _ _ _ _ w
          · have w := w2 c9
            refine jr_iload (pc := 60) F (j := 5) dX5_find_2_60 rfl ?_
            refine jr_goto (pc := 62) (tgt := 67) F dX5_find_2_62 rfl ?_
            refine jr_istore (pc := 67) F (vs' := [(4, .inl _), (0, .inr (.inr (.inl _))), (1, .inl _), (2, .inl _), (3, .inl _), (5, .inl _)]) dX5_find_2_67 (Nat.le_of_ble_eq_true rfl) rfl ?_
            have w := w _ rfl
            refine jr_iinc (pc := 69) F (j := 5) (vs' := [(5, .inl _), (4, .inl _), (0, .inr (.inr (.inl _))), (1, .inl _), (2, .inl _), (3, .inl _)]) dX5_find_2_69 rfl rfl (Nat.le_of_ble_eq_true rfl) rfl ?_
            refine jr_goto (pc := 72) (tgt := 6) F dX5_find_2_72 rfl ?_
            refine jj_J.sub [2, 3, 4, 5, 1, 0] rfl ?_
            exact ih _ _ _ _ w

theorem sC_X5_find_2 {X : jj_X} {N : Option jj_AV → jj_H → Prop} {XN : String → Nat → jj_H → Prop} (F : jj_F X RX5 cX5_find_2 6) (M : jj_M X (some (.int)) 14 640 N XN) (O : jj_no X) (J : jj_GJ X.1 X.2.2.1) (hi : X.2.2.2.2.2.2.2.2.2.1.name = yX5_find_2.name) {Q : Int → jj_H → Prop} {E : String → Nat → jj_H → Prop} (hQ : ∀ r h, Q r h → N (some (.inl r)) h) (hE : ∀ e q h, E e q h → XN e q h) (x0 : Option Nat) (x1 : Int) (x2 : Int) (x3 : Int) : ∀ (h : jj_H) (k : Nat), fC_X5_find_2 (jj_gk X.1) x0 x1 x2 x3 Q E h k → jj_J X 6 0 [(0, .inr (.inr (.inl x0))), (1, .inl x1), (2, .inl x2), (3, .inl x3)] [] h k := by
  intro h k w
  unfold fC_X5_find_2 at w
  refine jr_iconst (pc := 0) F dX5_find_2_0 ?_
  refine jr_istore (pc := 1) F (vs' := [(4, .inl _), (0, .inr (.inr (.inl _))), (1, .inl _), (2, .inl _), (3, .inl _)]) dX5_find_2_1 (Nat.le_of_ble_eq_true rfl) rfl ?_
  refine jr_iconst (pc := 3) F dX5_find_2_3 ?_
  refine jr_istore (pc := 4) F (vs' := [(5, .inl _), (4, .inl _), (0, .inr (.inr (.inl _))), (1, .inl _), (2, .inl _), (3, .inl _)]) dX5_find_2_4 (Nat.le_of_ble_eq_true rfl) rfl ?_
  refine jj_J.sub [2, 3, 4, 5, 1, 0] rfl ?_
  obtain ⟨n9, w⟩ := w
  exact sC_X5_find_2_l6 F M O J hi hQ hE _ _ _ _ n9 _ _ _ _ w

theorem cC_X5_find_2 {G : jj_G} {l : Launch} (J : jj_GJ G l) {x0 : Option Nat} {x1 : Int} {x2 : Int} {x3 : Int} {Q : Int → jj_H → Prop} {E : String → Nat → jj_H → Prop} {h : jj_H} {k : Nat} (w : fC_X5_find_2 (jj_gk G) x0 x1 x2 x3 Q E h k) : jj_Ct G l yX5_find_2 (ws_ yX5_find_2 cX5_find_2 6 (some (.int))) 14 640 [.inr (.inr (.inl x0)), .inl x1, .inl x2, .inl x3] h k (jc_i Q) E := by
  refine jj_Ct.of (jK_gs J).1 (by decide +kernel) (Nat.le_of_ble_eq_true rfl) rfl (fun X hG hl F M O hnm => ?_)
  subst hG; subst hl
  exact sC_X5_find_2 F M O J hnm (fun r h q => ⟨r, rfl, q⟩) (fun _ _ _ q => q) _ _ _ _ _ _ w
theorem hC_X5_find_2 : yX5_find_2.cls = RX5 ∧ yX5_find_2.cls ≠ "java/lang/invoke/MethodHandle" ∧ yX5_find_2.cls ≠ "java/lang/invoke/VarHandle" ∧ (parseMethodDescriptor yX5_find_2.desc).map (fun d => d.parameters.length) = some 3 := by decide +kernel
/-! X4_place(LNoteImporter$Edition;)I -/
def fC_X4_place_j106 (gk : Nat → Nat) (x0 : Option Nat) (x4 : Int) (y0 : Option Nat) (y1 : Int) (Q : Int → jj_H → Prop) (E : String → Nat → jj_H → Prop) (h : jj_H) (k : Nat) : Prop :=
  jp_is h y0 10 ∧ ∃ c1, c1 ≤ k ∧ fC_X4_require gk y0 y1 2 (fun h3 =>
  jp_is h3 x0 10 ∧ ∃ c4, c4 ≤ (k - c1) ∧ fC_X4_advance gk x0 (fun h6 =>
  Q x4 h6) E h3 c4) E h c1
def fC_X4_place_j53 (gk : Nat → Nat) (x0 : Option Nat) (x1 : Option Nat) (x2 : Int) (y0 : Option Nat) (y1 : Int) (Q : Int → jj_H → Prop) (E : String → Nat → jj_H → Prop) (h : jj_H) (k : Nat) : Prop :=
  jp_is h y0 10 ∧ ∃ c7, c7 ≤ k ∧ fC_X4_require gk y0 y1 2 (fun h9 =>
  jp_gi h9 x0 10 6 (fun g10 =>
  jp_is h9 x0 10 ∧ ∃ c11, c11 ≤ (k - c7) ∧ fC_X4_advance gk x0 (fun h13 =>
  jp_is h13 x0 10 ∧ ∃ c14, c14 ≤ ((k - c7) - c11) ∧ fC_X4_expect gk x0 (some (gk 9)) (fun h16 =>
  jp_gi h16 x0 10 4 (fun g17 =>
  jp_is h16 x0 10 ∧ ∃ c18, c18 ≤ (((k - c7) - c11) - c14) ∧ fC_X4_require gk x0 g17 1 (fun h20 =>
  jp_gi h20 x0 10 6 (fun g21 =>
  jp_is h20 x1 3 ∧ fC_X5_find_2 gk x1 x2 g10 g21 (fun r23 h24 =>
  jj_r r23 ∧ (r23 = (-1) → (
    fC_X4_place_j106 gk x0 r23 x0 0 Q E h24 ((((k - c7) - c11) - c14) - c18))) ∧
  (¬ r23 = (-1) → (
    fC_X4_place_j106 gk x0 r23 x0 1 Q E h24 ((((k - c7) - c11) - c14) - c18)))) E h20 0)) E h16 c18)) E h13 c14) E h9 c11)) E h c7
def fC_X4_place (gk : Nat → Nat) (x0 : Option Nat) (x1 : Option Nat) (Q : Int → jj_H → Prop) (E : String → Nat → jj_H → Prop) (h : jj_H) (k : Nat) : Prop :=
  jp_is h x0 10 ∧ ∃ c25, c25 ≤ k ∧ fC_X4_expect gk x0 (some (gk 7)) (fun h27 =>
  jp_is h27 x1 3 ∧ fC_X5_pageCount gk x1 (fun r29 h30 =>
  jp_is h30 x0 10 ∧ ∃ c31, c31 ≤ (k - c25) ∧ fC_X4_number gk x0 0 (r29 - 1) (fun r32 h33 =>
  jp_is h33 x0 10 ∧ ∃ c34, c34 ≤ ((k - c25) - c31) ∧ fC_X4_expect gk x0 (some (gk 8)) (fun h36 =>
  jp_gi h36 x0 10 4 (fun g37 =>
  jp_is h36 x0 10 ∧ ∃ c38, c38 ≤ (((k - c25) - c31) - c34) ∧ fC_X4_require gk x0 g37 1 (fun h40 =>
  jp_gi h40 x0 10 6 (fun g41 =>
  jp_is h40 x1 3 ∧ fC_X5_find_2 gk x1 r32 g41 0 (fun r43 h44 =>
  jj_r r43 ∧ (r43 = (-1) → (
    fC_X4_place_j53 gk x0 x1 r32 x0 0 Q E h44 ((((k - c25) - c31) - c34) - c38))) ∧
  (¬ r43 = (-1) → (
    fC_X4_place_j53 gk x0 x1 r32 x0 1 Q E h44 ((((k - c25) - c31) - c34) - c38)))) E h40 0)) E h36 c38)) E h33 c34) E h30 c31) E h27 0) E h c25
theorem sC_X4_place_j106 {X : jj_X} {N : Option jj_AV → jj_H → Prop} {XN : String → Nat → jj_H → Prop} (F : jj_F X RX4 cX4_place 5) (M : jj_M X (some (.int)) 16 692 N XN) (O : jj_no X) (J : jj_GJ X.1 X.2.2.1) (hi : X.2.2.2.2.2.2.2.2.2.1.name = yX4_place.name) {Q : Int → jj_H → Prop} {E : String → Nat → jj_H → Prop} (hQ : ∀ r h, Q r h → N (some (.inl r)) h) (hE : ∀ e q h, E e q h → XN e q h) (x0 : Option Nat) (x4 : Int) (y0 : Option Nat) (y1 : Int) : ∀ (h : jj_H) (k : Nat), fC_X4_place_j106 (jj_gk X.1) x0 x4 y0 y1 Q E h k → jj_J X 5 106 [(0, .inr (.inr (.inl x0))), (4, .inl x4)] [.inl y1, .inr (.inr (.inl y0))] h k := by
  intro h k w
  unfold fC_X4_place_j106 at w
  refine jr_iconst (pc := 106) F dX4_place_106 ?_
  obtain ⟨hi9, c1, hk9, w⟩ := w
  refine jr_cV (pc := 107) (As := [_, _]) (ci := 10) F M (lw_V q2428 q2430 qs23 q145 q2431) dX4_place_107 hC_X4_require rfl (Nat.le_of_ble_eq_true rfl) (Nat.le_of_ble_eq_true rfl) (Nat.le_of_ble_eq_true rfl) rfl hi9 hk9 (cC_X4_require J w) (fun v9 h3 q9 => ?_) (fun E9 q9 h9 w9 => jr_out F M O (hE _ _ _ w9))
  obtain ⟨rfl, w⟩ := q9
  refine jr_aload_n (pc := 110) F (j := 0) dX4_place_110 rfl ?_
  obtain ⟨hi9, c4, hk9, w⟩ := w
  refine jr_cV (pc := 111) (As := []) (ci := 10) F M (lw_V q2343 q2345 qs20 q145 q2346) dX4_place_111 hC_X4_advance rfl (Nat.le_of_ble_eq_true rfl) (Nat.le_of_ble_eq_true rfl) (Nat.le_of_ble_eq_true rfl) rfl hi9 hk9 (cC_X4_advance J w) (fun v9 h6 q9 => ?_) (fun E9 q9 h9 w9 => jr_out F M O (hE _ _ _ w9))
  obtain ⟨rfl, w⟩ := q9
  refine jr_iload (pc := 114) F (j := 1) dX4_place_114 rfl ?_
  exact jr_iret (pc := 116) F M dX4_place_116 (hQ _ _ w)

theorem sC_X4_place_j53 {X : jj_X} {N : Option jj_AV → jj_H → Prop} {XN : String → Nat → jj_H → Prop} (F : jj_F X RX4 cX4_place 5) (M : jj_M X (some (.int)) 16 692 N XN) (O : jj_no X) (J : jj_GJ X.1 X.2.2.1) (hi : X.2.2.2.2.2.2.2.2.2.1.name = yX4_place.name) {Q : Int → jj_H → Prop} {E : String → Nat → jj_H → Prop} (hQ : ∀ r h, Q r h → N (some (.inl r)) h) (hE : ∀ e q h, E e q h → XN e q h) (x0 : Option Nat) (x1 : Option Nat) (x2 : Int) (y0 : Option Nat) (y1 : Int) : ∀ (h : jj_H) (k : Nat), fC_X4_place_j53 (jj_gk X.1) x0 x1 x2 y0 y1 Q E h k → jj_J X 5 53 [(0, .inr (.inr (.inl x0))), (1, .inr (.inr (.inl x1))), (2, .inl x2)] [.inl y1, .inr (.inr (.inl y0))] h k := by
  intro h k w
  unfold fC_X4_place_j53 at w
  refine jr_iconst (pc := 53) F dX4_place_53 ?_
  obtain ⟨hi9, c7, hk9, w⟩ := w
  refine jr_cV (pc := 54) (As := [_, _]) (ci := 10) F M (lw_V q2428 q2430 qs23 q145 q2431) dX4_place_54 hC_X4_require rfl (Nat.le_of_ble_eq_true rfl) (Nat.le_of_ble_eq_true rfl) (Nat.le_of_ble_eq_true rfl) rfl hi9 hk9 (cC_X4_require J w) (fun v9 h9 q9 => ?_) (fun E9 q9 h9 w9 => jr_out F M O (hE _ _ _ w9))
  obtain ⟨rfl, w⟩ := q9
  refine jr_aload_n (pc := 57) F (j := 0) dX4_place_57 rfl ?_
  refine jr_gi (pc := 58) (ci := 10) (f := 6) F rfl in_X4 (Nat.le_of_ble_eq_true rfl) q2391 dX4_place_58 w (fun g10 w => ?_)
  refine jr_istore_n (pc := 61) F (vs' := [(3, .inl _), (0, .inr (.inr (.inl _))), (1, .inr (.inr (.inl _))), (2, .inl _)]) dX4_place_61 (Nat.le_of_ble_eq_true rfl) rfl ?_
  refine jr_aload_n (pc := 62) F (j := 1) dX4_place_62 rfl ?_
  obtain ⟨hi9, c11, hk9, w⟩ := w
  refine jr_cV (pc := 63) (As := []) (ci := 10) F M (lw_V q2343 q2345 qs20 q145 q2346) dX4_place_63 hC_X4_advance rfl (Nat.le_of_ble_eq_true rfl) (Nat.le_of_ble_eq_true rfl) (Nat.le_of_ble_eq_true rfl) rfl hi9 hk9 (cC_X4_advance J w) (fun v9 h13 q9 => ?_) (fun E9 q9 h9 w9 => jr_out F M O (hE _ _ _ w9))
  obtain ⟨rfl, w⟩ := q9
  refine jr_aload_n (pc := 66) F (j := 1) dX4_place_66 rfl ?_
  refine jr_ldcwS (pc := 67) F (jK_gs J) 24 rfl dX4_place_67 ?_
  obtain ⟨hi9, c14, hk9, w⟩ := w
  refine jr_cV (pc := 70) (As := [_]) (ci := 10) F M (lw_V q2550 q2552 qs30 q145 q2553) dX4_place_70 hC_X4_expect rfl (Nat.le_of_ble_eq_true rfl) (Nat.le_of_ble_eq_true rfl) (Nat.le_of_ble_eq_true rfl) rfl hi9 hk9 (cC_X4_expect J w) (fun v9 h16 q9 => ?_) (fun E9 q9 h9 w9 => jr_out F M O (hE _ _ _ w9))
  obtain ⟨rfl, w⟩ := q9
  refine jr_aload_n (pc := 73) F (j := 1) dX4_place_73 rfl ?_
  refine jr_aload_n (pc := 74) F (j := 1) dX4_place_74 rfl ?_
  refine jr_gi (pc := 75) (ci := 10) (f := 4) F rfl in_X4 (Nat.le_of_ble_eq_true rfl) q2389 dX4_place_75 w (fun g17 w => ?_)
  refine jr_iconst (pc := 78) F dX4_place_78 ?_
  obtain ⟨hi9, c18, hk9, w⟩ := w
  refine jr_cV (pc := 79) (As := [_, _]) (ci := 10) F M (lw_V q2428 q2430 qs23 q145 q2431) dX4_place_79 hC_X4_require rfl (Nat.le_of_ble_eq_true rfl) (Nat.le_of_ble_eq_true rfl) (Nat.le_of_ble_eq_true rfl) rfl hi9 hk9 (cC_X4_require J w) (fun v9 h20 q9 => ?_) (fun E9 q9 h9 w9 => jr_out F M O (hE _ _ _ w9))
  obtain ⟨rfl, w⟩ := q9
  refine jr_aload_n (pc := 82) F (j := 2) dX4_place_82 rfl ?_
  refine jr_iload_n (pc := 83) F (j := 3) dX4_place_83 rfl ?_
  refine jr_iload_n (pc := 84) F (j := 0) dX4_place_84 rfl ?_
  refine jr_aload_n (pc := 85) F (j := 1) dX4_place_85 rfl ?_
  refine jr_gi (pc := 86) (ci := 10) (f := 6) F rfl in_X4 (Nat.le_of_ble_eq_true rfl) q2391 dX4_place_86 w (fun g21 w => ?_)
  obtain ⟨hi9, w⟩ := w
  refine jr_cV (pc := 89) (As := [_, _, _]) (ci := 3) F M (lw_V q2573 q2574 q2575 q149 q2576) dX4_place_89 hC_X5_find_2 rfl (Nat.le_of_ble_eq_true rfl) (Nat.le_of_ble_eq_true rfl) (Nat.le_of_ble_eq_true rfl) rfl hi9 (Nat.zero_le _) (cC_X5_find_2 J w) (fun v9 h24 q9 => ?_) (fun E9 q9 h9 w9 => jr_out F M O (hE _ _ _ w9))
  obtain ⟨r23, rfl, w⟩ := q9
  refine jr_istore (pc := 92) F (vs' := [(4, .inl _), (3, .inl _), (0, .inr (.inr (.inl _))), (1, .inr (.inr (.inl _))), (2, .inl _)]) dX4_place_92 (Nat.le_of_ble_eq_true rfl) rfl ?_
  refine jr_aload_n (pc := 94) F (j := 2) dX4_place_94 rfl ?_
  refine jr_iload (pc := 95) F (j := 0) dX4_place_95 rfl ?_
  refine jr_iconst (pc := 97) F dX4_place_97 ?_
  obtain ⟨hx9, w1, w2⟩ := w
  refine jr_icmp_eq (pc := 98) (tgt := 105) F hx9 ⟨by decide, by decide⟩ dX4_place_98 rfl (fun c9 => ?_) (fun c9 => ?_)
  · have w := w1 c9
    refine jr_iconst (pc := 105) F dX4_place_105 ?_
    refine jj_J.sub [2, 0] rfl ?_
    exact sC_X4_place_j106 F M O J hi hQ hE _ _ _ _ _ _ w
  · have w := w2 c9
    refine jr_iconst (pc := 101) F dX4_place_101 ?_
    refine jr_goto (pc := 102) (tgt := 106) F dX4_place_102 rfl ?_
    refine jj_J.sub [2, 0] rfl ?_
    exact sC_X4_place_j106 F M O J hi hQ hE _ _ _ _ _ _ w

theorem sC_X4_place {X : jj_X} {N : Option jj_AV → jj_H → Prop} {XN : String → Nat → jj_H → Prop} (F : jj_F X RX4 cX4_place 5) (M : jj_M X (some (.int)) 16 692 N XN) (O : jj_no X) (J : jj_GJ X.1 X.2.2.1) (hi : X.2.2.2.2.2.2.2.2.2.1.name = yX4_place.name) {Q : Int → jj_H → Prop} {E : String → Nat → jj_H → Prop} (hQ : ∀ r h, Q r h → N (some (.inl r)) h) (hE : ∀ e q h, E e q h → XN e q h) (x0 : Option Nat) (x1 : Option Nat) : ∀ (h : jj_H) (k : Nat), fC_X4_place (jj_gk X.1) x0 x1 Q E h k → jj_J X 5 0 [(0, .inr (.inr (.inl x0))), (1, .inr (.inr (.inl x1)))] [] h k := by
  intro h k w
  unfold fC_X4_place at w
  refine jr_aload_n (pc := 0) F (j := 0) dX4_place_0 rfl ?_
  refine jr_ldcS (pc := 1) F (jK_gs J) 22 rfl dX4_place_1 ?_
  obtain ⟨hi9, c25, hk9, w⟩ := w
  refine jr_cV (pc := 3) (As := [_]) (ci := 10) F M (lw_V q2550 q2552 qs30 q145 q2553) dX4_place_3 hC_X4_expect rfl (Nat.le_of_ble_eq_true rfl) (Nat.le_of_ble_eq_true rfl) (Nat.le_of_ble_eq_true rfl) rfl hi9 hk9 (cC_X4_expect J w) (fun v9 h27 q9 => ?_) (fun E9 q9 h9 w9 => jr_out F M O (hE _ _ _ w9))
  obtain ⟨rfl, w⟩ := q9
  refine jr_aload_n (pc := 6) F (j := 0) dX4_place_6 rfl ?_
  refine jr_iconst (pc := 7) F dX4_place_7 ?_
  refine jr_aload_n (pc := 8) F (j := 1) dX4_place_8 rfl ?_
  obtain ⟨hi9, w⟩ := w
  refine jr_cV (pc := 9) (As := []) (ci := 3) F M (lw_V q2571 q1653 q1654 q149 q1655) dX4_place_9 hC_X5_pageCount rfl (Nat.le_of_ble_eq_true rfl) (Nat.le_of_ble_eq_true rfl) (Nat.le_of_ble_eq_true rfl) rfl hi9 (Nat.zero_le _) (cC_X5_pageCount J w) (fun v9 h30 q9 => ?_) (fun E9 q9 h9 w9 => jr_out F M O (hE _ _ _ w9))
  obtain ⟨r29, rfl, w⟩ := q9
  refine jr_iconst (pc := 12) F dX4_place_12 ?_
  refine jr_isub (pc := 13) F dX4_place_13 ?_
  obtain ⟨hi9, c31, hk9, w⟩ := w
  refine jr_cV (pc := 14) (As := [_, _]) (ci := 10) F M (lw_V q2464 q2466 qs25 q145 q2467) dX4_place_14 hC_X4_number rfl (Nat.le_of_ble_eq_true rfl) (Nat.le_of_ble_eq_true rfl) (Nat.le_of_ble_eq_true rfl) rfl hi9 hk9 (cC_X4_number J w) (fun v9 h33 q9 => ?_) (fun E9 q9 h9 w9 => jr_out F M O (hE _ _ _ w9))
  obtain ⟨r32, rfl, w⟩ := q9
  refine jr_istore_n (pc := 17) F (vs' := [(2, .inl _), (0, .inr (.inr (.inl _))), (1, .inr (.inr (.inl _)))]) dX4_place_17 (Nat.le_of_ble_eq_true rfl) rfl ?_
  refine jr_aload_n (pc := 18) F (j := 1) dX4_place_18 rfl ?_
  refine jr_ldcS (pc := 19) F (jK_gs J) 23 rfl dX4_place_19 ?_
  obtain ⟨hi9, c34, hk9, w⟩ := w
  refine jr_cV (pc := 21) (As := [_]) (ci := 10) F M (lw_V q2550 q2552 qs30 q145 q2553) dX4_place_21 hC_X4_expect rfl (Nat.le_of_ble_eq_true rfl) (Nat.le_of_ble_eq_true rfl) (Nat.le_of_ble_eq_true rfl) rfl hi9 hk9 (cC_X4_expect J w) (fun v9 h36 q9 => ?_) (fun E9 q9 h9 w9 => jr_out F M O (hE _ _ _ w9))
  obtain ⟨rfl, w⟩ := q9
  refine jr_aload_n (pc := 24) F (j := 1) dX4_place_24 rfl ?_
  refine jr_aload_n (pc := 25) F (j := 1) dX4_place_25 rfl ?_
  refine jr_gi (pc := 26) (ci := 10) (f := 4) F rfl in_X4 (Nat.le_of_ble_eq_true rfl) q2389 dX4_place_26 w (fun g37 w => ?_)
  refine jr_iconst (pc := 29) F dX4_place_29 ?_
  obtain ⟨hi9, c38, hk9, w⟩ := w
  refine jr_cV (pc := 30) (As := [_, _]) (ci := 10) F M (lw_V q2428 q2430 qs23 q145 q2431) dX4_place_30 hC_X4_require rfl (Nat.le_of_ble_eq_true rfl) (Nat.le_of_ble_eq_true rfl) (Nat.le_of_ble_eq_true rfl) rfl hi9 hk9 (cC_X4_require J w) (fun v9 h40 q9 => ?_) (fun E9 q9 h9 w9 => jr_out F M O (hE _ _ _ w9))
  obtain ⟨rfl, w⟩ := q9
  refine jr_aload_n (pc := 33) F (j := 1) dX4_place_33 rfl ?_
  refine jr_aload_n (pc := 34) F (j := 2) dX4_place_34 rfl ?_
  refine jr_iload_n (pc := 35) F (j := 0) dX4_place_35 rfl ?_
  refine jr_aload_n (pc := 36) F (j := 1) dX4_place_36 rfl ?_
  refine jr_gi (pc := 37) (ci := 10) (f := 6) F rfl in_X4 (Nat.le_of_ble_eq_true rfl) q2391 dX4_place_37 w (fun g41 w => ?_)
  refine jr_iconst (pc := 40) F dX4_place_40 ?_
  obtain ⟨hi9, w⟩ := w
  refine jr_cV (pc := 41) (As := [_, _, _]) (ci := 3) F M (lw_V q2573 q2574 q2575 q149 q2576) dX4_place_41 hC_X5_find_2 rfl (Nat.le_of_ble_eq_true rfl) (Nat.le_of_ble_eq_true rfl) (Nat.le_of_ble_eq_true rfl) rfl hi9 (Nat.zero_le _) (cC_X5_find_2 J w) (fun v9 h44 q9 => ?_) (fun E9 q9 h9 w9 => jr_out F M O (hE _ _ _ w9))
  obtain ⟨r43, rfl, w⟩ := q9
  refine jr_iconst (pc := 44) F dX4_place_44 ?_
  obtain ⟨hx9, w1, w2⟩ := w
  refine jr_icmp_eq (pc := 45) (tgt := 52) F hx9 ⟨by decide, by decide⟩ dX4_place_45 rfl (fun c9 => ?_) (fun c9 => ?_)
  · have w := w1 c9
    refine jr_iconst (pc := 52) F dX4_place_52 ?_
    refine jj_J.sub [1, 2, 0] rfl ?_
    exact sC_X4_place_j53 F M O J hi hQ hE _ _ _ _ _ _ _ w
  · have w := w2 c9
    refine jr_iconst (pc := 48) F dX4_place_48 ?_
    refine jr_goto (pc := 49) (tgt := 53) F dX4_place_49 rfl ?_
    refine jj_J.sub [1, 2, 0] rfl ?_
    exact sC_X4_place_j53 F M O J hi hQ hE _ _ _ _ _ _ _ w

theorem cC_X4_place {G : jj_G} {l : Launch} (J : jj_GJ G l) {x0 : Option Nat} {x1 : Option Nat} {Q : Int → jj_H → Prop} {E : String → Nat → jj_H → Prop} {h : jj_H} {k : Nat} (w : fC_X4_place (jj_gk G) x0 x1 Q E h k) : jj_Ct G l yX4_place (ws_ yX4_place cX4_place 5 (some (.int))) 16 692 [.inr (.inr (.inl x0)), .inr (.inr (.inl x1))] h k (jc_i Q) E := by
  refine jj_Ct.of (jK_gs J).1 (by decide +kernel) (Nat.le_of_ble_eq_true rfl) rfl (fun X hG hl F M O hnm => ?_)
  subst hG; subst hl
  exact sC_X4_place F M O J hnm (fun r h q => ⟨r, rfl, q⟩) (fun _ _ _ q => q) _ _ _ _ w
theorem hC_X4_place : yX4_place.cls = RX4 ∧ yX4_place.cls ≠ "java/lang/invoke/MethodHandle" ∧ yX4_place.cls ≠ "java/lang/invoke/VarHandle" ∧ (parseMethodDescriptor yX4_place.desc).map (fun d => d.parameters.length) = some 1 := by decide +kernel
/-! X4_quoted()Ljava/util/ArrayList; -/
def fC_X4_quoted_l9 (gk : Nat → Nat) (x0 : Option Nat) (x1 : Option Nat) (Q : Option Nat → jj_H → Prop) (E : String → Nat → jj_H → Prop) : Nat → jj_H → Nat → Prop
  | 0, _, _ => False
  | n + 1, h, k =>
  jp_is h x0 10 ∧ ∃ c1, c1 ≤ k ∧ fC_X4_name gk x0 (fun r2 h3 =>
  jq_J2_add x1 r2 (fun r6 h4 k5 =>
  jp_is h4 x0 10 ∧ ∃ c7, c7 ≤ k5 ∧ fC_X4_advance gk x0 (fun h9 =>
  jp_gi h9 x0 10 5 (fun g10 =>
  jj_r g10 ∧ (¬ g10 = 0 → (
    fC_X4_quoted_l9 gk x0 x1 Q E n h9 (k5 - c7))) ∧
  (g10 = 0 → (
    jp_gr h9 x0 10 7 (fun g11 =>
    jq_J9_equals g11 (some (gk 16)) (fun r14 h12 k13 =>
    jp_is h12 x0 10 ∧ ∃ c15, c15 ≤ k13 ∧ fC_X4_require gk x0 r14 1 (fun h17 =>
    Q x1 h17) E h12 c15) h9 (k5 - c7)))))) E h4 c7) h3 (k - c1)) E h c1
def fC_X4_quoted (gk : Nat → Nat) (x0 : Option Nat) (Q : Option Nat → jj_H → Prop) (E : String → Nat → jj_H → Prop) (h : jj_H) (k : Nat) : Prop :=
  jp_nw h k 14 1 df_J2 (fun a18 h19 k20 =>
  jq_J2_init (some a18) 4 (fun h21 k22 =>
  ∃ n9, fC_X4_quoted_l9 gk x0 (some a18) Q E n9 h21 k22) h19 k20)
theorem sC_X4_quoted_l9 {X : jj_X} {N : Option jj_AV → jj_H → Prop} {XN : String → Nat → jj_H → Prop} (F : jj_F X RX4 cX4_quoted 2) (M : jj_M X (some ((.object "java/util/ArrayList"))) 16 685 N XN) (O : jj_no X) (J : jj_GJ X.1 X.2.2.1) (hi : X.2.2.2.2.2.2.2.2.2.1.name = yX4_quoted.name) {Q : Option Nat → jj_H → Prop} {E : String → Nat → jj_H → Prop} (hQ : ∀ r h, Q r h → N (some (.inr (.inr (.inl r)))) h) (hE : ∀ e q h, E e q h → XN e q h) (x0 : Option Nat) (x1 : Option Nat) : ∀ (n : Nat) (h : jj_H) (k : Nat), fC_X4_quoted_l9 (jj_gk X.1) x0 x1 Q E n h k → jj_J X 2 9 [(0, .inr (.inr (.inl x0))), (1, .inr (.inr (.inl x1)))] [] h k := by
  intro n
  induction n with
  | zero =>
    intro  h k w
    exact (show False from w).elim
  | succ n ih =>
    intro  h k w
    rw [fC_X4_quoted_l9] at w
    refine jr_aload_n (pc := 9) F (j := 1) dX4_quoted_9 rfl ?_
    refine jr_aload_n (pc := 10) F (j := 0) dX4_quoted_10 rfl ?_
    obtain ⟨hi9, c1, hk9, w⟩ := w
    refine jr_cVX (pc := 11) (As := []) (ci := 10) F M (lw_VW q2471 q2473 qs26 q145 q2474) dX4_quoted_11 hC_X4_name rfl (Nat.le_of_ble_eq_true rfl) (Nat.le_of_ble_eq_true rfl) (Nat.le_of_ble_eq_true rfl) rfl hi9 hk9 (cC_X4_name J w) (fun v9 h3 q9 => ?_) (fun E9 q9 h9 w9 => jr_out F M O (hE _ _ _ w9))
    obtain ⟨r2, rfl, w⟩ := q9
    refine jr_jV (pc := 14) (As := [_]) (ci := 14) F M (lw_V q2560 q820 q821 q124 q822) dX4_quoted_14 hj_J2_add rfl (Nat.le_of_ble_eq_true rfl) (Nat.le_of_ble_eq_true rfl) (Nat.le_of_ble_eq_true rfl) rfl (jK_J2_add J _ _ _ _ _ w) (fun v9 h4 k5 q9 => ?_)
    obtain ⟨r6, rfl, w⟩ := q9
    refine jr_pop (pc := 17) F dX4_quoted_17 rfl ?_
    refine jr_aload_n (pc := 18) F (j := 0) dX4_quoted_18 rfl ?_
    obtain ⟨hi9, c7, hk9, w⟩ := w
    refine jr_cV (pc := 19) (As := []) (ci := 10) F M (lw_V q2343 q2345 qs20 q145 q2346) dX4_quoted_19 hC_X4_advance rfl (Nat.le_of_ble_eq_true rfl) (Nat.le_of_ble_eq_true rfl) (Nat.le_of_ble_eq_true rfl) rfl hi9 hk9 (cC_X4_advance J w) (fun v9 h9 q9 => ?_) (fun E9 q9 h9 w9 => jr_out F M O (hE _ _ _ w9))
    obtain ⟨rfl, w⟩ := q9
    refine jr_aload_n (pc := 22) F (j := 0) dX4_quoted_22 rfl ?_
    refine jr_gi (pc := 23) (ci := 10) (f := 5) F rfl in_X4 (Nat.le_of_ble_eq_true rfl) q2390 dX4_quoted_23 w (fun g10 w => ?_)
    obtain ⟨hx9, w1, w2⟩ := w
    refine jr_if_ne (pc := 26) (tgt := 9) F hx9 dX4_quoted_26 rfl (fun c9 => ?_) (fun c9 => ?_)
    · have w := w1 c9
      exact ih _ _ w
    · have w := w2 c9
      refine jr_aload_n (pc := 29) F (j := 0) dX4_quoted_29 rfl ?_
      refine jr_aload_n (pc := 30) F (j := 0) dX4_quoted_30 rfl ?_
      refine jr_gr (pc := 31) (ci := 10) (f := 7) F rfl in_X4 (Nat.le_of_ble_eq_true rfl) q2392 dX4_quoted_31 w (fun g11 w => ?_)
      refine jr_ldcS (pc := 34) F (jK_gs J) 21 rfl dX4_quoted_34 ?_
      refine jr_jV (pc := 36) (As := [_]) (ci := 25) F M (lw_V q2423 q713 q714 q131 q715) dX4_quoted_36 hj_J9_equals rfl (Nat.le_of_ble_eq_true rfl) (Nat.le_of_ble_eq_true rfl) (Nat.le_of_ble_eq_true rfl) rfl (jK_J9_equals J _ _ _ _ _ w) (fun v9 h12 k13 q9 => ?_)
      obtain ⟨r14, rfl, w⟩ := q9
      refine jr_iconst (pc := 39) F dX4_quoted_39 ?_
      obtain ⟨hi9, c15, hk9, w⟩ := w
      refine jr_cV (pc := 40) (As := [_, _]) (ci := 10) F M (lw_V q2428 q2430 qs23 q145 q2431) dX4_quoted_40 hC_X4_require rfl (Nat.le_of_ble_eq_true rfl) (Nat.le_of_ble_eq_true rfl) (Nat.le_of_ble_eq_true rfl) rfl hi9 hk9 (cC_X4_require J w) (fun v9 h17 q9 => ?_) (fun E9 q9 h9 w9 => jr_out F M O (hE _ _ _ w9))
      obtain ⟨rfl, w⟩ := q9
      refine jr_aload_n (pc := 43) F (j := 1) dX4_quoted_43 rfl ?_
      exact jr_aret (pc := 44) F M (Or.inl ⟨_, rfl⟩) dX4_quoted_44 (hQ _ _ w)

theorem sC_X4_quoted {X : jj_X} {N : Option jj_AV → jj_H → Prop} {XN : String → Nat → jj_H → Prop} (F : jj_F X RX4 cX4_quoted 2) (M : jj_M X (some ((.object "java/util/ArrayList"))) 16 685 N XN) (O : jj_no X) (J : jj_GJ X.1 X.2.2.1) (hi : X.2.2.2.2.2.2.2.2.2.1.name = yX4_quoted.name) {Q : Option Nat → jj_H → Prop} {E : String → Nat → jj_H → Prop} (hQ : ∀ r h, Q r h → N (some (.inr (.inr (.inl r)))) h) (hE : ∀ e q h, E e q h → XN e q h) (x0 : Option Nat) : ∀ (h : jj_H) (k : Nat), fC_X4_quoted (jj_gk X.1) x0 Q E h k → jj_J X 2 0 [(0, .inr (.inr (.inl x0)))] [] h k := by
  intro h k w
  unfold fC_X4_quoted at w
  refine jr_new (pc := 0) (ci := 14) F rfl in_J2 tyJ2_ok q2558 q201 q124 dfo_J2 rfl ⟨by decide, by decide⟩ dX4_quoted_0 w (fun a18 h19 k20 w => ?_)
  refine jr_dup (pc := 3) F dX4_quoted_3 rfl ?_
  refine jr_iconst (pc := 4) F dX4_quoted_4 ?_
  refine jr_jI (pc := 5) (As := [_]) F M q2559 q203 q124 q204 dX4_quoted_5 rfl hj_J2_init.2 rfl (Nat.le_of_ble_eq_true rfl) (Nat.le_of_ble_eq_true rfl) (Nat.le_of_ble_eq_true rfl) (jK_J2_init J _ _ _ _ _ w) (fun v9 h21 k22 q9 => ?_)
  obtain ⟨rfl, w⟩ := q9
  refine jr_astore_n (pc := 8) F (vs' := [(1, .inr (.inr (.inl _))), (0, .inr (.inr (.inl _)))]) dX4_quoted_8 (Nat.le_of_ble_eq_true rfl) rfl ?_
  refine jj_J.sub [1, 0] rfl ?_
  obtain ⟨n9, w⟩ := w
  exact sC_X4_quoted_l9 F M O J hi hQ hE _ _ n9 _ _ w

theorem cC_X4_quoted {G : jj_G} {l : Launch} (J : jj_GJ G l) {x0 : Option Nat} {Q : Option Nat → jj_H → Prop} {E : String → Nat → jj_H → Prop} {h : jj_H} {k : Nat} (w : fC_X4_quoted (jj_gk G) x0 Q E h k) : jj_Ct G l yX4_quoted (ws_ yX4_quoted cX4_quoted 2 (some ((.object "java/util/ArrayList")))) 16 685 [.inr (.inr (.inl x0))] h k (jc_r Q) E := by
  refine jj_Ct.of (jK_gs J).1 (by decide +kernel) (Nat.le_of_ble_eq_true rfl) rfl (fun X hG hl F M O hnm => ?_)
  subst hG; subst hl
  exact sC_X4_quoted F M O J hnm (fun r h q => ⟨r, rfl, q⟩) (fun _ _ _ q => q) _ _ _ w
theorem hC_X4_quoted : yX4_quoted.cls = RX4 ∧ yX4_quoted.cls ≠ "java/lang/invoke/MethodHandle" ∧ yX4_quoted.cls ≠ "java/lang/invoke/VarHandle" ∧ (parseMethodDescriptor yX4_quoted.desc).map (fun d => d.parameters.length) = some 0 := by decide +kernel
/-! X4_said()Ljava/util/ArrayList; -/
def fC_X4_said_j48 (gk : Nat → Nat) (K28 : jj_H → Nat → Prop) (x0 : Option Nat) (x1 : Option Nat) (x2 : Option Nat) (y0 : Option Nat) (y1 : Int) (Q : Option Nat → jj_H → Prop) (E : String → Nat → jj_H → Prop) (h : jj_H) (k : Nat) : Prop :=
  jp_is h y0 10 ∧ ∃ c1, c1 ≤ k ∧ fC_X4_require gk y0 y1 4 (fun h3 =>
  jp_is h3 x0 10 ∧ ∃ c4, c4 ≤ (k - c1) ∧ fC_X4_advance gk x0 (fun h6 =>
  jq_J2_add x1 x2 (fun r9 h7 k8 =>
  jp_gi h7 x0 10 5 (fun g10 =>
  jj_r g10 ∧ (¬ g10 = 0 → (
    K28 h7 k8)) ∧
  (g10 = 0 → (
    Q x1 h7)))) h6 ((k - c1) - c4)) E h3 c4) E h c1
def fC_X4_said_l28 (gk : Nat → Nat) (x0 : Option Nat) (x1 : Option Nat) (Q : Option Nat → jj_H → Prop) (E : String → Nat → jj_H → Prop) : Nat → jj_H → Nat → Prop
  | 0, _, _ => False
  | n + 1, h, k =>
  jp_is h x0 10 ∧ ∃ c11, c11 ≤ k ∧ fC_X4_name gk x0 (fun r12 h13 =>
  jq_J2_size x1 (fun r16 h14 k15 =>
  jj_r r16 ∧ (6 ≤ r16 → (
    fC_X4_said_j48 gk (fC_X4_said_l28 gk x0 x1 Q E n) x0 x1 r12 x0 0 Q E h14 k15)) ∧
  (¬ 6 ≤ r16 → (
    fC_X4_said_j48 gk (fC_X4_said_l28 gk x0 x1 Q E n) x0 x1 r12 x0 1 Q E h14 k15))) h13 (k - c11)) E h c11
def fC_X4_said (gk : Nat → Nat) (x0 : Option Nat) (Q : Option Nat → jj_H → Prop) (E : String → Nat → jj_H → Prop) (h : jj_H) (k : Nat) : Prop :=
  jp_nw h k 14 1 df_J2 (fun a17 h18 k19 =>
  jq_J2_init (some a17) 2 (fun h20 k21 =>
  jp_gr h20 x0 10 7 (fun g22 =>
  jq_J9_equals g22 (some (gk 12)) (fun r25 h23 k24 =>
  jj_r r25 ∧ (¬ r25 = 0 → (
    jp_is h23 x0 10 ∧ ∃ c26, c26 ≤ k24 ∧ fC_X4_advance gk x0 (fun h28 =>
    ∃ n9, fC_X4_said_l28 gk x0 (some a17) Q E n9 h28 (k24 - c26)) E h23 c26)) ∧
  (r25 = 0 → (
    Q (some a17) h23))) h20 k21)) h18 k19)
theorem sC_X4_said_j48 {X : jj_X} {N : Option jj_AV → jj_H → Prop} {XN : String → Nat → jj_H → Prop} (F : jj_F X RX4 cX4_said 3) (M : jj_M X (some ((.object "java/util/ArrayList"))) 16 685 N XN) (O : jj_no X) (J : jj_GJ X.1 X.2.2.1) (hi : X.2.2.2.2.2.2.2.2.2.1.name = yX4_said.name) {Q : Option Nat → jj_H → Prop} {E : String → Nat → jj_H → Prop} (hQ : ∀ r h, Q r h → N (some (.inr (.inr (.inl r)))) h) (hE : ∀ e q h, E e q h → XN e q h) (x0 : Option Nat) (x1 : Option Nat) (x2 : Option Nat) (y0 : Option Nat) (y1 : Int) {K28 : jj_H → Nat → Prop} (hK28 : ∀ (h : jj_H) (k : Nat), K28 h k → jj_J X 3 28 [(0, .inr (.inr (.inl x0))), (1, .inr (.inr (.inl x1)))] [] h k) : ∀ (h : jj_H) (k : Nat), fC_X4_said_j48 (jj_gk X.1) K28 x0 x1 x2 y0 y1 Q E h k → jj_J X 3 48 [(0, .inr (.inr (.inl x0))), (1, .inr (.inr (.inl x1))), (2, .inr (.inr (.inl x2)))] [.inl y1, .inr (.inr (.inl y0))] h k := by
  intro h k w
  unfold fC_X4_said_j48 at w
  refine jr_iconst (pc := 48) F dX4_said_48 ?_
  obtain ⟨hi9, c1, hk9, w⟩ := w
  refine jr_cV (pc := 49) (As := [_, _]) (ci := 10) F M (lw_V q2428 q2430 qs23 q145 q2431) dX4_said_49 hC_X4_require rfl (Nat.le_of_ble_eq_true rfl) (Nat.le_of_ble_eq_true rfl) (Nat.le_of_ble_eq_true rfl) rfl hi9 hk9 (cC_X4_require J w) (fun v9 h3 q9 => ?_) (fun E9 q9 h9 w9 => jr_out F M O (hE _ _ _ w9))
  obtain ⟨rfl, w⟩ := q9
  refine jr_aload_n (pc := 52) F (j := 0) dX4_said_52 rfl ?_
  obtain ⟨hi9, c4, hk9, w⟩ := w
  refine jr_cV (pc := 53) (As := []) (ci := 10) F M (lw_V q2343 q2345 qs20 q145 q2346) dX4_said_53 hC_X4_advance rfl (Nat.le_of_ble_eq_true rfl) (Nat.le_of_ble_eq_true rfl) (Nat.le_of_ble_eq_true rfl) rfl hi9 hk9 (cC_X4_advance J w) (fun v9 h6 q9 => ?_) (fun E9 q9 h9 w9 => jr_out F M O (hE _ _ _ w9))
  obtain ⟨rfl, w⟩ := q9
  refine jr_aload_n (pc := 56) F (j := 1) dX4_said_56 rfl ?_
  refine jr_aload_n (pc := 57) F (j := 2) dX4_said_57 rfl ?_
  refine jr_jV (pc := 58) (As := [_]) (ci := 14) F M (lw_V q2560 q820 q821 q124 q822) dX4_said_58 hj_J2_add rfl (Nat.le_of_ble_eq_true rfl) (Nat.le_of_ble_eq_true rfl) (Nat.le_of_ble_eq_true rfl) rfl (jK_J2_add J _ _ _ _ _ w) (fun v9 h7 k8 q9 => ?_)
  obtain ⟨r9, rfl, w⟩ := q9
  refine jr_pop (pc := 61) F dX4_said_61 rfl ?_
  refine jr_aload_n (pc := 62) F (j := 0) dX4_said_62 rfl ?_
  refine jr_gi (pc := 63) (ci := 10) (f := 5) F rfl in_X4 (Nat.le_of_ble_eq_true rfl) q2390 dX4_said_63 w (fun g10 w => ?_)
  obtain ⟨hx9, w1, w2⟩ := w
  refine jr_if_ne (pc := 66) (tgt := 28) F hx9 dX4_said_66 rfl (fun c9 => ?_) (fun c9 => ?_)
  · have w := w1 c9
    refine jj_J.sub [0, 1] rfl ?_
    exact hK28 _ _ w
  · have w := w2 c9
    refine jr_aload_n (pc := 69) F (j := 1) dX4_said_69 rfl ?_
    exact jr_aret (pc := 70) F M (Or.inl ⟨_, rfl⟩) dX4_said_70 (hQ _ _ w)

theorem sC_X4_said_l28 {X : jj_X} {N : Option jj_AV → jj_H → Prop} {XN : String → Nat → jj_H → Prop} (F : jj_F X RX4 cX4_said 3) (M : jj_M X (some ((.object "java/util/ArrayList"))) 16 685 N XN) (O : jj_no X) (J : jj_GJ X.1 X.2.2.1) (hi : X.2.2.2.2.2.2.2.2.2.1.name = yX4_said.name) {Q : Option Nat → jj_H → Prop} {E : String → Nat → jj_H → Prop} (hQ : ∀ r h, Q r h → N (some (.inr (.inr (.inl r)))) h) (hE : ∀ e q h, E e q h → XN e q h) (x0 : Option Nat) (x1 : Option Nat) : ∀ (n : Nat) (h : jj_H) (k : Nat), fC_X4_said_l28 (jj_gk X.1) x0 x1 Q E n h k → jj_J X 3 28 [(0, .inr (.inr (.inl x0))), (1, .inr (.inr (.inl x1)))] [] h k := by
  intro n
  induction n with
  | zero =>
    intro  h k w
    exact (show False from w).elim
  | succ n ih =>
    intro  h k w
    rw [fC_X4_said_l28] at w
    refine jr_aload_n (pc := 28) F (j := 0) dX4_said_28 rfl ?_
    obtain ⟨hi9, c11, hk9, w⟩ := w
    refine jr_cVX (pc := 29) (As := []) (ci := 10) F M (lw_VW q2471 q2473 qs26 q145 q2474) dX4_said_29 hC_X4_name rfl (Nat.le_of_ble_eq_true rfl) (Nat.le_of_ble_eq_true rfl) (Nat.le_of_ble_eq_true rfl) rfl hi9 hk9 (cC_X4_name J w) (fun v9 h13 q9 => ?_) (fun E9 q9 h9 w9 => jr_out F M O (hE _ _ _ w9))
    obtain ⟨r12, rfl, w⟩ := q9
    refine jr_astore_n (pc := 32) F (vs' := [(2, .inr (.inr (.inl _))), (0, .inr (.inr (.inl _))), (1, .inr (.inr (.inl _)))]) dX4_said_32 (Nat.le_of_ble_eq_true rfl) rfl ?_
    refine jr_aload_n (pc := 33) F (j := 1) dX4_said_33 rfl ?_
    refine jr_aload_n (pc := 34) F (j := 2) dX4_said_34 rfl ?_
    refine jr_jV (pc := 35) (As := []) (ci := 14) F M (lw_V q2427 q676 q677 q124 q678) dX4_said_35 hj_J2_size rfl (Nat.le_of_ble_eq_true rfl) (Nat.le_of_ble_eq_true rfl) (Nat.le_of_ble_eq_true rfl) rfl (jK_J2_size J _ _ _ _ w) (fun v9 h14 k15 q9 => ?_)
    obtain ⟨r16, rfl, w⟩ := q9
    refine jr_bipush (pc := 38) F dX4_said_38 (by decide +kernel) ?_
    obtain ⟨hx9, w1, w2⟩ := w
    refine jr_icmp_ge (pc := 40) (tgt := 47) F hx9 ⟨by decide, by decide⟩ dX4_said_40 rfl (fun c9 => ?_) (fun c9 => ?_)
    · have w := w1 c9
      refine jr_iconst (pc := 47) F dX4_said_47 ?_
      refine jj_J.sub [1, 2, 0] rfl ?_
      exact sC_X4_said_j48 F M O J hi hQ hE _ _ _ _ _ ih _ _ w
    · have w := w2 c9
      refine jr_iconst (pc := 43) F dX4_said_43 ?_
      refine jr_goto (pc := 44) (tgt := 48) F dX4_said_44 rfl ?_
      refine jj_J.sub [1, 2, 0] rfl ?_
      exact sC_X4_said_j48 F M O J hi hQ hE _ _ _ _ _ ih _ _ w

theorem sC_X4_said {X : jj_X} {N : Option jj_AV → jj_H → Prop} {XN : String → Nat → jj_H → Prop} (F : jj_F X RX4 cX4_said 3) (M : jj_M X (some ((.object "java/util/ArrayList"))) 16 685 N XN) (O : jj_no X) (J : jj_GJ X.1 X.2.2.1) (hi : X.2.2.2.2.2.2.2.2.2.1.name = yX4_said.name) {Q : Option Nat → jj_H → Prop} {E : String → Nat → jj_H → Prop} (hQ : ∀ r h, Q r h → N (some (.inr (.inr (.inl r)))) h) (hE : ∀ e q h, E e q h → XN e q h) (x0 : Option Nat) : ∀ (h : jj_H) (k : Nat), fC_X4_said (jj_gk X.1) x0 Q E h k → jj_J X 3 0 [(0, .inr (.inr (.inl x0)))] [] h k := by
  intro h k w
  unfold fC_X4_said at w
  refine jr_new (pc := 0) (ci := 14) F rfl in_J2 tyJ2_ok q2558 q201 q124 dfo_J2 rfl ⟨by decide, by decide⟩ dX4_said_0 w (fun a17 h18 k19 w => ?_)
  refine jr_dup (pc := 3) F dX4_said_3 rfl ?_
  refine jr_iconst (pc := 4) F dX4_said_4 ?_
  refine jr_jI (pc := 5) (As := [_]) F M q2559 q203 q124 q204 dX4_said_5 rfl hj_J2_init.2 rfl (Nat.le_of_ble_eq_true rfl) (Nat.le_of_ble_eq_true rfl) (Nat.le_of_ble_eq_true rfl) (jK_J2_init J _ _ _ _ _ w) (fun v9 h20 k21 q9 => ?_)
  obtain ⟨rfl, w⟩ := q9
  refine jr_astore_n (pc := 8) F (vs' := [(1, .inr (.inr (.inl _))), (0, .inr (.inr (.inl _)))]) dX4_said_8 (Nat.le_of_ble_eq_true rfl) rfl ?_
  refine jr_aload_n (pc := 9) F (j := 1) dX4_said_9 rfl ?_
  refine jr_gr (pc := 10) (ci := 10) (f := 7) F rfl in_X4 (Nat.le_of_ble_eq_true rfl) q2392 dX4_said_10 w (fun g22 w => ?_)
  refine jr_ldcwS (pc := 13) F (jK_gs J) 26 rfl dX4_said_13 ?_
  refine jr_jV (pc := 16) (As := [_]) (ci := 25) F M (lw_V q2423 q713 q714 q131 q715) dX4_said_16 hj_J9_equals rfl (Nat.le_of_ble_eq_true rfl) (Nat.le_of_ble_eq_true rfl) (Nat.le_of_ble_eq_true rfl) rfl (jK_J9_equals J _ _ _ _ _ w) (fun v9 h23 k24 q9 => ?_)
  obtain ⟨r25, rfl, w⟩ := q9
  obtain ⟨hx9, w1, w2⟩ := w
  refine jr_if_ne (pc := 19) (tgt := 24) F hx9 dX4_said_19 rfl (fun c9 => ?_) (fun c9 => ?_)
  · have w := w1 c9
    refine jr_aload_n (pc := 24) F (j := 1) dX4_said_24 rfl ?_
    obtain ⟨hi9, c26, hk9, w⟩ := w
    refine jr_cV (pc := 25) (As := []) (ci := 10) F M (lw_V q2343 q2345 qs20 q145 q2346) dX4_said_25 hC_X4_advance rfl (Nat.le_of_ble_eq_true rfl) (Nat.le_of_ble_eq_true rfl) (Nat.le_of_ble_eq_true rfl) rfl hi9 hk9 (cC_X4_advance J w) (fun v9 h28 q9 => ?_) (fun E9 q9 h9 w9 => jr_out F M O (hE _ _ _ w9))
    obtain ⟨rfl, w⟩ := q9
    refine jj_J.sub [1, 0] rfl ?_
    obtain ⟨n9, w⟩ := w
    exact sC_X4_said_l28 F M O J hi hQ hE _ _ n9 _ _ w
  · have w := w2 c9
    refine jr_aload_n (pc := 22) F (j := 0) dX4_said_22 rfl ?_
    exact jr_aret (pc := 23) F M (Or.inl ⟨_, rfl⟩) dX4_said_23 (hQ _ _ w)

theorem cC_X4_said {G : jj_G} {l : Launch} (J : jj_GJ G l) {x0 : Option Nat} {Q : Option Nat → jj_H → Prop} {E : String → Nat → jj_H → Prop} {h : jj_H} {k : Nat} (w : fC_X4_said (jj_gk G) x0 Q E h k) : jj_Ct G l yX4_said (ws_ yX4_said cX4_said 3 (some ((.object "java/util/ArrayList")))) 16 685 [.inr (.inr (.inl x0))] h k (jc_r Q) E := by
  refine jj_Ct.of (jK_gs J).1 (by decide +kernel) (Nat.le_of_ble_eq_true rfl) rfl (fun X hG hl F M O hnm => ?_)
  subst hG; subst hl
  exact sC_X4_said F M O J hnm (fun r h q => ⟨r, rfl, q⟩) (fun _ _ _ q => q) _ _ _ w
theorem hC_X4_said : yX4_said.cls = RX4 ∧ yX4_said.cls ≠ "java/lang/invoke/MethodHandle" ∧ yX4_said.cls ≠ "java/lang/invoke/VarHandle" ∧ (parseMethodDescriptor yX4_said.desc).map (fun d => d.parameters.length) = some 0 := by decide +kernel
/-! X5_find(Ljava/util/ArrayList;)I -/
def fC_X5_find_j63 (gk : Nat → Nat) (K2 : Int → jj_H → Nat → Prop) (x0 : Option Nat) (x1 : Option Nat) (x2 : Int) (x3 : Int) (Q : Int → jj_H → Prop) (E : String → Nat → jj_H → Prop) (h : jj_H) (k : Nat) : Prop :=
  jj_r x3 ∧ (x3 = 0 → (
    ∀ v1, v1 = x2 + 1 →
    K2 v1 h k)) ∧
  (¬ x3 = 0 → (
    Q x2 h))
def fC_X5_find_l20 (gk : Nat → Nat) (x0 : Option Nat) (x1 : Option Nat) (x2 : Int) (K2 : Int → jj_H → Nat → Prop) (Q : Int → jj_H → Prop) (E : String → Nat → jj_H → Prop) : Nat → Int → Int → jj_H → Nat → Prop
  | 0, _, _, _, _ => False
  | n + 1, x3, x4, h, k =>
  jq_J2_size x1 (fun r4 h2 k3 =>
  jj_r x4 ∧ jj_r r4 ∧ (r4 ≤ x4 → (
    fC_X5_find_j63 gk K2 x0 x1 x2 x3 Q E h2 k3)) ∧
  (¬ r4 ≤ x4 → (
    jj_r x3 ∧ (x3 = 0 → (
      fC_X5_find_j63 gk K2 x0 x1 x2 x3 Q E h2 k3)) ∧
    (¬ x3 = 0 → (
      jp_gr h2 x0 3 0 (fun g5 =>
      jq_J2_get g5 (x2 + x4) (fun r8 h6 k7 =>
      jp_is h6 r8 25 ∧
      jq_J2_get x1 x4 (fun r11 h9 k10 =>
      jq_J9_equals r8 r11 (fun r14 h12 k13 =>
      ∀ v15, v15 = x4 + 1 →
      fC_X5_find_l20 gk x0 x1 x2 K2 Q E n r14 v15 h12 k13) h9 k10) h6 k7) h2 k3)))))) h k
def fC_X5_find_l2 (gk : Nat → Nat) (x0 : Option Nat) (x1 : Option Nat) (Q : Int → jj_H → Prop) (E : String → Nat → jj_H → Prop) : Nat → Int → jj_H → Nat → Prop
  | 0, _, _, _ => False
  | n + 1, x2, h, k =>
  jq_J2_size x1 (fun r18 h16 k17 =>
  jp_is h16 x0 3 ∧ fC_X5_size gk x0 (fun r20 h21 =>
  jj_r (x2 + r18) ∧ jj_r r20 ∧ (r20 < (x2 + r18) → (
    Q (-1) h21)) ∧
  (¬ r20 < (x2 + r18) → (
    ∃ n9, fC_X5_find_l20 gk x0 x1 x2 (fC_X5_find_l2 gk x0 x1 Q E n) Q E n9 1 0 h21 k17))) E h16 0) h k
def fC_X5_find (gk : Nat → Nat) (x0 : Option Nat) (x1 : Option Nat) (Q : Int → jj_H → Prop) (E : String → Nat → jj_H → Prop) (h : jj_H) (k : Nat) : Prop :=
  ∃ n9, fC_X5_find_l2 gk x0 x1 Q E n9 0 h k
theorem sC_X5_find_j63 {X : jj_X} {N : Option jj_AV → jj_H → Prop} {XN : String → Nat → jj_H → Prop} (F : jj_F X RX5 cX5_find 5) (M : jj_M X (some (.int)) 14 640 N XN) (O : jj_no X) (J : jj_GJ X.1 X.2.2.1) (hi : X.2.2.2.2.2.2.2.2.2.1.name = yX5_find.name) {Q : Int → jj_H → Prop} {E : String → Nat → jj_H → Prop} (hQ : ∀ r h, Q r h → N (some (.inl r)) h) (hE : ∀ e q h, E e q h → XN e q h) (x0 : Option Nat) (x1 : Option Nat) (x2 : Int) (x3 : Int) {K2 : Int → jj_H → Nat → Prop} (hK2 : ∀ (z2 : Int) (h : jj_H) (k : Nat), K2 z2 h k → jj_J X 5 2 [(0, .inr (.inr (.inl x0))), (1, .inr (.inr (.inl x1))), (2, .inl z2)] [] h k) : ∀ (h : jj_H) (k : Nat), fC_X5_find_j63 (jj_gk X.1) K2 x0 x1 x2 x3 Q E h k → jj_J X 5 63 [(0, .inr (.inr (.inl x0))), (1, .inr (.inr (.inl x1))), (2, .inl x2), (3, .inl x3)] [] h k := by
  intro h k w
  unfold fC_X5_find_j63 at w
  refine jr_iload_n (pc := 63) F (j := 3) dX5_find_63 rfl ?_
  obtain ⟨hx9, w1, w2⟩ := w
  refine jr_if_eq (pc := 64) (tgt := 69) F hx9 dX5_find_64 rfl (fun c9 => ?_) (fun c9 => ?_)
  · have w := w1 c9
    have w := w _ rfl
    refine jr_iinc (pc := 69) F (j := 2) (vs' := [(2, .inl _), (0, .inr (.inr (.inl _))), (1, .inr (.inr (.inl _))), (3, .inl _)]) dX5_find_69 rfl rfl (Nat.le_of_ble_eq_true rfl) rfl ?_
    refine jr_goto (pc := 72) (tgt := 2) F dX5_find_72 rfl ?_
    refine jj_J.sub [1, 2, 0] rfl ?_
    exact hK2 _ _ _ w
  · have w := w2 c9
    refine jr_iload_n (pc := 67) F (j := 2) dX5_find_67 rfl ?_
    exact jr_iret (pc := 68) F M dX5_find_68 (hQ _ _ w)

theorem sC_X5_find_l20 {X : jj_X} {N : Option jj_AV → jj_H → Prop} {XN : String → Nat → jj_H → Prop} (F : jj_F X RX5 cX5_find 5) (M : jj_M X (some (.int)) 14 640 N XN) (O : jj_no X) (J : jj_GJ X.1 X.2.2.1) (hi : X.2.2.2.2.2.2.2.2.2.1.name = yX5_find.name) {Q : Int → jj_H → Prop} {E : String → Nat → jj_H → Prop} (hQ : ∀ r h, Q r h → N (some (.inl r)) h) (hE : ∀ e q h, E e q h → XN e q h) (x0 : Option Nat) (x1 : Option Nat) (x2 : Int) {K2 : Int → jj_H → Nat → Prop} (hK2 : ∀ (z2 : Int) (h : jj_H) (k : Nat), K2 z2 h k → jj_J X 5 2 [(0, .inr (.inr (.inl x0))), (1, .inr (.inr (.inl x1))), (2, .inl z2)] [] h k) : ∀ (n : Nat) (x3 : Int) (x4 : Int) (h : jj_H) (k : Nat), fC_X5_find_l20 (jj_gk X.1) x0 x1 x2 K2 Q E n x3 x4 h k → jj_J X 5 20 [(0, .inr (.inr (.inl x0))), (1, .inr (.inr (.inl x1))), (2, .inl x2), (3, .inl x3), (4, .inl x4)] [] h k := by
  intro n
  induction n with
  | zero =>
    intro x3 x4 h k w
    exact (show False from w).elim
  | succ n ih =>
    intro x3 x4 h k w
    rw [fC_X5_find_l20] at w
    refine jr_iload (pc := 20) F (j := 4) dX5_find_20 rfl ?_
    refine jr_aload_n (pc := 22) F (j := 1) dX5_find_22 rfl ?_
    refine jr_jV (pc := 23) (As := []) (ci := 14) F M (lw_V q709 q676 q677 q124 q678) dX5_find_23 hj_J2_size rfl (Nat.le_of_ble_eq_true rfl) (Nat.le_of_ble_eq_true rfl) (Nat.le_of_ble_eq_true rfl) rfl (jK_J2_size J _ _ _ _ w) (fun v9 h2 k3 q9 => ?_)
    obtain ⟨r4, rfl, w⟩ := q9
    obtain ⟨hx9, hy9, w1, w2⟩ := w
    refine jr_icmp_ge (pc := 26) (tgt := 63) F hx9 hy9 dX5_find_26 rfl (fun c9 => ?_) (fun c9 => ?_)
    · have w := w1 c9
      refine jj_J.sub [0, 1, 2, 3] rfl ?_
      exact sC_X5_find_j63 F M O J hi hQ hE _ _ _ _ hK2 _ _ w
    · have w := w2 c9
      refine jr_iload_n (pc := 29) F (j := 3) dX5_find_29 rfl ?_
      obtain ⟨hx9, w1, w2⟩ := w
      refine jr_if_eq (pc := 30) (tgt := 63) F hx9 dX5_find_30 rfl (fun c9 => ?_) (fun c9 => ?_)
      · have w := w1 c9
        refine jj_J.sub [0, 1, 2, 3] rfl ?_
        exact sC_X5_find_j63 F M O J hi hQ hE _ _ _ _ hK2 _ _ w
      · have w := w2 c9
        refine jr_aload_n (pc := 33) F (j := 0) dX5_find_33 rfl ?_
        refine jr_gr (pc := 34) (ci := 3) (f := 0) F rfl in_X5 (Nat.le_of_ble_eq_true rfl) q1861 dX5_find_34 w (fun g5 w => ?_)
        refine jr_iload_n (pc := 37) F (j := 2) dX5_find_37 rfl ?_
        refine jr_iload (pc := 38) F (j := 4) dX5_find_38 rfl ?_
        refine jr_iadd (pc := 40) F dX5_find_40 ?_
        refine jr_jV (pc := 41) (As := [_]) (ci := 14) F M (lw_V q1994 q681 q682 q124 q683) dX5_find_41 hj_J2_get rfl (Nat.le_of_ble_eq_true rfl) (Nat.le_of_ble_eq_true rfl) (Nat.le_of_ble_eq_true rfl) rfl (jK_J2_get J _ _ _ _ _ w) (fun v9 h6 k7 q9 => ?_)
        obtain ⟨r8, rfl, w⟩ := q9
        obtain ⟨hi9, w⟩ := w
        refine jr_cast (pc := 44) (ci := 25) F rfl q1995 dX5_find_44 hi9 ?_
        refine jr_aload_n (pc := 47) F (j := 1) dX5_find_47 rfl ?_
        refine jr_iload (pc := 48) F (j := 4) dX5_find_48 rfl ?_
        refine jr_jV (pc := 50) (As := [_]) (ci := 14) F M (lw_V q1994 q681 q682 q124 q683) dX5_find_50 hj_J2_get rfl (Nat.le_of_ble_eq_true rfl) (Nat.le_of_ble_eq_true rfl) (Nat.le_of_ble_eq_true rfl) rfl (jK_J2_get J _ _ _ _ _ w) (fun v9 h9 k10 q9 => ?_)
        obtain ⟨r11, rfl, w⟩ := q9
        refine jr_jV (pc := 53) (As := [_]) (ci := 25) F M (lw_V q2565 q713 q714 q131 q715) dX5_find_53 hj_J9_equals rfl (Nat.le_of_ble_eq_true rfl) (Nat.le_of_ble_eq_true rfl) (Nat.le_of_ble_eq_true rfl) rfl (jK_J9_equals J _ _ _ _ _ w) (fun v9 h12 k13 q9 => ?_)
        obtain ⟨r14, rfl, w⟩ := q9
        refine jr_istore_n (pc := 56) F (vs' := [(3, .inl _), (0, .inr (.inr (.inl _))), (1, .inr (.inr (.inl _))), (2, .inl _), (4, .inl _)]) dX5_find_56 (Nat.le_of_ble_eq_true rfl) rfl ?_
        have w := w _ rfl
        refine jr_iinc (pc := 57) F (j := 4) (vs' := [(4, .inl _), (3, .inl _), (0, .inr (.inr (.inl _))), (1, .inr (.inr (.inl _))), (2, .inl _)]) dX5_find_57 rfl rfl (Nat.le_of_ble_eq_true rfl) rfl ?_
        refine jr_goto (pc := 60) (tgt := 20) F dX5_find_60 rfl ?_
        refine jj_J.sub [2, 3, 4, 1, 0] rfl ?_
        exact ih _ _ _ _ w

theorem sC_X5_find_l2 {X : jj_X} {N : Option jj_AV → jj_H → Prop} {XN : String → Nat → jj_H → Prop} (F : jj_F X RX5 cX5_find 5) (M : jj_M X (some (.int)) 14 640 N XN) (O : jj_no X) (J : jj_GJ X.1 X.2.2.1) (hi : X.2.2.2.2.2.2.2.2.2.1.name = yX5_find.name) {Q : Int → jj_H → Prop} {E : String → Nat → jj_H → Prop} (hQ : ∀ r h, Q r h → N (some (.inl r)) h) (hE : ∀ e q h, E e q h → XN e q h) (x0 : Option Nat) (x1 : Option Nat) : ∀ (n : Nat) (x2 : Int) (h : jj_H) (k : Nat), fC_X5_find_l2 (jj_gk X.1) x0 x1 Q E n x2 h k → jj_J X 5 2 [(0, .inr (.inr (.inl x0))), (1, .inr (.inr (.inl x1))), (2, .inl x2)] [] h k := by
  intro n
  induction n with
  | zero =>
    intro x2 h k w
    exact (show False from w).elim
  | succ n ih =>
    intro x2 h k w
    rw [fC_X5_find_l2] at w
    refine jr_iload_n (pc := 2) F (j := 2) dX5_find_2 rfl ?_
    refine jr_aload_n (pc := 3) F (j := 1) dX5_find_3 rfl ?_
    refine jr_jV (pc := 4) (As := []) (ci := 14) F M (lw_V q709 q676 q677 q124 q678) dX5_find_4 hj_J2_size rfl (Nat.le_of_ble_eq_true rfl) (Nat.le_of_ble_eq_true rfl) (Nat.le_of_ble_eq_true rfl) rfl (jK_J2_size J _ _ _ _ w) (fun v9 h16 k17 q9 => ?_)
    obtain ⟨r18, rfl, w⟩ := q9
    refine jr_iadd (pc := 7) F dX5_find_7 ?_
    refine jr_aload_n (pc := 8) F (j := 0) dX5_find_8 rfl ?_
    obtain ⟨hi9, w⟩ := w
    refine jr_cV (pc := 9) (As := []) (ci := 3) F M (lw_V q1993 q706 q707 q149 q708) dX5_find_9 hC_X5_size rfl (Nat.le_of_ble_eq_true rfl) (Nat.le_of_ble_eq_true rfl) (Nat.le_of_ble_eq_true rfl) rfl hi9 (Nat.zero_le _) (cC_X5_size J w) (fun v9 h21 q9 => ?_) (fun E9 q9 h9 w9 => jr_out F M O (hE _ _ _ w9))
    obtain ⟨r20, rfl, w⟩ := q9
    obtain ⟨hx9, hy9, w1, w2⟩ := w
    refine jr_icmp_gt (pc := 12) (tgt := 75) F hx9 hy9 dX5_find_12 rfl (fun c9 => ?_) (fun c9 => ?_)
    · have w := w1 c9
      refine jr_iconst (pc := 75) F dX5_find_75 ?_
      exact jr_iret (pc := 76) F M dX5_find_76 (hQ _ _ w)
    · have w := w2 c9
      refine jr_iconst (pc := 15) F dX5_find_15 ?_
      refine jr_istore_n (pc := 16) F (vs' := [(3, .inl _), (0, .inr (.inr (.inl _))), (1, .inr (.inr (.inl _))), (2, .inl _)]) dX5_find_16 (Nat.le_of_ble_eq_true rfl) rfl ?_
      refine jr_iconst (pc := 17) F dX5_find_17 ?_
      refine jr_istore (pc := 18) F (vs' := [(4, .inl _), (3, .inl _), (0, .inr (.inr (.inl _))), (1, .inr (.inr (.inl _))), (2, .inl _)]) dX5_find_18 (Nat.le_of_ble_eq_true rfl) rfl ?_
      refine jj_J.sub [2, 3, 4, 1, 0] rfl ?_
      obtain ⟨n9, w⟩ := w
      exact sC_X5_find_l20 F M O J hi hQ hE _ _ _ ih n9 _ _ _ _ w

theorem sC_X5_find {X : jj_X} {N : Option jj_AV → jj_H → Prop} {XN : String → Nat → jj_H → Prop} (F : jj_F X RX5 cX5_find 5) (M : jj_M X (some (.int)) 14 640 N XN) (O : jj_no X) (J : jj_GJ X.1 X.2.2.1) (hi : X.2.2.2.2.2.2.2.2.2.1.name = yX5_find.name) {Q : Int → jj_H → Prop} {E : String → Nat → jj_H → Prop} (hQ : ∀ r h, Q r h → N (some (.inl r)) h) (hE : ∀ e q h, E e q h → XN e q h) (x0 : Option Nat) (x1 : Option Nat) : ∀ (h : jj_H) (k : Nat), fC_X5_find (jj_gk X.1) x0 x1 Q E h k → jj_J X 5 0 [(0, .inr (.inr (.inl x0))), (1, .inr (.inr (.inl x1)))] [] h k := by
  intro h k w
  unfold fC_X5_find at w
  refine jr_iconst (pc := 0) F dX5_find_0 ?_
  refine jr_istore_n (pc := 1) F (vs' := [(2, .inl _), (0, .inr (.inr (.inl _))), (1, .inr (.inr (.inl _)))]) dX5_find_1 (Nat.le_of_ble_eq_true rfl) rfl ?_
  refine jj_J.sub [1, 2, 0] rfl ?_
  obtain ⟨n9, w⟩ := w
  exact sC_X5_find_l2 F M O J hi hQ hE _ _ n9 _ _ _ w

theorem cC_X5_find {G : jj_G} {l : Launch} (J : jj_GJ G l) {x0 : Option Nat} {x1 : Option Nat} {Q : Int → jj_H → Prop} {E : String → Nat → jj_H → Prop} {h : jj_H} {k : Nat} (w : fC_X5_find (jj_gk G) x0 x1 Q E h k) : jj_Ct G l yX5_find (ws_ yX5_find cX5_find 5 (some (.int))) 14 640 [.inr (.inr (.inl x0)), .inr (.inr (.inl x1))] h k (jc_i Q) E := by
  refine jj_Ct.of (jK_gs J).1 (by decide +kernel) (Nat.le_of_ble_eq_true rfl) rfl (fun X hG hl F M O hnm => ?_)
  subst hG; subst hl
  exact sC_X5_find F M O J hnm (fun r h q => ⟨r, rfl, q⟩) (fun _ _ _ q => q) _ _ _ _ w
theorem hC_X5_find : yX5_find.cls = RX5 ∧ yX5_find.cls ≠ "java/lang/invoke/MethodHandle" ∧ yX5_find.cls ≠ "java/lang/invoke/VarHandle" ∧ (parseMethodDescriptor yX5_find.desc).map (fun d => d.parameters.length) = some 1 := by decide +kernel
/-! X4_note()V -/
def fC_X4_note_j181 (gk : Nat → Nat) (x0 : Option Nat) (x2 : Int) (x3 : Int) (x4 : Int) (x6 : Int) (x7 : Int) (Q : jj_H → Prop) (E : String → Nat → jj_H → Prop) (h : jj_H) (k : Nat) : Prop :=
  jp_gr h x0 10 1 (fun g1 =>
  jp_gr h g1 2 1 (fun g2 =>
  jp_nw h k 4 2 df_X6 (fun a3 h4 k5 =>
  jp_is h4 x0 10 ∧ ∃ c6, c6 ≤ k5 ∧ fC_X4_said gk x0 (fun r7 h8 =>
  jp_so (some a3) ∧ ∃ c9, c9 ≤ (k5 - c6) ∧ fC_X6_init gk (some a3) x2 x3 x4 x6 ((x6 + x7) - 1) r7 (fun h11 =>
  jq_J2_add g2 (some a3) (fun r14 h12 k13 =>
  Q h12) h11 ((k5 - c6) - c9)) E h8 c9) E h4 c6)))
def fC_X4_note_j134 (gk : Nat → Nat) (x0 : Option Nat) (x2 : Int) (x3 : Int) (x4 : Int) (x6 : Int) (x8 : Option Nat) (y0 : Option Nat) (y1 : Int) (Q : jj_H → Prop) (E : String → Nat → jj_H → Prop) (h : jj_H) (k : Nat) : Prop :=
  jp_is h y0 10 ∧ ∃ c15, c15 ≤ k ∧ fC_X4_require gk y0 y1 5 (fun h17 =>
  jq_J2_size x8 (fun r20 h18 k19 =>
  jp_is h18 x0 10 ∧ ∃ c21, c21 ≤ k19 ∧ fC_X4_advance gk x0 (fun h23 =>
  fC_X4_note_j181 gk x0 x2 x3 x4 x6 r20 Q E h23 (k19 - c21)) E h18 c21) h17 (k - c15)) E h c15
def fC_X4_note (gk : Nat → Nat) (x0 : Option Nat) (Q : jj_H → Prop) (E : String → Nat → jj_H → Prop) (h : jj_H) (k : Nat) : Prop :=
  jp_is h x0 10 ∧ ∃ c24, c24 ≤ k ∧ fC_X4_name gk x0 (fun r25 h26 =>
  jp_gr h26 x0 10 1 (fun g27 =>
  jp_gr h26 g27 2 3 (fun g28 =>
  jq_J19_containsKey g28 r25 (fun r31 h29 k30 =>
  jp_is h29 x0 10 ∧ ∃ c32, c32 ≤ k30 ∧ fC_X4_require gk x0 r31 3 (fun h34 =>
  jp_gr h34 x0 10 1 (fun g35 =>
  jp_gr h34 g35 2 3 (fun g36 =>
  jq_J19_get g36 r25 (fun r39 h37 k38 =>
  jp_is h37 r39 27 ∧
  jq_J17_intValue r39 (fun r42 h40 k41 =>
  jp_is h40 x0 10 ∧ ∃ c43, c43 ≤ k41 ∧ fC_X4_advance gk x0 (fun h45 =>
  jp_is h45 x0 10 ∧ ∃ c46, c46 ≤ (k41 - c43) ∧ fC_X4_kind gk x0 (fun r47 h48 =>
  jp_gr h48 x0 10 1 (fun g49 =>
  jp_gr h48 g49 2 0 (fun g50 =>
  jq_J2_size g50 (fun r53 h51 k52 =>
  ∀ v54, v54 = r53 - 1 →
  jp_gr h51 x0 10 1 (fun g55 =>
  jp_gr h51 g55 2 0 (fun g56 =>
  jq_J2_get g56 v54 (fun r59 h57 k58 =>
  jp_is h57 r59 3 ∧
  jp_gr h57 x0 10 7 (fun g60 =>
  jq_J9_equals g60 (some (gk 11)) (fun r63 h61 k62 =>
  jj_r r63 ∧ (r63 = 0 → (
    jp_is h61 x0 10 ∧ ∃ c64, c64 ≤ k62 ∧ fC_X4_place gk x0 r59 (fun r65 h66 =>
    jp_is h66 x0 10 ∧ ∃ c67, c67 ≤ (k62 - c64) ∧ fC_X4_expect gk x0 (some (gk 10)) (fun h69 =>
    jp_is h69 r59 3 ∧ fC_X5_size gk r59 (fun r71 h72 =>
    jp_is h72 x0 10 ∧ ∃ c73, c73 ≤ ((k62 - c64) - c67) ∧ fC_X4_number gk x0 1 (r71 - r65) (fun r74 h75 =>
    fC_X4_note_j181 gk x0 r42 r47 v54 r65 r74 Q E h75 (((k62 - c64) - c67) - c73)) E h72 c73) E h69 0) E h66 c67) E h61 c64)) ∧
  (¬ r63 = 0 → (
    jp_is h61 x0 10 ∧ ∃ c76, c76 ≤ k62 ∧ fC_X4_advance gk x0 (fun h78 =>
    jp_is h78 x0 10 ∧ ∃ c79, c79 ≤ (k62 - c76) ∧ fC_X4_expect gk x0 (some (gk 16)) (fun h81 =>
    jp_is h81 x0 10 ∧ ∃ c82, c82 ≤ ((k62 - c76) - c79) ∧ fC_X4_quoted gk x0 (fun r83 h84 =>
    jp_is h84 r59 3 ∧ fC_X5_find gk r59 r83 (fun r86 h87 =>
    jj_r r86 ∧ (r86 = (-1) → (
      fC_X4_note_j134 gk x0 r42 r47 v54 r86 r83 x0 0 Q E h87 (((k62 - c76) - c79) - c82))) ∧
    (¬ r86 = (-1) → (
      fC_X4_note_j134 gk x0 r42 r47 v54 r86 r83 x0 1 Q E h87 (((k62 - c76) - c79) - c82)))) E h84 0) E h81 c82) E h78 c79) E h61 c76))) h57 k58)) h51 k52))) h48 ((k41 - c43) - c46)))) E h45 c46) E h40 c43) h37 k38) h34 (k30 - c32)))) E h29 c32) h26 (k - c24)))) E h c24
theorem sC_X4_note_j181 {X : jj_X} {N : Option jj_AV → jj_H → Prop} {XN : String → Nat → jj_H → Prop} (F : jj_F X RX4 cX4_note 9) (M : jj_M X (none) 17 716 N XN) (O : jj_no X) (J : jj_GJ X.1 X.2.2.1) (hi : X.2.2.2.2.2.2.2.2.2.1.name = yX4_note.name) {Q : jj_H → Prop} {E : String → Nat → jj_H → Prop} (hQ : ∀ h, Q h → N none h) (hE : ∀ e q h, E e q h → XN e q h) (x0 : Option Nat) (x2 : Int) (x3 : Int) (x4 : Int) (x6 : Int) (x7 : Int) : ∀ (h : jj_H) (k : Nat), fC_X4_note_j181 (jj_gk X.1) x0 x2 x3 x4 x6 x7 Q E h k → jj_J X 9 181 [(0, .inr (.inr (.inl x0))), (2, .inl x2), (3, .inl x3), (4, .inl x4), (6, .inl x6), (7, .inl x7)] [] h k := by
  intro h k w
  unfold fC_X4_note_j181 at w
  refine jr_aload_n (pc := 181) F (j := 0) dX4_note_181 rfl ?_
  refine jr_gr (pc := 182) (ci := 10) (f := 1) F rfl in_X4 (Nat.le_of_ble_eq_true rfl) q2385 dX4_note_182 w (fun g1 w => ?_)
  refine jr_grN (pc := 185) (ci := 2) (f := 1) F rfl in_X2 (Nat.le_of_ble_eq_true rfl) q595 dX4_note_185 w (fun g2 w => ?_)
  refine jr_new (pc := 188) (ci := 4) F rfl in_X6 tyX6_ok q2580 q2006 q159 dfo_X6 rfl ⟨by decide, by decide⟩ dX4_note_188 w (fun a3 h4 k5 w => ?_)
  refine jr_dup (pc := 191) F dX4_note_191 rfl ?_
  refine jr_iload_n (pc := 192) F (j := 1) dX4_note_192 rfl ?_
  refine jr_iload_n (pc := 193) F (j := 2) dX4_note_193 rfl ?_
  refine jr_iload (pc := 194) F (j := 3) dX4_note_194 rfl ?_
  refine jr_iload (pc := 196) F (j := 4) dX4_note_196 rfl ?_
  refine jr_iload (pc := 198) F (j := 4) dX4_note_198 rfl ?_
  refine jr_iload (pc := 200) F (j := 5) dX4_note_200 rfl ?_
  refine jr_iadd (pc := 202) F dX4_note_202 ?_
  refine jr_iconst (pc := 203) F dX4_note_203 ?_
  refine jr_isub (pc := 204) F dX4_note_204 ?_
  refine jr_aload_n (pc := 205) F (j := 0) dX4_note_205 rfl ?_
  obtain ⟨hi9, c6, hk9, w⟩ := w
  refine jr_cV (pc := 206) (As := []) (ci := 10) F M (lw_V q2581 q2583 qs33 q145 q2584) dX4_note_206 hC_X4_said rfl (Nat.le_of_ble_eq_true rfl) (Nat.le_of_ble_eq_true rfl) (Nat.le_of_ble_eq_true rfl) rfl hi9 hk9 (cC_X4_said J w) (fun v9 h8 q9 => ?_) (fun E9 q9 h9 w9 => jr_out F M O (hE _ _ _ w9))
  obtain ⟨r7, rfl, w⟩ := q9
  obtain ⟨hi9, c9, hk9, w⟩ := w
  refine jr_cI (pc := 209) (As := [_, _, _, _, _, _]) F M q2586 q2008 q159 q2009 dX4_note_209 rfl hC_X6_init.2 rfl (Nat.le_of_ble_eq_true rfl) (Nat.le_of_ble_eq_true rfl) (Nat.le_of_ble_eq_true rfl) hi9 hk9 (cC_X6_init J w) (fun v9 h11 q9 => ?_) (fun E9 q9 h9 w9 => jr_out F M O (hE _ _ _ w9))
  obtain ⟨rfl, w⟩ := q9
  refine jr_jV (pc := 212) (As := [_]) (ci := 14) F M (lw_V q2560 q820 q821 q124 q822) dX4_note_212 hj_J2_add rfl (Nat.le_of_ble_eq_true rfl) (Nat.le_of_ble_eq_true rfl) (Nat.le_of_ble_eq_true rfl) rfl (jK_J2_add J _ _ _ _ _ w) (fun v9 h12 k13 q9 => ?_)
  obtain ⟨r14, rfl, w⟩ := q9
  refine jr_pop (pc := 215) F dX4_note_215 rfl ?_
  exact jr_vret (pc := 216) F M dX4_note_216 (hQ _ w)

theorem sC_X4_note_j134 {X : jj_X} {N : Option jj_AV → jj_H → Prop} {XN : String → Nat → jj_H → Prop} (F : jj_F X RX4 cX4_note 9) (M : jj_M X (none) 17 716 N XN) (O : jj_no X) (J : jj_GJ X.1 X.2.2.1) (hi : X.2.2.2.2.2.2.2.2.2.1.name = yX4_note.name) {Q : jj_H → Prop} {E : String → Nat → jj_H → Prop} (hQ : ∀ h, Q h → N none h) (hE : ∀ e q h, E e q h → XN e q h) (x0 : Option Nat) (x2 : Int) (x3 : Int) (x4 : Int) (x6 : Int) (x8 : Option Nat) (y0 : Option Nat) (y1 : Int) : ∀ (h : jj_H) (k : Nat), fC_X4_note_j134 (jj_gk X.1) x0 x2 x3 x4 x6 x8 y0 y1 Q E h k → jj_J X 9 134 [(0, .inr (.inr (.inl x0))), (2, .inl x2), (3, .inl x3), (4, .inl x4), (6, .inl x6), (8, .inr (.inr (.inl x8)))] [.inl y1, .inr (.inr (.inl y0))] h k := by
  intro h k w
  unfold fC_X4_note_j134 at w
  refine jr_iconst (pc := 134) F dX4_note_134 ?_
  obtain ⟨hi9, c15, hk9, w⟩ := w
  refine jr_cV (pc := 135) (As := [_, _]) (ci := 10) F M (lw_V q2428 q2430 qs23 q145 q2431) dX4_note_135 hC_X4_require rfl (Nat.le_of_ble_eq_true rfl) (Nat.le_of_ble_eq_true rfl) (Nat.le_of_ble_eq_true rfl) rfl hi9 hk9 (cC_X4_require J w) (fun v9 h17 q9 => ?_) (fun E9 q9 h9 w9 => jr_out F M O (hE _ _ _ w9))
  obtain ⟨rfl, w⟩ := q9
  refine jr_aload (pc := 138) F (j := 5) dX4_note_138 rfl ?_
  refine jr_jV (pc := 140) (As := []) (ci := 14) F M (lw_V q2427 q676 q677 q124 q678) dX4_note_140 hj_J2_size rfl (Nat.le_of_ble_eq_true rfl) (Nat.le_of_ble_eq_true rfl) (Nat.le_of_ble_eq_true rfl) rfl (jK_J2_size J _ _ _ _ w) (fun v9 h18 k19 q9 => ?_)
  obtain ⟨r20, rfl, w⟩ := q9
  refine jr_istore (pc := 143) F (vs' := [(7, .inl _), (0, .inr (.inr (.inl _))), (2, .inl _), (3, .inl _), (4, .inl _), (6, .inl _), (8, .inr (.inr (.inl _)))]) dX4_note_143 (Nat.le_of_ble_eq_true rfl) rfl ?_
  refine jr_aload_n (pc := 145) F (j := 1) dX4_note_145 rfl ?_
  obtain ⟨hi9, c21, hk9, w⟩ := w
  refine jr_cV (pc := 146) (As := []) (ci := 10) F M (lw_V q2343 q2345 qs20 q145 q2346) dX4_note_146 hC_X4_advance rfl (Nat.le_of_ble_eq_true rfl) (Nat.le_of_ble_eq_true rfl) (Nat.le_of_ble_eq_true rfl) rfl hi9 hk9 (cC_X4_advance J w) (fun v9 h23 q9 => ?_) (fun E9 q9 h9 w9 => jr_out F M O (hE _ _ _ w9))
  obtain ⟨rfl, w⟩ := q9
  refine jr_goto (pc := 149) (tgt := 181) F dX4_note_149 rfl ?_
  refine jj_J.sub [1, 2, 3, 4, 5, 0] rfl ?_
  exact sC_X4_note_j181 F M O J hi hQ hE _ _ _ _ _ _ _ _ w

theorem sC_X4_note {X : jj_X} {N : Option jj_AV → jj_H → Prop} {XN : String → Nat → jj_H → Prop} (F : jj_F X RX4 cX4_note 9) (M : jj_M X (none) 17 716 N XN) (O : jj_no X) (J : jj_GJ X.1 X.2.2.1) (hi : X.2.2.2.2.2.2.2.2.2.1.name = yX4_note.name) {Q : jj_H → Prop} {E : String → Nat → jj_H → Prop} (hQ : ∀ h, Q h → N none h) (hE : ∀ e q h, E e q h → XN e q h) (x0 : Option Nat) : ∀ (h : jj_H) (k : Nat), fC_X4_note (jj_gk X.1) x0 Q E h k → jj_J X 9 0 [(0, .inr (.inr (.inl x0)))] [] h k := by
  intro h k w
  unfold fC_X4_note at w
  refine jr_aload_n (pc := 0) F (j := 0) dX4_note_0 rfl ?_
  obtain ⟨hi9, c24, hk9, w⟩ := w
  refine jr_cVX (pc := 1) (As := []) (ci := 10) F M (lw_VW q2471 q2473 qs26 q145 q2474) dX4_note_1 hC_X4_name rfl (Nat.le_of_ble_eq_true rfl) (Nat.le_of_ble_eq_true rfl) (Nat.le_of_ble_eq_true rfl) rfl hi9 hk9 (cC_X4_name J w) (fun v9 h26 q9 => ?_) (fun E9 q9 h9 w9 => jr_out F M O (hE _ _ _ w9))
  obtain ⟨r25, rfl, w⟩ := q9
  refine jr_astore_n (pc := 4) F (vs' := [(1, .inr (.inr (.inl _))), (0, .inr (.inr (.inl _)))]) dX4_note_4 (Nat.le_of_ble_eq_true rfl) rfl ?_
  refine jr_aload_n (pc := 5) F (j := 1) dX4_note_5 rfl ?_
  refine jr_aload_n (pc := 6) F (j := 1) dX4_note_6 rfl ?_
  refine jr_gr (pc := 7) (ci := 10) (f := 1) F rfl in_X4 (Nat.le_of_ble_eq_true rfl) q2385 dX4_note_7 w (fun g27 w => ?_)
  refine jr_grN (pc := 10) (ci := 2) (f := 3) F rfl in_X2 (Nat.le_of_ble_eq_true rfl) q601 dX4_note_10 w (fun g28 w => ?_)
  refine jr_aload_n (pc := 13) F (j := 0) dX4_note_13 rfl ?_
  refine jr_jV (pc := 14) (As := [_]) (ci := 16) F M (lw_V q2513 q1165 q1166 q142 q1167) dX4_note_14 hj_J19_containsKey rfl (Nat.le_of_ble_eq_true rfl) (Nat.le_of_ble_eq_true rfl) (Nat.le_of_ble_eq_true rfl) rfl (jK_J19_containsKey J _ _ _ _ _ w) (fun v9 h29 k30 q9 => ?_)
  obtain ⟨r31, rfl, w⟩ := q9
  refine jr_iconst (pc := 17) F dX4_note_17 ?_
  obtain ⟨hi9, c32, hk9, w⟩ := w
  refine jr_cV (pc := 18) (As := [_, _]) (ci := 10) F M (lw_V q2428 q2430 qs23 q145 q2431) dX4_note_18 hC_X4_require rfl (Nat.le_of_ble_eq_true rfl) (Nat.le_of_ble_eq_true rfl) (Nat.le_of_ble_eq_true rfl) rfl hi9 hk9 (cC_X4_require J w) (fun v9 h34 q9 => ?_) (fun E9 q9 h9 w9 => jr_out F M O (hE _ _ _ w9))
  obtain ⟨rfl, w⟩ := q9
  refine jr_aload_n (pc := 21) F (j := 1) dX4_note_21 rfl ?_
  refine jr_gr (pc := 22) (ci := 10) (f := 1) F rfl in_X4 (Nat.le_of_ble_eq_true rfl) q2385 dX4_note_22 w (fun g35 w => ?_)
  refine jr_grN (pc := 25) (ci := 2) (f := 3) F rfl in_X2 (Nat.le_of_ble_eq_true rfl) q601 dX4_note_25 w (fun g36 w => ?_)
  refine jr_aload_n (pc := 28) F (j := 0) dX4_note_28 rfl ?_
  refine jr_jV (pc := 29) (As := [_]) (ci := 16) F M (lw_V q2520 q2521 q2522 q142 q2523) dX4_note_29 hj_J19_get rfl (Nat.le_of_ble_eq_true rfl) (Nat.le_of_ble_eq_true rfl) (Nat.le_of_ble_eq_true rfl) rfl (jK_J19_get J _ _ _ _ _ w) (fun v9 h37 k38 q9 => ?_)
  obtain ⟨r39, rfl, w⟩ := q9
  obtain ⟨hi9, w⟩ := w
  refine jr_cast (pc := 32) (ci := 27) F rfl q2524 dX4_note_32 hi9 ?_
  refine jr_jV (pc := 35) (As := []) (ci := 27) F M (lw_V q2525 q914 q915 q140 q916) dX4_note_35 hj_J17_intValue rfl (Nat.le_of_ble_eq_true rfl) (Nat.le_of_ble_eq_true rfl) (Nat.le_of_ble_eq_true rfl) rfl (jK_J17_intValue J _ _ _ _ w) (fun v9 h40 k41 q9 => ?_)
  obtain ⟨r42, rfl, w⟩ := q9
  refine jr_istore_n (pc := 38) F (vs' := [(2, .inl _), (1, .inr (.inr (.inl _))), (0, .inr (.inr (.inl _)))]) dX4_note_38 (Nat.le_of_ble_eq_true rfl) rfl ?_
  refine jr_aload_n (pc := 39) F (j := 2) dX4_note_39 rfl ?_
  obtain ⟨hi9, c43, hk9, w⟩ := w
  refine jr_cV (pc := 40) (As := []) (ci := 10) F M (lw_V q2343 q2345 qs20 q145 q2346) dX4_note_40 hC_X4_advance rfl (Nat.le_of_ble_eq_true rfl) (Nat.le_of_ble_eq_true rfl) (Nat.le_of_ble_eq_true rfl) rfl hi9 hk9 (cC_X4_advance J w) (fun v9 h45 q9 => ?_) (fun E9 q9 h9 w9 => jr_out F M O (hE _ _ _ w9))
  obtain ⟨rfl, w⟩ := q9
  refine jr_aload_n (pc := 43) F (j := 2) dX4_note_43 rfl ?_
  obtain ⟨hi9, c46, hk9, w⟩ := w
  refine jr_cV (pc := 44) (As := []) (ci := 10) F M (lw_V q2526 q2528 qs29 q145 q2529) dX4_note_44 hC_X4_kind rfl (Nat.le_of_ble_eq_true rfl) (Nat.le_of_ble_eq_true rfl) (Nat.le_of_ble_eq_true rfl) rfl hi9 hk9 (cC_X4_kind J w) (fun v9 h48 q9 => ?_) (fun E9 q9 h9 w9 => jr_out F M O (hE _ _ _ w9))
  obtain ⟨r47, rfl, w⟩ := q9
  refine jr_istore_n (pc := 47) F (vs' := [(3, .inl _), (2, .inl _), (1, .inr (.inr (.inl _))), (0, .inr (.inr (.inl _)))]) dX4_note_47 (Nat.le_of_ble_eq_true rfl) rfl ?_
  refine jr_aload_n (pc := 48) F (j := 3) dX4_note_48 rfl ?_
  refine jr_gr (pc := 49) (ci := 10) (f := 1) F rfl in_X4 (Nat.le_of_ble_eq_true rfl) q2385 dX4_note_49 w (fun g49 w => ?_)
  refine jr_grN (pc := 52) (ci := 2) (f := 0) F rfl in_X2 (Nat.le_of_ble_eq_true rfl) q592 dX4_note_52 w (fun g50 w => ?_)
  refine jr_jV (pc := 55) (As := []) (ci := 14) F M (lw_V q2427 q676 q677 q124 q678) dX4_note_55 hj_J2_size rfl (Nat.le_of_ble_eq_true rfl) (Nat.le_of_ble_eq_true rfl) (Nat.le_of_ble_eq_true rfl) rfl (jK_J2_size J _ _ _ _ w) (fun v9 h51 k52 q9 => ?_)
  obtain ⟨r53, rfl, w⟩ := q9
  refine jr_iconst (pc := 58) F dX4_note_58 ?_
  refine jr_isub (pc := 59) F dX4_note_59 ?_
  have w := w _ rfl
  refine jr_istore (pc := 60) F (vs' := [(4, .inl _), (3, .inl _), (2, .inl _), (1, .inr (.inr (.inl _))), (0, .inr (.inr (.inl _)))]) dX4_note_60 (Nat.le_of_ble_eq_true rfl) rfl ?_
  refine jr_aload_n (pc := 62) F (j := 4) dX4_note_62 rfl ?_
  refine jr_gr (pc := 63) (ci := 10) (f := 1) F rfl in_X4 (Nat.le_of_ble_eq_true rfl) q2385 dX4_note_63 w (fun g55 w => ?_)
  refine jr_grN (pc := 66) (ci := 2) (f := 0) F rfl in_X2 (Nat.le_of_ble_eq_true rfl) q592 dX4_note_66 w (fun g56 w => ?_)
  refine jr_iload (pc := 69) F (j := 0) dX4_note_69 rfl ?_
  refine jr_jV (pc := 71) (As := [_]) (ci := 14) F M (lw_V q2547 q681 q682 q124 q683) dX4_note_71 hj_J2_get rfl (Nat.le_of_ble_eq_true rfl) (Nat.le_of_ble_eq_true rfl) (Nat.le_of_ble_eq_true rfl) rfl (jK_J2_get J _ _ _ _ _ w) (fun v9 h57 k58 q9 => ?_)
  obtain ⟨r59, rfl, w⟩ := q9
  obtain ⟨hi9, w⟩ := w
  refine jr_cast (pc := 74) (ci := 3) F rfl q2468 dX4_note_74 hi9 ?_
  refine jr_astore (pc := 77) F (vs' := [(5, .inr (.inr (.inl _))), (4, .inl _), (3, .inl _), (2, .inl _), (1, .inr (.inr (.inl _))), (0, .inr (.inr (.inl _)))]) dX4_note_77 (Nat.le_of_ble_eq_true rfl) rfl ?_
  refine jr_iconst (pc := 79) F dX4_note_79 ?_
  refine jr_istore (pc := 80) F (vs' := [(6, .inl _), (5, .inr (.inr (.inl _))), (4, .inl _), (3, .inl _), (2, .inl _), (1, .inr (.inr (.inl _))), (0, .inr (.inr (.inl _)))]) dX4_note_80 (Nat.le_of_ble_eq_true rfl) rfl ?_
  refine jr_iconst (pc := 82) F dX4_note_82 ?_
  refine jr_istore (pc := 83) F (vs' := [(7, .inl _), (6, .inl _), (5, .inr (.inr (.inl _))), (4, .inl _), (3, .inl _), (2, .inl _), (1, .inr (.inr (.inl _))), (0, .inr (.inr (.inl _)))]) dX4_note_83 (Nat.le_of_ble_eq_true rfl) rfl ?_
  refine jr_aload_n (pc := 85) F (j := 7) dX4_note_85 rfl ?_
  refine jr_gr (pc := 86) (ci := 10) (f := 7) F rfl in_X4 (Nat.le_of_ble_eq_true rfl) q2392 dX4_note_86 w (fun g60 w => ?_)
  refine jr_ldcS (pc := 89) F (jK_gs J) 20 rfl dX4_note_89 ?_
  refine jr_jV (pc := 91) (As := [_]) (ci := 25) F M (lw_V q2423 q713 q714 q131 q715) dX4_note_91 hj_J9_equals rfl (Nat.le_of_ble_eq_true rfl) (Nat.le_of_ble_eq_true rfl) (Nat.le_of_ble_eq_true rfl) rfl (jK_J9_equals J _ _ _ _ _ w) (fun v9 h61 k62 q9 => ?_)
  obtain ⟨r63, rfl, w⟩ := q9
  obtain ⟨hx9, w1, w2⟩ := w
  refine jr_if_eq (pc := 94) (tgt := 152) F hx9 dX4_note_94 rfl (fun c9 => ?_) (fun c9 => ?_)
  · have w := w1 c9
    refine jr_aload_n (pc := 152) F (j := 7) dX4_note_152 rfl ?_
    refine jr_aload (pc := 153) F (j := 2) dX4_note_153 rfl ?_
    obtain ⟨hi9, c64, hk9, w⟩ := w
    refine jr_cV (pc := 155) (As := [_]) (ci := 10) F M (lw_V q2566 q2568 qs32 q145 q2569) dX4_note_155 hC_X4_place rfl (Nat.le_of_ble_eq_true rfl) (Nat.le_of_ble_eq_true rfl) (Nat.le_of_ble_eq_true rfl) rfl hi9 hk9 (cC_X4_place J w) (fun v9 h66 q9 => ?_) (fun E9 q9 h9 w9 => jr_out F M O (hE _ _ _ w9))
    obtain ⟨r65, rfl, w⟩ := q9
    refine jr_istore (pc := 158) F (vs' := [(6, .inl _), (7, .inl _), (5, .inr (.inr (.inl _))), (4, .inl _), (3, .inl _), (2, .inl _), (1, .inr (.inr (.inl _))), (0, .inr (.inr (.inl _)))]) dX4_note_158 (Nat.le_of_ble_eq_true rfl) rfl ?_
    refine jr_aload_n (pc := 160) F (j := 7) dX4_note_160 rfl ?_
    refine jr_ldcS (pc := 161) F (jK_gs J) 25 rfl dX4_note_161 ?_
    obtain ⟨hi9, c67, hk9, w⟩ := w
    refine jr_cV (pc := 163) (As := [_]) (ci := 10) F M (lw_V q2550 q2552 qs30 q145 q2553) dX4_note_163 hC_X4_expect rfl (Nat.le_of_ble_eq_true rfl) (Nat.le_of_ble_eq_true rfl) (Nat.le_of_ble_eq_true rfl) rfl hi9 hk9 (cC_X4_expect J w) (fun v9 h69 q9 => ?_) (fun E9 q9 h9 w9 => jr_out F M O (hE _ _ _ w9))
    obtain ⟨rfl, w⟩ := q9
    refine jr_aload_n (pc := 166) F (j := 7) dX4_note_166 rfl ?_
    refine jr_iconst (pc := 167) F dX4_note_167 ?_
    refine jr_aload (pc := 168) F (j := 2) dX4_note_168 rfl ?_
    obtain ⟨hi9, w⟩ := w
    refine jr_cV (pc := 170) (As := []) (ci := 3) F M (lw_V q2495 q706 q707 q149 q708) dX4_note_170 hC_X5_size rfl (Nat.le_of_ble_eq_true rfl) (Nat.le_of_ble_eq_true rfl) (Nat.le_of_ble_eq_true rfl) rfl hi9 (Nat.zero_le _) (cC_X5_size J w) (fun v9 h72 q9 => ?_) (fun E9 q9 h9 w9 => jr_out F M O (hE _ _ _ w9))
    obtain ⟨r71, rfl, w⟩ := q9
    refine jr_iload (pc := 173) F (j := 0) dX4_note_173 rfl ?_
    refine jr_isub (pc := 175) F dX4_note_175 ?_
    obtain ⟨hi9, c73, hk9, w⟩ := w
    refine jr_cV (pc := 176) (As := [_, _]) (ci := 10) F M (lw_V q2464 q2466 qs25 q145 q2467) dX4_note_176 hC_X4_number rfl (Nat.le_of_ble_eq_true rfl) (Nat.le_of_ble_eq_true rfl) (Nat.le_of_ble_eq_true rfl) rfl hi9 hk9 (cC_X4_number J w) (fun v9 h75 q9 => ?_) (fun E9 q9 h9 w9 => jr_out F M O (hE _ _ _ w9))
    obtain ⟨r74, rfl, w⟩ := q9
    refine jr_istore (pc := 179) F (vs' := [(7, .inl _), (6, .inl _), (5, .inr (.inr (.inl _))), (4, .inl _), (3, .inl _), (2, .inl _), (1, .inr (.inr (.inl _))), (0, .inr (.inr (.inl _)))]) dX4_note_179 (Nat.le_of_ble_eq_true rfl) rfl ?_
    refine jj_J.sub [7, 5, 4, 3, 1, 0] rfl ?_
    exact sC_X4_note_j181 F M O J hi hQ hE _ _ _ _ _ _ _ _ w
  · have w := w2 c9
    refine jr_aload_n (pc := 97) F (j := 7) dX4_note_97 rfl ?_
    obtain ⟨hi9, c76, hk9, w⟩ := w
    refine jr_cV (pc := 98) (As := []) (ci := 10) F M (lw_V q2343 q2345 qs20 q145 q2346) dX4_note_98 hC_X4_advance rfl (Nat.le_of_ble_eq_true rfl) (Nat.le_of_ble_eq_true rfl) (Nat.le_of_ble_eq_true rfl) rfl hi9 hk9 (cC_X4_advance J w) (fun v9 h78 q9 => ?_) (fun E9 q9 h9 w9 => jr_out F M O (hE _ _ _ w9))
    obtain ⟨rfl, w⟩ := q9
    refine jr_aload_n (pc := 101) F (j := 7) dX4_note_101 rfl ?_
    refine jr_ldcS (pc := 102) F (jK_gs J) 21 rfl dX4_note_102 ?_
    obtain ⟨hi9, c79, hk9, w⟩ := w
    refine jr_cV (pc := 104) (As := [_]) (ci := 10) F M (lw_V q2550 q2552 qs30 q145 q2553) dX4_note_104 hC_X4_expect rfl (Nat.le_of_ble_eq_true rfl) (Nat.le_of_ble_eq_true rfl) (Nat.le_of_ble_eq_true rfl) rfl hi9 hk9 (cC_X4_expect J w) (fun v9 h81 q9 => ?_) (fun E9 q9 h9 w9 => jr_out F M O (hE _ _ _ w9))
    obtain ⟨rfl, w⟩ := q9
    refine jr_aload_n (pc := 107) F (j := 7) dX4_note_107 rfl ?_
    obtain ⟨hi9, c82, hk9, w⟩ := w
    refine jr_cV (pc := 108) (As := []) (ci := 10) F M (lw_V q2554 q2556 qs31 q145 q2557) dX4_note_108 hC_X4_quoted rfl (Nat.le_of_ble_eq_true rfl) (Nat.le_of_ble_eq_true rfl) (Nat.le_of_ble_eq_true rfl) rfl hi9 hk9 (cC_X4_quoted J w) (fun v9 h84 q9 => ?_) (fun E9 q9 h9 w9 => jr_out F M O (hE _ _ _ w9))
    obtain ⟨r83, rfl, w⟩ := q9
    refine jr_astore (pc := 111) F (vs' := [(8, .inr (.inr (.inl _))), (7, .inl _), (6, .inl _), (5, .inr (.inr (.inl _))), (4, .inl _), (3, .inl _), (2, .inl _), (1, .inr (.inr (.inl _))), (0, .inr (.inr (.inl _)))]) dX4_note_111 (Nat.le_of_ble_eq_true rfl) rfl ?_
    refine jr_aload (pc := 113) F (j := 3) dX4_note_113 rfl ?_
    refine jr_aload (pc := 115) F (j := 0) dX4_note_115 rfl ?_
    obtain ⟨hi9, w⟩ := w
    refine jr_cV (pc := 117) (As := [_]) (ci := 3) F M (lw_V q2561 q2562 q2563 q149 q2564) dX4_note_117 hC_X5_find rfl (Nat.le_of_ble_eq_true rfl) (Nat.le_of_ble_eq_true rfl) (Nat.le_of_ble_eq_true rfl) rfl hi9 (Nat.zero_le _) (cC_X5_find J w) (fun v9 h87 q9 => ?_) (fun E9 q9 h9 w9 => jr_out F M O (hE _ _ _ w9))
    obtain ⟨r86, rfl, w⟩ := q9
    refine jr_istore (pc := 120) F (vs' := [(6, .inl _), (8, .inr (.inr (.inl _))), (7, .inl _), (5, .inr (.inr (.inl _))), (4, .inl _), (3, .inl _), (2, .inl _), (1, .inr (.inr (.inl _))), (0, .inr (.inr (.inl _)))]) dX4_note_120 (Nat.le_of_ble_eq_true rfl) rfl ?_
    refine jr_aload_n (pc := 122) F (j := 8) dX4_note_122 rfl ?_
    refine jr_iload (pc := 123) F (j := 0) dX4_note_123 rfl ?_
    refine jr_iconst (pc := 125) F dX4_note_125 ?_
    obtain ⟨hx9, w1, w2⟩ := w
    refine jr_icmp_eq (pc := 126) (tgt := 133) F hx9 ⟨by decide, by decide⟩ dX4_note_126 rfl (fun c9 => ?_) (fun c9 => ?_)
    · have w := w1 c9
      refine jr_iconst (pc := 133) F dX4_note_133 ?_
      refine jj_J.sub [8, 6, 5, 4, 0, 1] rfl ?_
      exact sC_X4_note_j134 F M O J hi hQ hE _ _ _ _ _ _ _ _ _ _ w
    · have w := w2 c9
      refine jr_iconst (pc := 129) F dX4_note_129 ?_
      refine jr_goto (pc := 130) (tgt := 134) F dX4_note_130 rfl ?_
      refine jj_J.sub [8, 6, 5, 4, 0, 1] rfl ?_
      exact sC_X4_note_j134 F M O J hi hQ hE _ _ _ _ _ _ _ _ _ _ w

theorem cC_X4_note {G : jj_G} {l : Launch} (J : jj_GJ G l) {x0 : Option Nat} {Q : jj_H → Prop} {E : String → Nat → jj_H → Prop} {h : jj_H} {k : Nat} (w : fC_X4_note (jj_gk G) x0 Q E h k) : jj_Ct G l yX4_note (ws_ yX4_note cX4_note 9 (none)) 17 716 [.inr (.inr (.inl x0))] h k (jc_v Q) E := by
  refine jj_Ct.of (jK_gs J).1 (by decide +kernel) (Nat.le_of_ble_eq_true rfl) rfl (fun X hG hl F M O hnm => ?_)
  subst hG; subst hl
  exact sC_X4_note F M O J hnm (fun h q => ⟨rfl, q⟩) (fun _ _ _ q => q) _ _ _ w
theorem hC_X4_note : yX4_note.cls = RX4 ∧ yX4_note.cls ≠ "java/lang/invoke/MethodHandle" ∧ yX4_note.cls ≠ "java/lang/invoke/VarHandle" ∧ (parseMethodDescriptor yX4_note.desc).map (fun d => d.parameters.length) = some 0 := by decide +kernel
/-! X4_record()V -/
def fC_X4_record_j288 (gk : Nat → Nat) (x0 : Option Nat) (y0 : Option Nat) (y1 : Int) (Q : jj_H → Prop) (E : String → Nat → jj_H → Prop) (h : jj_H) (k : Nat) : Prop :=
  jp_is h y0 10 ∧ ∃ c1, c1 ≤ k ∧ fC_X4_require gk y0 y1 5 (fun h3 =>
  jp_is h3 x0 10 ∧ ∃ c4, c4 ≤ (k - c1) ∧ fC_X4_advance gk x0 (fun h6 =>
  jp_is h6 x0 10 ∧ ∃ c7, c7 ≤ ((k - c1) - c4) ∧ fC_X4_note gk x0 (fun h9 =>
  Q h9) E h6 c7) E h3 c4) E h c1
def fC_X4_record_j265 (gk : Nat → Nat) (x0 : Option Nat) (y0 : Option Nat) (y1 : Int) (Q : jj_H → Prop) (E : String → Nat → jj_H → Prop) (h : jj_H) (k : Nat) : Prop :=
  jp_is h y0 10 ∧ ∃ c10, c10 ≤ k ∧ fC_X4_require gk y0 y1 4 (fun h12 =>
  jp_gr h12 x0 10 1 (fun g13 =>
  jp_gr h12 g13 2 0 (fun g14 =>
  jq_J2_isEmpty g14 (fun r17 h15 k16 =>
  jj_r r17 ∧ (¬ r17 = 0 → (
    fC_X4_record_j288 gk x0 x0 0 Q E h15 k16)) ∧
  (r17 = 0 → (
    fC_X4_record_j288 gk x0 x0 1 Q E h15 k16))) h12 (k - c10)))) E h c10
def fC_X4_record_j225 (gk : Nat → Nat) (x0 : Option Nat) (x3 : Option Nat) (y0 : Option Nat) (y1 : Int) (Q : jj_H → Prop) (E : String → Nat → jj_H → Prop) (h : jj_H) (k : Nat) : Prop :=
  jp_is h y0 10 ∧ ∃ c18, c18 ≤ k ∧ fC_X4_require gk y0 y1 3 (fun h20 =>
  jp_is h20 x0 10 ∧ ∃ c21, c21 ≤ (k - c18) ∧ fC_X4_advance gk x0 (fun h23 =>
  jp_gr h23 x0 10 1 (fun g24 =>
  jp_is h23 g24 2 ∧ ∃ c25, c25 ≤ ((k - c18) - c21) ∧ fC_X2_addReader gk g24 x3 (fun h27 =>
  Q h27) E h23 c25)) E h20 c21) E h c18
def fC_X4_record_j192 (gk : Nat → Nat) (x0 : Option Nat) (y0 : Option Nat) (y1 : Int) (Q : jj_H → Prop) (E : String → Nat → jj_H → Prop) (h : jj_H) (k : Nat) : Prop :=
  jp_is h y0 10 ∧ ∃ c28, c28 ≤ k ∧ fC_X4_require gk y0 y1 4 (fun h30 =>
  jp_is h30 x0 10 ∧ ∃ c31, c31 ≤ (k - c28) ∧ fC_X4_advance gk x0 (fun h33 =>
  jp_is h33 x0 10 ∧ ∃ c34, c34 ≤ ((k - c28) - c31) ∧ fC_X4_name gk x0 (fun r35 h36 =>
  jp_gr h36 x0 10 1 (fun g37 =>
  jp_gr h36 g37 2 3 (fun g38 =>
  jq_J19_containsKey g38 r35 (fun r41 h39 k40 =>
  jj_r r41 ∧ (¬ r41 = 0 → (
    fC_X4_record_j225 gk x0 r35 x0 0 Q E h39 k40)) ∧
  (r41 = 0 → (
    fC_X4_record_j225 gk x0 r35 x0 1 Q E h39 k40))) h36 (((k - c28) - c31) - c34)))) E h33 c34) E h30 c31) E h c28
def fC_X4_record_j156 (gk : Nat → Nat) (x0 : Option Nat) (y0 : Option Nat) (y1 : Int) (Q : jj_H → Prop) (E : String → Nat → jj_H → Prop) (h : jj_H) (k : Nat) : Prop :=
  jp_is h y0 10 ∧ ∃ c42, c42 ≤ k ∧ fC_X4_require gk y0 y1 4 (fun h44 =>
  jp_is h44 x0 10 ∧ ∃ c45, c45 ≤ (k - c42) ∧ fC_X4_advance gk x0 (fun h47 =>
  jp_is h47 x0 10 ∧ ∃ c48, c48 ≤ ((k - c42) - c45) ∧ fC_X4_edition gk x0 (fun h50 =>
  Q h50) E h47 c48) E h44 c45) E h c42
def fC_X4_record_j105 (gk : Nat → Nat) (x0 : Option Nat) (x2 : Int) (Q : jj_H → Prop) (E : String → Nat → jj_H → Prop) (h : jj_H) (k : Nat) : Prop :=
  jj_r x2 ∧
  (x2 = 0 → (
    jp_gr h x0 10 1 (fun g51 =>
    jp_gr h g51 2 0 (fun g52 =>
    jq_J2_size g52 (fun r55 h53 k54 =>
    jj_r r55 ∧ (3 ≤ r55 → (
      fC_X4_record_j156 gk x0 x0 0 Q E h53 k54)) ∧
    (¬ 3 ≤ r55 → (
      fC_X4_record_j156 gk x0 x0 1 Q E h53 k54))) h k)))) ∧
  (x2 = 1 → (
    jp_gr h x0 10 1 (fun g56 =>
    jp_gr h g56 2 2 (fun g57 =>
    jq_J2_size g57 (fun r60 h58 k59 =>
    jj_r r60 ∧ (6 ≤ r60 → (
      fC_X4_record_j192 gk x0 x0 0 Q E h58 k59)) ∧
    (¬ 6 ≤ r60 → (
      fC_X4_record_j192 gk x0 x0 1 Q E h58 k59))) h k)))) ∧
  (x2 = 2 → (
    jp_gr h x0 10 1 (fun g61 =>
    jp_gr h g61 2 1 (fun g62 =>
    jq_J2_size g62 (fun r65 h63 k64 =>
    jj_r r65 ∧ (40 ≤ r65 → (
      fC_X4_record_j265 gk x0 x0 0 Q E h63 k64)) ∧
    (¬ 40 ≤ r65 → (
      fC_X4_record_j265 gk x0 x0 1 Q E h63 k64))) h k)))) ∧
  (x2 = 3 → (
    jp_is h x0 10 ∧ ∃ c66, c66 ≤ k ∧ fC_X4_advance gk x0 (fun h68 =>
    jp_gr h68 x0 10 1 (fun g69 =>
    jp_gr h68 x0 10 1 (fun g70 =>
    jp_gr h68 g70 2 0 (fun g71 =>
    jq_J2_size g71 (fun r74 h72 k73 =>
    jp_is h72 x0 10 ∧ ∃ c75, c75 ≤ k73 ∧ fC_X4_number gk x0 0 (r74 - 1) (fun r76 h77 =>
    jp_pi h77 g69 2 4 r76 (fun h78 =>
    Q h78)) E h72 c75) h68 (k - c66))))) E h c66)) ∧
  ((x2 < 0 ∨ 3 < x2) → (
    jp_nw h k 11 2 df_X7 (fun a79 h80 k81 =>
    jp_gi h80 x0 10 3 (fun g82 =>
    jp_so (some a79) ∧ fC_X7_init gk (some a79) 1 g82 none (fun h85 =>
    jp_th h85 (some a79) 11 (fun q9 => E "NoteImporter$ImportException" q9 h85)) E h80 0))))
def fC_X4_record (gk : Nat → Nat) (x0 : Option Nat) (Q : jj_H → Prop) (E : String → Nat → jj_H → Prop) (h : jj_H) (k : Nat) : Prop :=
  jp_gr h x0 10 7 (fun g86 =>
  jq_J9_hashCode g86 (fun r89 h87 k88 =>
  jj_r r89 ∧
  (r89 = (-1887963714) → (
    jq_J9_equals g86 (some (gk 4)) (fun r92 h90 k91 =>
    jj_r r92 ∧ (r92 = 0 → (
      fC_X4_record_j105 gk x0 (-1) Q E h90 k91)) ∧
    (¬ r92 = 0 → (
      fC_X4_record_j105 gk x0 0 Q E h90 k91))) h87 k88)) ∧
  (r89 = (-934979389) → (
    jq_J9_equals g86 (some (gk 5)) (fun r95 h93 k94 =>
    jj_r r95 ∧ (r95 = 0 → (
      fC_X4_record_j105 gk x0 (-1) Q E h93 k94)) ∧
    (¬ r95 = 0 → (
      fC_X4_record_j105 gk x0 1 Q E h93 k94))) h87 k88)) ∧
  (r89 = (-880905839) → (
    jq_J9_equals g86 (some (gk 13)) (fun r98 h96 k97 =>
    jj_r r98 ∧ (r98 = 0 → (
      fC_X4_record_j105 gk x0 (-1) Q E h96 k97)) ∧
    (¬ r98 = 0 → (
      fC_X4_record_j105 gk x0 3 Q E h96 k97))) h87 k88)) ∧
  (r89 = 3387378 → (
    jq_J9_equals g86 (some (gk 6)) (fun r101 h99 k100 =>
    jj_r r101 ∧ (r101 = 0 → (
      fC_X4_record_j105 gk x0 (-1) Q E h99 k100)) ∧
    (¬ r101 = 0 → (
      fC_X4_record_j105 gk x0 2 Q E h99 k100))) h87 k88)) ∧
  ((¬ r89 = (-1887963714) ∧ ¬ r89 = (-934979389) ∧ ¬ r89 = (-880905839) ∧ ¬ r89 = 3387378) → (
    fC_X4_record_j105 gk x0 (-1) Q E h87 k88))) h k)
theorem sC_X4_record_j288 {X : jj_X} {N : Option jj_AV → jj_H → Prop} {XN : String → Nat → jj_H → Prop} (F : jj_F X RX4 cX4_record 4) (M : jj_M X (none) 18 744 N XN) (O : jj_no X) (J : jj_GJ X.1 X.2.2.1) (hi : X.2.2.2.2.2.2.2.2.2.1.name = yX4_record.name) {Q : jj_H → Prop} {E : String → Nat → jj_H → Prop} (hQ : ∀ h, Q h → N none h) (hE : ∀ e q h, E e q h → XN e q h) (x0 : Option Nat) (y0 : Option Nat) (y1 : Int) : ∀ (h : jj_H) (k : Nat), fC_X4_record_j288 (jj_gk X.1) x0 y0 y1 Q E h k → jj_J X 4 288 [(0, .inr (.inr (.inl x0)))] [.inl y1, .inr (.inr (.inl y0))] h k := by
  intro h k w
  unfold fC_X4_record_j288 at w
  refine jr_iconst (pc := 288) F dX4_record_288 ?_
  obtain ⟨hi9, c1, hk9, w⟩ := w
  refine jr_cV (pc := 289) (As := [_, _]) (ci := 10) F M (lw_V q2428 q2430 qs23 q145 q2431) dX4_record_289 hC_X4_require rfl (Nat.le_of_ble_eq_true rfl) (Nat.le_of_ble_eq_true rfl) (Nat.le_of_ble_eq_true rfl) rfl hi9 hk9 (cC_X4_require J w) (fun v9 h3 q9 => ?_) (fun E9 q9 h9 w9 => jr_out F M O (hE _ _ _ w9))
  obtain ⟨rfl, w⟩ := q9
  refine jr_aload_n (pc := 292) F (j := 0) dX4_record_292 rfl ?_
  obtain ⟨hi9, c4, hk9, w⟩ := w
  refine jr_cV (pc := 293) (As := []) (ci := 10) F M (lw_V q2343 q2345 qs20 q145 q2346) dX4_record_293 hC_X4_advance rfl (Nat.le_of_ble_eq_true rfl) (Nat.le_of_ble_eq_true rfl) (Nat.le_of_ble_eq_true rfl) rfl hi9 hk9 (cC_X4_advance J w) (fun v9 h6 q9 => ?_) (fun E9 q9 h9 w9 => jr_out F M O (hE _ _ _ w9))
  obtain ⟨rfl, w⟩ := q9
  refine jr_aload_n (pc := 296) F (j := 0) dX4_record_296 rfl ?_
  obtain ⟨hi9, c7, hk9, w⟩ := w
  refine jr_cV (pc := 297) (As := []) (ci := 10) F M (lw_V q2516 q2518 qs28 q145 q2519) dX4_record_297 hC_X4_note rfl (Nat.le_of_ble_eq_true rfl) (Nat.le_of_ble_eq_true rfl) (Nat.le_of_ble_eq_true rfl) rfl hi9 hk9 (cC_X4_note J w) (fun v9 h9 q9 => ?_) (fun E9 q9 h9 w9 => jr_out F M O (hE _ _ _ w9))
  obtain ⟨rfl, w⟩ := q9
  refine jr_goto (pc := 300) (tgt := 348) F dX4_record_300 rfl ?_
  exact jr_vret (pc := 348) F M dX4_record_348 (hQ _ w)

theorem sC_X4_record_j265 {X : jj_X} {N : Option jj_AV → jj_H → Prop} {XN : String → Nat → jj_H → Prop} (F : jj_F X RX4 cX4_record 4) (M : jj_M X (none) 18 744 N XN) (O : jj_no X) (J : jj_GJ X.1 X.2.2.1) (hi : X.2.2.2.2.2.2.2.2.2.1.name = yX4_record.name) {Q : jj_H → Prop} {E : String → Nat → jj_H → Prop} (hQ : ∀ h, Q h → N none h) (hE : ∀ e q h, E e q h → XN e q h) (x0 : Option Nat) (y0 : Option Nat) (y1 : Int) : ∀ (h : jj_H) (k : Nat), fC_X4_record_j265 (jj_gk X.1) x0 y0 y1 Q E h k → jj_J X 4 265 [(0, .inr (.inr (.inl x0)))] [.inl y1, .inr (.inr (.inl y0))] h k := by
  intro h k w
  unfold fC_X4_record_j265 at w
  refine jr_iconst (pc := 265) F dX4_record_265 ?_
  obtain ⟨hi9, c10, hk9, w⟩ := w
  refine jr_cV (pc := 266) (As := [_, _]) (ci := 10) F M (lw_V q2428 q2430 qs23 q145 q2431) dX4_record_266 hC_X4_require rfl (Nat.le_of_ble_eq_true rfl) (Nat.le_of_ble_eq_true rfl) (Nat.le_of_ble_eq_true rfl) rfl hi9 hk9 (cC_X4_require J w) (fun v9 h12 q9 => ?_) (fun E9 q9 h9 w9 => jr_out F M O (hE _ _ _ w9))
  obtain ⟨rfl, w⟩ := q9
  refine jr_aload_n (pc := 269) F (j := 0) dX4_record_269 rfl ?_
  refine jr_aload_n (pc := 270) F (j := 0) dX4_record_270 rfl ?_
  refine jr_gr (pc := 271) (ci := 10) (f := 1) F rfl in_X4 (Nat.le_of_ble_eq_true rfl) q2385 dX4_record_271 w (fun g13 w => ?_)
  refine jr_grN (pc := 274) (ci := 2) (f := 0) F rfl in_X2 (Nat.le_of_ble_eq_true rfl) q592 dX4_record_274 w (fun g14 w => ?_)
  refine jr_jV (pc := 277) (As := []) (ci := 14) F M (lw_V q2515 q656 q657 q124 q658) dX4_record_277 hj_J2_isEmpty rfl (Nat.le_of_ble_eq_true rfl) (Nat.le_of_ble_eq_true rfl) (Nat.le_of_ble_eq_true rfl) rfl (jK_J2_isEmpty J _ _ _ _ w) (fun v9 h15 k16 q9 => ?_)
  obtain ⟨r17, rfl, w⟩ := q9
  obtain ⟨hx9, w1, w2⟩ := w
  refine jr_if_ne (pc := 280) (tgt := 287) F hx9 dX4_record_280 rfl (fun c9 => ?_) (fun c9 => ?_)
  · have w := w1 c9
    refine jr_iconst (pc := 287) F dX4_record_287 ?_
    exact sC_X4_record_j288 F M O J hi hQ hE _ _ _ _ _ w
  · have w := w2 c9
    refine jr_iconst (pc := 283) F dX4_record_283 ?_
    refine jr_goto (pc := 284) (tgt := 288) F dX4_record_284 rfl ?_
    exact sC_X4_record_j288 F M O J hi hQ hE _ _ _ _ _ w

theorem sC_X4_record_j225 {X : jj_X} {N : Option jj_AV → jj_H → Prop} {XN : String → Nat → jj_H → Prop} (F : jj_F X RX4 cX4_record 4) (M : jj_M X (none) 18 744 N XN) (O : jj_no X) (J : jj_GJ X.1 X.2.2.1) (hi : X.2.2.2.2.2.2.2.2.2.1.name = yX4_record.name) {Q : jj_H → Prop} {E : String → Nat → jj_H → Prop} (hQ : ∀ h, Q h → N none h) (hE : ∀ e q h, E e q h → XN e q h) (x0 : Option Nat) (x3 : Option Nat) (y0 : Option Nat) (y1 : Int) : ∀ (h : jj_H) (k : Nat), fC_X4_record_j225 (jj_gk X.1) x0 x3 y0 y1 Q E h k → jj_J X 4 225 [(0, .inr (.inr (.inl x0))), (3, .inr (.inr (.inl x3)))] [.inl y1, .inr (.inr (.inl y0))] h k := by
  intro h k w
  unfold fC_X4_record_j225 at w
  refine jr_iconst (pc := 225) F dX4_record_225 ?_
  obtain ⟨hi9, c18, hk9, w⟩ := w
  refine jr_cV (pc := 226) (As := [_, _]) (ci := 10) F M (lw_V q2428 q2430 qs23 q145 q2431) dX4_record_226 hC_X4_require rfl (Nat.le_of_ble_eq_true rfl) (Nat.le_of_ble_eq_true rfl) (Nat.le_of_ble_eq_true rfl) rfl hi9 hk9 (cC_X4_require J w) (fun v9 h20 q9 => ?_) (fun E9 q9 h9 w9 => jr_out F M O (hE _ _ _ w9))
  obtain ⟨rfl, w⟩ := q9
  refine jr_aload_n (pc := 229) F (j := 0) dX4_record_229 rfl ?_
  obtain ⟨hi9, c21, hk9, w⟩ := w
  refine jr_cV (pc := 230) (As := []) (ci := 10) F M (lw_V q2343 q2345 qs20 q145 q2346) dX4_record_230 hC_X4_advance rfl (Nat.le_of_ble_eq_true rfl) (Nat.le_of_ble_eq_true rfl) (Nat.le_of_ble_eq_true rfl) rfl hi9 hk9 (cC_X4_advance J w) (fun v9 h23 q9 => ?_) (fun E9 q9 h9 w9 => jr_out F M O (hE _ _ _ w9))
  obtain ⟨rfl, w⟩ := q9
  refine jr_aload_n (pc := 233) F (j := 0) dX4_record_233 rfl ?_
  refine jr_gr (pc := 234) (ci := 10) (f := 1) F rfl in_X4 (Nat.le_of_ble_eq_true rfl) q2385 dX4_record_234 w (fun g24 w => ?_)
  refine jr_aload_n (pc := 237) F (j := 1) dX4_record_237 rfl ?_
  obtain ⟨hi9, c25, hk9, w⟩ := w
  refine jr_cV (pc := 238) (As := [_]) (ci := 2) F M (lw_V q2514 q2332 q2333 q121 q2334) dX4_record_238 hC_X2_addReader rfl (Nat.le_of_ble_eq_true rfl) (Nat.le_of_ble_eq_true rfl) (Nat.le_of_ble_eq_true rfl) rfl hi9 hk9 (cC_X2_addReader J w) (fun v9 h27 q9 => ?_) (fun E9 q9 h9 w9 => jr_out F M O (hE _ _ _ w9))
  obtain ⟨rfl, w⟩ := q9
  refine jr_goto (pc := 241) (tgt := 348) F dX4_record_241 rfl ?_
  exact jr_vret (pc := 348) F M dX4_record_348 (hQ _ w)

theorem sC_X4_record_j192 {X : jj_X} {N : Option jj_AV → jj_H → Prop} {XN : String → Nat → jj_H → Prop} (F : jj_F X RX4 cX4_record 4) (M : jj_M X (none) 18 744 N XN) (O : jj_no X) (J : jj_GJ X.1 X.2.2.1) (hi : X.2.2.2.2.2.2.2.2.2.1.name = yX4_record.name) {Q : jj_H → Prop} {E : String → Nat → jj_H → Prop} (hQ : ∀ h, Q h → N none h) (hE : ∀ e q h, E e q h → XN e q h) (x0 : Option Nat) (y0 : Option Nat) (y1 : Int) : ∀ (h : jj_H) (k : Nat), fC_X4_record_j192 (jj_gk X.1) x0 y0 y1 Q E h k → jj_J X 4 192 [(0, .inr (.inr (.inl x0)))] [.inl y1, .inr (.inr (.inl y0))] h k := by
  intro h k w
  unfold fC_X4_record_j192 at w
  refine jr_iconst (pc := 192) F dX4_record_192 ?_
  obtain ⟨hi9, c28, hk9, w⟩ := w
  refine jr_cV (pc := 193) (As := [_, _]) (ci := 10) F M (lw_V q2428 q2430 qs23 q145 q2431) dX4_record_193 hC_X4_require rfl (Nat.le_of_ble_eq_true rfl) (Nat.le_of_ble_eq_true rfl) (Nat.le_of_ble_eq_true rfl) rfl hi9 hk9 (cC_X4_require J w) (fun v9 h30 q9 => ?_) (fun E9 q9 h9 w9 => jr_out F M O (hE _ _ _ w9))
  obtain ⟨rfl, w⟩ := q9
  refine jr_aload_n (pc := 196) F (j := 0) dX4_record_196 rfl ?_
  obtain ⟨hi9, c31, hk9, w⟩ := w
  refine jr_cV (pc := 197) (As := []) (ci := 10) F M (lw_V q2343 q2345 qs20 q145 q2346) dX4_record_197 hC_X4_advance rfl (Nat.le_of_ble_eq_true rfl) (Nat.le_of_ble_eq_true rfl) (Nat.le_of_ble_eq_true rfl) rfl hi9 hk9 (cC_X4_advance J w) (fun v9 h33 q9 => ?_) (fun E9 q9 h9 w9 => jr_out F M O (hE _ _ _ w9))
  obtain ⟨rfl, w⟩ := q9
  refine jr_aload_n (pc := 200) F (j := 0) dX4_record_200 rfl ?_
  obtain ⟨hi9, c34, hk9, w⟩ := w
  refine jr_cVX (pc := 201) (As := []) (ci := 10) F M (lw_VW q2471 q2473 qs26 q145 q2474) dX4_record_201 hC_X4_name rfl (Nat.le_of_ble_eq_true rfl) (Nat.le_of_ble_eq_true rfl) (Nat.le_of_ble_eq_true rfl) rfl hi9 hk9 (cC_X4_name J w) (fun v9 h36 q9 => ?_) (fun E9 q9 h9 w9 => jr_out F M O (hE _ _ _ w9))
  obtain ⟨r35, rfl, w⟩ := q9
  refine jr_astore_n (pc := 204) F (vs' := [(3, .inr (.inr (.inl _))), (0, .inr (.inr (.inl _)))]) dX4_record_204 (Nat.le_of_ble_eq_true rfl) rfl ?_
  refine jr_aload_n (pc := 205) F (j := 1) dX4_record_205 rfl ?_
  refine jr_aload_n (pc := 206) F (j := 1) dX4_record_206 rfl ?_
  refine jr_gr (pc := 207) (ci := 10) (f := 1) F rfl in_X4 (Nat.le_of_ble_eq_true rfl) q2385 dX4_record_207 w (fun g37 w => ?_)
  refine jr_grN (pc := 210) (ci := 2) (f := 3) F rfl in_X2 (Nat.le_of_ble_eq_true rfl) q601 dX4_record_210 w (fun g38 w => ?_)
  refine jr_aload_n (pc := 213) F (j := 0) dX4_record_213 rfl ?_
  refine jr_jV (pc := 214) (As := [_]) (ci := 16) F M (lw_V q2513 q1165 q1166 q142 q1167) dX4_record_214 hj_J19_containsKey rfl (Nat.le_of_ble_eq_true rfl) (Nat.le_of_ble_eq_true rfl) (Nat.le_of_ble_eq_true rfl) rfl (jK_J19_containsKey J _ _ _ _ _ w) (fun v9 h39 k40 q9 => ?_)
  obtain ⟨r41, rfl, w⟩ := q9
  obtain ⟨hx9, w1, w2⟩ := w
  refine jr_if_ne (pc := 217) (tgt := 224) F hx9 dX4_record_217 rfl (fun c9 => ?_) (fun c9 => ?_)
  · have w := w1 c9
    refine jr_iconst (pc := 224) F dX4_record_224 ?_
    refine jj_J.sub [1, 0] rfl ?_
    exact sC_X4_record_j225 F M O J hi hQ hE _ _ _ _ _ _ w
  · have w := w2 c9
    refine jr_iconst (pc := 220) F dX4_record_220 ?_
    refine jr_goto (pc := 221) (tgt := 225) F dX4_record_221 rfl ?_
    refine jj_J.sub [1, 0] rfl ?_
    exact sC_X4_record_j225 F M O J hi hQ hE _ _ _ _ _ _ w

theorem sC_X4_record_j156 {X : jj_X} {N : Option jj_AV → jj_H → Prop} {XN : String → Nat → jj_H → Prop} (F : jj_F X RX4 cX4_record 4) (M : jj_M X (none) 18 744 N XN) (O : jj_no X) (J : jj_GJ X.1 X.2.2.1) (hi : X.2.2.2.2.2.2.2.2.2.1.name = yX4_record.name) {Q : jj_H → Prop} {E : String → Nat → jj_H → Prop} (hQ : ∀ h, Q h → N none h) (hE : ∀ e q h, E e q h → XN e q h) (x0 : Option Nat) (y0 : Option Nat) (y1 : Int) : ∀ (h : jj_H) (k : Nat), fC_X4_record_j156 (jj_gk X.1) x0 y0 y1 Q E h k → jj_J X 4 156 [(0, .inr (.inr (.inl x0)))] [.inl y1, .inr (.inr (.inl y0))] h k := by
  intro h k w
  unfold fC_X4_record_j156 at w
  refine jr_iconst (pc := 156) F dX4_record_156 ?_
  obtain ⟨hi9, c42, hk9, w⟩ := w
  refine jr_cV (pc := 157) (As := [_, _]) (ci := 10) F M (lw_V q2428 q2430 qs23 q145 q2431) dX4_record_157 hC_X4_require rfl (Nat.le_of_ble_eq_true rfl) (Nat.le_of_ble_eq_true rfl) (Nat.le_of_ble_eq_true rfl) rfl hi9 hk9 (cC_X4_require J w) (fun v9 h44 q9 => ?_) (fun E9 q9 h9 w9 => jr_out F M O (hE _ _ _ w9))
  obtain ⟨rfl, w⟩ := q9
  refine jr_aload_n (pc := 160) F (j := 0) dX4_record_160 rfl ?_
  obtain ⟨hi9, c45, hk9, w⟩ := w
  refine jr_cV (pc := 161) (As := []) (ci := 10) F M (lw_V q2343 q2345 qs20 q145 q2346) dX4_record_161 hC_X4_advance rfl (Nat.le_of_ble_eq_true rfl) (Nat.le_of_ble_eq_true rfl) (Nat.le_of_ble_eq_true rfl) rfl hi9 hk9 (cC_X4_advance J w) (fun v9 h47 q9 => ?_) (fun E9 q9 h9 w9 => jr_out F M O (hE _ _ _ w9))
  obtain ⟨rfl, w⟩ := q9
  refine jr_aload_n (pc := 164) F (j := 0) dX4_record_164 rfl ?_
  obtain ⟨hi9, c48, hk9, w⟩ := w
  refine jr_cV (pc := 165) (As := []) (ci := 10) F M (lw_V q2460 q2462 qs24 q145 q2463) dX4_record_165 hC_X4_edition rfl (Nat.le_of_ble_eq_true rfl) (Nat.le_of_ble_eq_true rfl) (Nat.le_of_ble_eq_true rfl) rfl hi9 hk9 (cC_X4_edition J w) (fun v9 h50 q9 => ?_) (fun E9 q9 h9 w9 => jr_out F M O (hE _ _ _ w9))
  obtain ⟨rfl, w⟩ := q9
  refine jr_goto (pc := 168) (tgt := 348) F dX4_record_168 rfl ?_
  exact jr_vret (pc := 348) F M dX4_record_348 (hQ _ w)

theorem sC_X4_record_j105 {X : jj_X} {N : Option jj_AV → jj_H → Prop} {XN : String → Nat → jj_H → Prop} (F : jj_F X RX4 cX4_record 4) (M : jj_M X (none) 18 744 N XN) (O : jj_no X) (J : jj_GJ X.1 X.2.2.1) (hi : X.2.2.2.2.2.2.2.2.2.1.name = yX4_record.name) {Q : jj_H → Prop} {E : String → Nat → jj_H → Prop} (hQ : ∀ h, Q h → N none h) (hE : ∀ e q h, E e q h → XN e q h) (x0 : Option Nat) (x2 : Int) : ∀ (h : jj_H) (k : Nat), fC_X4_record_j105 (jj_gk X.1) x0 x2 Q E h k → jj_J X 4 105 [(0, .inr (.inr (.inl x0))), (2, .inl x2)] [] h k := by
  intro h k w
  unfold fC_X4_record_j105 at w
  refine jr_iload_n (pc := 105) F (j := 1) dX4_record_105 rfl ?_
  obtain ⟨hx9, w⟩ := w
  obtain ⟨w9, w⟩ := w
  rcases Decidable.em (x2 = 0) with e9 | e9_0
  · have w := w9 e9
    refine jr_tabIn (pc := 106) (tgt := 136) (off := 30) F hx9 dX4_record_106 (by rw [e9]; decide) (by rw [e9]; decide) (by rw [e9]; rfl) rfl ?_
    refine jr_aload_n (pc := 136) F (j := 0) dX4_record_136 rfl ?_
    refine jr_aload_n (pc := 137) F (j := 0) dX4_record_137 rfl ?_
    refine jr_gr (pc := 138) (ci := 10) (f := 1) F rfl in_X4 (Nat.le_of_ble_eq_true rfl) q2385 dX4_record_138 w (fun g51 w => ?_)
    refine jr_grN (pc := 141) (ci := 2) (f := 0) F rfl in_X2 (Nat.le_of_ble_eq_true rfl) q592 dX4_record_141 w (fun g52 w => ?_)
    refine jr_jV (pc := 144) (As := []) (ci := 14) F M (lw_V q2427 q676 q677 q124 q678) dX4_record_144 hj_J2_size rfl (Nat.le_of_ble_eq_true rfl) (Nat.le_of_ble_eq_true rfl) (Nat.le_of_ble_eq_true rfl) rfl (jK_J2_size J _ _ _ _ w) (fun v9 h53 k54 q9 => ?_)
    obtain ⟨r55, rfl, w⟩ := q9
    refine jr_iconst (pc := 147) F dX4_record_147 ?_
    obtain ⟨hx9, w1, w2⟩ := w
    refine jr_icmp_ge (pc := 148) (tgt := 155) F hx9 ⟨by decide, by decide⟩ dX4_record_148 rfl (fun c9 => ?_) (fun c9 => ?_)
    · have w := w1 c9
      refine jr_iconst (pc := 155) F dX4_record_155 ?_
      refine jj_J.sub [0] rfl ?_
      exact sC_X4_record_j156 F M O J hi hQ hE _ _ _ _ _ w
    · have w := w2 c9
      refine jr_iconst (pc := 151) F dX4_record_151 ?_
      refine jr_goto (pc := 152) (tgt := 156) F dX4_record_152 rfl ?_
      refine jj_J.sub [0] rfl ?_
      exact sC_X4_record_j156 F M O J hi hQ hE _ _ _ _ _ w
  obtain ⟨w9, w⟩ := w
  rcases Decidable.em (x2 = 1) with e9 | e9_1
  · have w := w9 e9
    refine jr_tabIn (pc := 106) (tgt := 171) (off := 65) F hx9 dX4_record_106 (by rw [e9]; decide) (by rw [e9]; decide) (by rw [e9]; rfl) rfl ?_
    refine jr_aload_n (pc := 171) F (j := 0) dX4_record_171 rfl ?_
    refine jr_aload_n (pc := 172) F (j := 0) dX4_record_172 rfl ?_
    refine jr_gr (pc := 173) (ci := 10) (f := 1) F rfl in_X4 (Nat.le_of_ble_eq_true rfl) q2385 dX4_record_173 w (fun g56 w => ?_)
    refine jr_grN (pc := 176) (ci := 2) (f := 2) F rfl in_X2 (Nat.le_of_ble_eq_true rfl) q598 dX4_record_176 w (fun g57 w => ?_)
    refine jr_jV (pc := 179) (As := []) (ci := 14) F M (lw_V q2427 q676 q677 q124 q678) dX4_record_179 hj_J2_size rfl (Nat.le_of_ble_eq_true rfl) (Nat.le_of_ble_eq_true rfl) (Nat.le_of_ble_eq_true rfl) rfl (jK_J2_size J _ _ _ _ w) (fun v9 h58 k59 q9 => ?_)
    obtain ⟨r60, rfl, w⟩ := q9
    refine jr_bipush (pc := 182) F dX4_record_182 (by decide +kernel) ?_
    obtain ⟨hx9, w1, w2⟩ := w
    refine jr_icmp_ge (pc := 184) (tgt := 191) F hx9 ⟨by decide, by decide⟩ dX4_record_184 rfl (fun c9 => ?_) (fun c9 => ?_)
    · have w := w1 c9
      refine jr_iconst (pc := 191) F dX4_record_191 ?_
      refine jj_J.sub [0] rfl ?_
      exact sC_X4_record_j192 F M O J hi hQ hE _ _ _ _ _ w
    · have w := w2 c9
      refine jr_iconst (pc := 187) F dX4_record_187 ?_
      refine jr_goto (pc := 188) (tgt := 192) F dX4_record_188 rfl ?_
      refine jj_J.sub [0] rfl ?_
      exact sC_X4_record_j192 F M O J hi hQ hE _ _ _ _ _ w
  obtain ⟨w9, w⟩ := w
  rcases Decidable.em (x2 = 2) with e9 | e9_2
  · have w := w9 e9
    refine jr_tabIn (pc := 106) (tgt := 244) (off := 138) F hx9 dX4_record_106 (by rw [e9]; decide) (by rw [e9]; decide) (by rw [e9]; rfl) rfl ?_
    refine jr_aload_n (pc := 244) F (j := 0) dX4_record_244 rfl ?_
    refine jr_aload_n (pc := 245) F (j := 0) dX4_record_245 rfl ?_
    refine jr_gr (pc := 246) (ci := 10) (f := 1) F rfl in_X4 (Nat.le_of_ble_eq_true rfl) q2385 dX4_record_246 w (fun g61 w => ?_)
    refine jr_grN (pc := 249) (ci := 2) (f := 1) F rfl in_X2 (Nat.le_of_ble_eq_true rfl) q595 dX4_record_249 w (fun g62 w => ?_)
    refine jr_jV (pc := 252) (As := []) (ci := 14) F M (lw_V q2427 q676 q677 q124 q678) dX4_record_252 hj_J2_size rfl (Nat.le_of_ble_eq_true rfl) (Nat.le_of_ble_eq_true rfl) (Nat.le_of_ble_eq_true rfl) rfl (jK_J2_size J _ _ _ _ w) (fun v9 h63 k64 q9 => ?_)
    obtain ⟨r65, rfl, w⟩ := q9
    refine jr_bipush (pc := 255) F dX4_record_255 (by decide +kernel) ?_
    obtain ⟨hx9, w1, w2⟩ := w
    refine jr_icmp_ge (pc := 257) (tgt := 264) F hx9 ⟨by decide, by decide⟩ dX4_record_257 rfl (fun c9 => ?_) (fun c9 => ?_)
    · have w := w1 c9
      refine jr_iconst (pc := 264) F dX4_record_264 ?_
      refine jj_J.sub [0] rfl ?_
      exact sC_X4_record_j265 F M O J hi hQ hE _ _ _ _ _ w
    · have w := w2 c9
      refine jr_iconst (pc := 260) F dX4_record_260 ?_
      refine jr_goto (pc := 261) (tgt := 265) F dX4_record_261 rfl ?_
      refine jj_J.sub [0] rfl ?_
      exact sC_X4_record_j265 F M O J hi hQ hE _ _ _ _ _ w
  obtain ⟨w9, w⟩ := w
  rcases Decidable.em (x2 = 3) with e9 | e9_3
  · have w := w9 e9
    refine jr_tabIn (pc := 106) (tgt := 303) (off := 197) F hx9 dX4_record_106 (by rw [e9]; decide) (by rw [e9]; decide) (by rw [e9]; rfl) rfl ?_
    refine jr_aload_n (pc := 303) F (j := 0) dX4_record_303 rfl ?_
    obtain ⟨hi9, c66, hk9, w⟩ := w
    refine jr_cV (pc := 304) (As := []) (ci := 10) F M (lw_V q2343 q2345 qs20 q145 q2346) dX4_record_304 hC_X4_advance rfl (Nat.le_of_ble_eq_true rfl) (Nat.le_of_ble_eq_true rfl) (Nat.le_of_ble_eq_true rfl) rfl hi9 hk9 (cC_X4_advance J w) (fun v9 h68 q9 => ?_) (fun E9 q9 h9 w9 => jr_out F M O (hE _ _ _ w9))
    obtain ⟨rfl, w⟩ := q9
    refine jr_aload_n (pc := 307) F (j := 0) dX4_record_307 rfl ?_
    refine jr_gr (pc := 308) (ci := 10) (f := 1) F rfl in_X4 (Nat.le_of_ble_eq_true rfl) q2385 dX4_record_308 w (fun g69 w => ?_)
    refine jr_aload_n (pc := 311) F (j := 0) dX4_record_311 rfl ?_
    refine jr_iconst (pc := 312) F dX4_record_312 ?_
    refine jr_aload_n (pc := 313) F (j := 0) dX4_record_313 rfl ?_
    refine jr_gr (pc := 314) (ci := 10) (f := 1) F rfl in_X4 (Nat.le_of_ble_eq_true rfl) q2385 dX4_record_314 w (fun g70 w => ?_)
    refine jr_grN (pc := 317) (ci := 2) (f := 0) F rfl in_X2 (Nat.le_of_ble_eq_true rfl) q592 dX4_record_317 w (fun g71 w => ?_)
    refine jr_jV (pc := 320) (As := []) (ci := 14) F M (lw_V q2427 q676 q677 q124 q678) dX4_record_320 hj_J2_size rfl (Nat.le_of_ble_eq_true rfl) (Nat.le_of_ble_eq_true rfl) (Nat.le_of_ble_eq_true rfl) rfl (jK_J2_size J _ _ _ _ w) (fun v9 h72 k73 q9 => ?_)
    obtain ⟨r74, rfl, w⟩ := q9
    refine jr_iconst (pc := 323) F dX4_record_323 ?_
    refine jr_isub (pc := 324) F dX4_record_324 ?_
    obtain ⟨hi9, c75, hk9, w⟩ := w
    refine jr_cV (pc := 325) (As := [_, _]) (ci := 10) F M (lw_V q2464 q2466 qs25 q145 q2467) dX4_record_325 hC_X4_number rfl (Nat.le_of_ble_eq_true rfl) (Nat.le_of_ble_eq_true rfl) (Nat.le_of_ble_eq_true rfl) rfl hi9 hk9 (cC_X4_number J w) (fun v9 h77 q9 => ?_) (fun E9 q9 h9 w9 => jr_out F M O (hE _ _ _ w9))
    obtain ⟨r76, rfl, w⟩ := q9
    refine jr_piN (pc := 328) (ci := 2) (f := 4) F rfl in_X2 tyX2_ok nmX2 (Nat.le_of_ble_eq_true rfl) rfl rfl q604 dX4_record_328 w (fun h78 w => ?_)
    refine jr_goto (pc := 331) (tgt := 348) F dX4_record_331 rfl ?_
    exact jr_vret (pc := 348) F M dX4_record_348 (hQ _ w)
  have c9 := jj_to3 e9_0 e9_1 e9_2 e9_3
  have w := w c9
  refine jr_tabOut (pc := 106) (tgt := 334) F hx9 dX4_record_106 c9 rfl ?_
  refine jr_new (pc := 334) (ci := 11) F rfl in_X7 tyX7_ok q2432 q2433 q173 dfo_X7 rfl ⟨by decide, by decide⟩ dX4_record_334 w (fun a79 h80 k81 w => ?_)
  refine jr_dup (pc := 337) F dX4_record_337 rfl ?_
  refine jr_iconst (pc := 338) F dX4_record_338 ?_
  refine jr_aload_n (pc := 339) F (j := 0) dX4_record_339 rfl ?_
  refine jr_gi (pc := 340) (ci := 10) (f := 3) F rfl in_X4 (Nat.le_of_ble_eq_true rfl) q2388 dX4_record_340 w (fun g82 w => ?_)
  refine jr_null (pc := 343) F dX4_record_343 ?_
  obtain ⟨hi9, w⟩ := w
  refine jr_cI (pc := 344) (As := [_, _, _]) F M q2441 q2442 q173 q2443 dX4_record_344 rfl hC_X7_init.2 rfl (Nat.le_of_ble_eq_true rfl) (Nat.le_of_ble_eq_true rfl) (Nat.le_of_ble_eq_true rfl) hi9 (Nat.zero_le _) (cC_X7_init J w) (fun v9 h85 q9 => ?_) (fun E9 q9 h9 w9 => jr_out F M O (hE _ _ _ w9))
  obtain ⟨rfl, w⟩ := q9
  refine jr_thr (pc := 347) (ci := 11) F rfl dX4_record_347 w (fun q9 w => ?_)
  exact jr_out F M O (hE _ _ _ w)

theorem sC_X4_record {X : jj_X} {N : Option jj_AV → jj_H → Prop} {XN : String → Nat → jj_H → Prop} (F : jj_F X RX4 cX4_record 4) (M : jj_M X (none) 18 744 N XN) (O : jj_no X) (J : jj_GJ X.1 X.2.2.1) (hi : X.2.2.2.2.2.2.2.2.2.1.name = yX4_record.name) {Q : jj_H → Prop} {E : String → Nat → jj_H → Prop} (hQ : ∀ h, Q h → N none h) (hE : ∀ e q h, E e q h → XN e q h) (x0 : Option Nat) : ∀ (h : jj_H) (k : Nat), fC_X4_record (jj_gk X.1) x0 Q E h k → jj_J X 4 0 [(0, .inr (.inr (.inl x0)))] [] h k := by
  intro h k w
  unfold fC_X4_record at w
  refine jr_aload_n (pc := 0) F (j := 0) dX4_record_0 rfl ?_
  refine jr_gr (pc := 1) (ci := 10) (f := 7) F rfl in_X4 (Nat.le_of_ble_eq_true rfl) q2392 dX4_record_1 w (fun g86 w => ?_)
  refine jr_astore_n (pc := 4) F (vs' := [(1, .inr (.inr (.inl _))), (0, .inr (.inr (.inl _)))]) dX4_record_4 (Nat.le_of_ble_eq_true rfl) rfl ?_
  refine jr_iconst (pc := 5) F dX4_record_5 ?_
  refine jr_istore_n (pc := 6) F (vs' := [(2, .inl _), (1, .inr (.inr (.inl _))), (0, .inr (.inr (.inl _)))]) dX4_record_6 (Nat.le_of_ble_eq_true rfl) rfl ?_
  refine jr_aload_n (pc := 7) F (j := 1) dX4_record_7 rfl ?_
  refine jr_jV (pc := 8) (As := []) (ci := 25) F M (lw_V q2421 q1216 q3780 q131 q1217) dX4_record_8 hj_J9_hashCode rfl (Nat.le_of_ble_eq_true rfl) (Nat.le_of_ble_eq_true rfl) (Nat.le_of_ble_eq_true rfl) rfl (jK_J9_hashCode J _ _ _ _ w) (fun v9 h87 k88 q9 => ?_)
  obtain ⟨r89, rfl, w⟩ := q9
  obtain ⟨hx9, w⟩ := w
  obtain ⟨w9, w⟩ := w
  rcases Decidable.em (r89 = (-1887963714)) with e9 | e9_0
  · have w := w9 e9
    refine jr_lookup (pc := 11) (tgt := 52) (off := 41) F hx9 dX4_record_11 (by decide +kernel) (by rw [e9]; rfl) rfl ?_
    refine jr_aload_n (pc := 52) F (j := 1) dX4_record_52 rfl ?_
    refine jr_ldcS (pc := 53) F (jK_gs J) 15 rfl dX4_record_53 ?_
    refine jr_jV (pc := 55) (As := [_]) (ci := 25) F M (lw_V q2423 q713 q714 q131 q715) dX4_record_55 hj_J9_equals rfl (Nat.le_of_ble_eq_true rfl) (Nat.le_of_ble_eq_true rfl) (Nat.le_of_ble_eq_true rfl) rfl (jK_J9_equals J _ _ _ _ _ w) (fun v9 h90 k91 q9 => ?_)
    obtain ⟨r92, rfl, w⟩ := q9
    obtain ⟨hx9, w1, w2⟩ := w
    refine jr_if_eq (pc := 58) (tgt := 105) F hx9 dX4_record_58 rfl (fun c9 => ?_) (fun c9 => ?_)
    · have w := w1 c9
      refine jj_J.sub [2, 0] rfl ?_
      exact sC_X4_record_j105 F M O J hi hQ hE _ _ _ _ w
    · have w := w2 c9
      refine jr_iconst (pc := 61) F dX4_record_61 ?_
      refine jr_istore_n (pc := 62) F (vs' := [(2, .inl _), (1, .inr (.inr (.inl _))), (0, .inr (.inr (.inl _)))]) dX4_record_62 (Nat.le_of_ble_eq_true rfl) rfl ?_
      refine jr_goto (pc := 63) (tgt := 105) F dX4_record_63 rfl ?_
      refine jj_J.sub [2, 0] rfl ?_
      exact sC_X4_record_j105 F M O J hi hQ hE _ _ _ _ w
  obtain ⟨w9, w⟩ := w
  rcases Decidable.em (r89 = (-934979389)) with e9 | e9_1
  · have w := w9 e9
    refine jr_lookup (pc := 11) (tgt := 66) (off := 55) F hx9 dX4_record_11 (by decide +kernel) (by rw [e9]; rfl) rfl ?_
    refine jr_aload_n (pc := 66) F (j := 1) dX4_record_66 rfl ?_
    refine jr_ldcS (pc := 67) F (jK_gs J) 16 rfl dX4_record_67 ?_
    refine jr_jV (pc := 69) (As := [_]) (ci := 25) F M (lw_V q2423 q713 q714 q131 q715) dX4_record_69 hj_J9_equals rfl (Nat.le_of_ble_eq_true rfl) (Nat.le_of_ble_eq_true rfl) (Nat.le_of_ble_eq_true rfl) rfl (jK_J9_equals J _ _ _ _ _ w) (fun v9 h93 k94 q9 => ?_)
    obtain ⟨r95, rfl, w⟩ := q9
    obtain ⟨hx9, w1, w2⟩ := w
    refine jr_if_eq (pc := 72) (tgt := 105) F hx9 dX4_record_72 rfl (fun c9 => ?_) (fun c9 => ?_)
    · have w := w1 c9
      refine jj_J.sub [2, 0] rfl ?_
      exact sC_X4_record_j105 F M O J hi hQ hE _ _ _ _ w
    · have w := w2 c9
      refine jr_iconst (pc := 75) F dX4_record_75 ?_
      refine jr_istore_n (pc := 76) F (vs' := [(2, .inl _), (1, .inr (.inr (.inl _))), (0, .inr (.inr (.inl _)))]) dX4_record_76 (Nat.le_of_ble_eq_true rfl) rfl ?_
      refine jr_goto (pc := 77) (tgt := 105) F dX4_record_77 rfl ?_
      refine jj_J.sub [2, 0] rfl ?_
      exact sC_X4_record_j105 F M O J hi hQ hE _ _ _ _ w
  obtain ⟨w9, w⟩ := w
  rcases Decidable.em (r89 = (-880905839)) with e9 | e9_2
  · have w := w9 e9
    refine jr_lookup (pc := 11) (tgt := 94) (off := 83) F hx9 dX4_record_11 (by decide +kernel) (by rw [e9]; rfl) rfl ?_
    refine jr_aload_n (pc := 94) F (j := 1) dX4_record_94 rfl ?_
    refine jr_ldcS (pc := 95) F (jK_gs J) 18 rfl dX4_record_95 ?_
    refine jr_jV (pc := 97) (As := [_]) (ci := 25) F M (lw_V q2423 q713 q714 q131 q715) dX4_record_97 hj_J9_equals rfl (Nat.le_of_ble_eq_true rfl) (Nat.le_of_ble_eq_true rfl) (Nat.le_of_ble_eq_true rfl) rfl (jK_J9_equals J _ _ _ _ _ w) (fun v9 h96 k97 q9 => ?_)
    obtain ⟨r98, rfl, w⟩ := q9
    obtain ⟨hx9, w1, w2⟩ := w
    refine jr_if_eq (pc := 100) (tgt := 105) F hx9 dX4_record_100 rfl (fun c9 => ?_) (fun c9 => ?_)
    · have w := w1 c9
      refine jj_J.sub [2, 0] rfl ?_
      exact sC_X4_record_j105 F M O J hi hQ hE _ _ _ _ w
    · have w := w2 c9
      refine jr_iconst (pc := 103) F dX4_record_103 ?_
      refine jr_istore_n (pc := 104) F (vs' := [(2, .inl _), (1, .inr (.inr (.inl _))), (0, .inr (.inr (.inl _)))]) dX4_record_104 (Nat.le_of_ble_eq_true rfl) rfl ?_
      refine jj_J.sub [2, 0] rfl ?_
      exact sC_X4_record_j105 F M O J hi hQ hE _ _ _ _ w
  obtain ⟨w9, w⟩ := w
  rcases Decidable.em (r89 = 3387378) with e9 | e9_3
  · have w := w9 e9
    refine jr_lookup (pc := 11) (tgt := 80) (off := 69) F hx9 dX4_record_11 (by decide +kernel) (by rw [e9]; rfl) rfl ?_
    refine jr_aload_n (pc := 80) F (j := 1) dX4_record_80 rfl ?_
    refine jr_ldcS (pc := 81) F (jK_gs J) 17 rfl dX4_record_81 ?_
    refine jr_jV (pc := 83) (As := [_]) (ci := 25) F M (lw_V q2423 q713 q714 q131 q715) dX4_record_83 hj_J9_equals rfl (Nat.le_of_ble_eq_true rfl) (Nat.le_of_ble_eq_true rfl) (Nat.le_of_ble_eq_true rfl) rfl (jK_J9_equals J _ _ _ _ _ w) (fun v9 h99 k100 q9 => ?_)
    obtain ⟨r101, rfl, w⟩ := q9
    obtain ⟨hx9, w1, w2⟩ := w
    refine jr_if_eq (pc := 86) (tgt := 105) F hx9 dX4_record_86 rfl (fun c9 => ?_) (fun c9 => ?_)
    · have w := w1 c9
      refine jj_J.sub [2, 0] rfl ?_
      exact sC_X4_record_j105 F M O J hi hQ hE _ _ _ _ w
    · have w := w2 c9
      refine jr_iconst (pc := 89) F dX4_record_89 ?_
      refine jr_istore_n (pc := 90) F (vs' := [(2, .inl _), (1, .inr (.inr (.inl _))), (0, .inr (.inr (.inl _)))]) dX4_record_90 (Nat.le_of_ble_eq_true rfl) rfl ?_
      refine jr_goto (pc := 91) (tgt := 105) F dX4_record_91 rfl ?_
      refine jj_J.sub [2, 0] rfl ?_
      exact sC_X4_record_j105 F M O J hi hQ hE _ _ _ _ w
  have w := w ⟨e9_0, e9_1, e9_2, e9_3⟩
  refine jr_lookup (pc := 11) (tgt := 105) (off := 94) F hx9 dX4_record_11 (by decide +kernel) (by simp [Op.lookupswitch.offset, Ne.symm e9_0, Ne.symm e9_1, Ne.symm e9_2, Ne.symm e9_3]) rfl ?_
  refine jj_J.sub [2, 0] rfl ?_
  exact sC_X4_record_j105 F M O J hi hQ hE _ _ _ _ w

theorem cC_X4_record {G : jj_G} {l : Launch} (J : jj_GJ G l) {x0 : Option Nat} {Q : jj_H → Prop} {E : String → Nat → jj_H → Prop} {h : jj_H} {k : Nat} (w : fC_X4_record (jj_gk G) x0 Q E h k) : jj_Ct G l yX4_record (ws_ yX4_record cX4_record 4 (none)) 18 744 [.inr (.inr (.inl x0))] h k (jc_v Q) E := by
  refine jj_Ct.of (jK_gs J).1 (by decide +kernel) (Nat.le_of_ble_eq_true rfl) rfl (fun X hG hl F M O hnm => ?_)
  subst hG; subst hl
  exact sC_X4_record F M O J hnm (fun h q => ⟨rfl, q⟩) (fun _ _ _ q => q) _ _ _ w
theorem hC_X4_record : yX4_record.cls = RX4 ∧ yX4_record.cls ≠ "java/lang/invoke/MethodHandle" ∧ yX4_record.cls ≠ "java/lang/invoke/VarHandle" ∧ (parseMethodDescriptor yX4_record.desc).map (fun d => d.parameters.length) = some 0 := by decide +kernel
/-! X4_records()I -/
def fC_X4_records_l2 (gk : Nat → Nat) (x0 : Option Nat) (Q : Int → jj_H → Prop) (E : String → Nat → jj_H → Prop) : Nat → Int → jj_H → Nat → Prop
  | 0, _, _, _ => False
  | n + 1, x1, h, k =>
  jp_gi h x0 10 3 (fun g1 =>
  jp_gi h x0 10 0 (fun g2 =>
  jj_r g1 ∧ jj_r g2 ∧ (g2 ≤ g1 → (
    Q x1 h)) ∧
  (¬ g2 ≤ g1 → (
    jp_is h x0 10 ∧ ∃ c3, c3 ≤ k ∧ fC_X4_record gk x0 (fun h5 =>
    jp_is h5 x0 10 ∧ ∃ c6, c6 ≤ (k - c3) ∧ fC_X4_expect gk x0 (some (gk 17)) (fun h8 =>
    ∀ v9, v9 = x1 + 1 →
    fC_X4_records_l2 gk x0 Q E n v9 h8 ((k - c3) - c6)) E h5 c6) E h c3))))
def fC_X4_records (gk : Nat → Nat) (x0 : Option Nat) (Q : Int → jj_H → Prop) (E : String → Nat → jj_H → Prop) (h : jj_H) (k : Nat) : Prop :=
  ∃ n9, fC_X4_records_l2 gk x0 Q E n9 0 h k
theorem sC_X4_records_l2 {X : jj_X} {N : Option jj_AV → jj_H → Prop} {XN : String → Nat → jj_H → Prop} (F : jj_F X RX4 cX4_records 2) (M : jj_M X (some (.int)) 19 767 N XN) (O : jj_no X) (J : jj_GJ X.1 X.2.2.1) (hi : X.2.2.2.2.2.2.2.2.2.1.name = yX4_records.name) {Q : Int → jj_H → Prop} {E : String → Nat → jj_H → Prop} (hQ : ∀ r h, Q r h → N (some (.inl r)) h) (hE : ∀ e q h, E e q h → XN e q h) (x0 : Option Nat) : ∀ (n : Nat) (x1 : Int) (h : jj_H) (k : Nat), fC_X4_records_l2 (jj_gk X.1) x0 Q E n x1 h k → jj_J X 2 2 [(0, .inr (.inr (.inl x0))), (1, .inl x1)] [] h k := by
  intro n
  induction n with
  | zero =>
    intro x1 h k w
    exact (show False from w).elim
  | succ n ih =>
    intro x1 h k w
    rw [fC_X4_records_l2] at w
    refine jr_aload_n (pc := 2) F (j := 0) dX4_records_2 rfl ?_
    refine jr_gi (pc := 3) (ci := 10) (f := 3) F rfl in_X4 (Nat.le_of_ble_eq_true rfl) q2388 dX4_records_3 w (fun g1 w => ?_)
    refine jr_aload_n (pc := 6) F (j := 0) dX4_records_6 rfl ?_
    refine jr_gi (pc := 7) (ci := 10) (f := 0) F rfl in_X4 (Nat.le_of_ble_eq_true rfl) q2384 dX4_records_7 w (fun g2 w => ?_)
    obtain ⟨hx9, hy9, w1, w2⟩ := w
    refine jr_icmp_ge (pc := 10) (tgt := 29) F hx9 hy9 dX4_records_10 rfl (fun c9 => ?_) (fun c9 => ?_)
    · have w := w1 c9
      refine jr_iload_n (pc := 29) F (j := 1) dX4_records_29 rfl ?_
      exact jr_iret (pc := 30) F M dX4_records_30 (hQ _ _ w)
    · have w := w2 c9
      refine jr_aload_n (pc := 13) F (j := 0) dX4_records_13 rfl ?_
      obtain ⟨hi9, c3, hk9, w⟩ := w
      refine jr_cV (pc := 14) (As := []) (ci := 10) F M (lw_V q2417 q2419 qs22 q145 q2420) dX4_records_14 hC_X4_record rfl (Nat.le_of_ble_eq_true rfl) (Nat.le_of_ble_eq_true rfl) (Nat.le_of_ble_eq_true rfl) rfl hi9 hk9 (cC_X4_record J w) (fun v9 h5 q9 => ?_) (fun E9 q9 h9 w9 => jr_out F M O (hE _ _ _ w9))
      obtain ⟨rfl, w⟩ := q9
      refine jr_aload_n (pc := 17) F (j := 0) dX4_records_17 rfl ?_
      refine jr_ldcS (pc := 18) F (jK_gs J) 27 rfl dX4_records_18 ?_
      obtain ⟨hi9, c6, hk9, w⟩ := w
      refine jr_cV (pc := 20) (As := [_]) (ci := 10) F M (lw_V q2550 q2552 qs30 q145 q2553) dX4_records_20 hC_X4_expect rfl (Nat.le_of_ble_eq_true rfl) (Nat.le_of_ble_eq_true rfl) (Nat.le_of_ble_eq_true rfl) rfl hi9 hk9 (cC_X4_expect J w) (fun v9 h8 q9 => ?_) (fun E9 q9 h9 w9 => jr_out F M O (hE _ _ _ w9))
      obtain ⟨rfl, w⟩ := q9
      have w := w _ rfl
      refine jr_iinc (pc := 23) F (j := 1) (vs' := [(1, .inl _), (0, .inr (.inr (.inl _)))]) dX4_records_23 rfl rfl (Nat.le_of_ble_eq_true rfl) rfl ?_
      refine jr_goto (pc := 26) (tgt := 2) F dX4_records_26 rfl ?_
      refine jj_J.sub [1, 0] rfl ?_
      exact ih _ _ _ w

theorem sC_X4_records {X : jj_X} {N : Option jj_AV → jj_H → Prop} {XN : String → Nat → jj_H → Prop} (F : jj_F X RX4 cX4_records 2) (M : jj_M X (some (.int)) 19 767 N XN) (O : jj_no X) (J : jj_GJ X.1 X.2.2.1) (hi : X.2.2.2.2.2.2.2.2.2.1.name = yX4_records.name) {Q : Int → jj_H → Prop} {E : String → Nat → jj_H → Prop} (hQ : ∀ r h, Q r h → N (some (.inl r)) h) (hE : ∀ e q h, E e q h → XN e q h) (x0 : Option Nat) : ∀ (h : jj_H) (k : Nat), fC_X4_records (jj_gk X.1) x0 Q E h k → jj_J X 2 0 [(0, .inr (.inr (.inl x0)))] [] h k := by
  intro h k w
  unfold fC_X4_records at w
  refine jr_iconst (pc := 0) F dX4_records_0 ?_
  refine jr_istore_n (pc := 1) F (vs' := [(1, .inl _), (0, .inr (.inr (.inl _)))]) dX4_records_1 (Nat.le_of_ble_eq_true rfl) rfl ?_
  refine jj_J.sub [1, 0] rfl ?_
  obtain ⟨n9, w⟩ := w
  exact sC_X4_records_l2 F M O J hi hQ hE _ n9 _ _ _ w

theorem cC_X4_records {G : jj_G} {l : Launch} (J : jj_GJ G l) {x0 : Option Nat} {Q : Int → jj_H → Prop} {E : String → Nat → jj_H → Prop} {h : jj_H} {k : Nat} (w : fC_X4_records (jj_gk G) x0 Q E h k) : jj_Ct G l yX4_records (ws_ yX4_records cX4_records 2 (some (.int))) 19 767 [.inr (.inr (.inl x0))] h k (jc_i Q) E := by
  refine jj_Ct.of (jK_gs J).1 (by decide +kernel) (Nat.le_of_ble_eq_true rfl) rfl (fun X hG hl F M O hnm => ?_)
  subst hG; subst hl
  exact sC_X4_records F M O J hnm (fun r h q => ⟨r, rfl, q⟩) (fun _ _ _ q => q) _ _ _ w
theorem hC_X4_records : yX4_records.cls = RX4 ∧ yX4_records.cls ≠ "java/lang/invoke/MethodHandle" ∧ yX4_records.cls ≠ "java/lang/invoke/VarHandle" ∧ (parseMethodDescriptor yX4_records.desc).map (fun d => d.parameters.length) = some 0 := by decide +kernel
/-! X1_importText()I -/
def fC_X1_importText_j55 (gk : Nat → Nat) (x0 : Option Nat) (y0 : Option Nat) (Q : Int → jj_H → Prop) (E : String → Nat → jj_H → Prop) (h : jj_H) (k : Nat) : Prop :=
  jp_gi h y0 11 6 (fun g1 =>
  jp_pi h x0 1 6 g1 (fun h2 =>
  jp_gi h2 y0 11 7 (fun g3 =>
  jp_pi h2 x0 1 7 g3 (fun h4 =>
  Q (-1) h4))))
def fC_X1_importText (gk : Nat → Nat) (x0 : Option Nat) (Q : Int → jj_H → Prop) (E : String → Nat → jj_H → Prop) (h : jj_H) (k : Nat) : Prop :=
  jp_nw h k 10 3 df_X4 (fun a5 h6 k7 =>
  jp_gi h6 x0 1 4 (fun g8 =>
  jp_gr h6 x0 1 0 (fun g9 =>
  jp_is h6 g9 2 ∧ ∃ c10, c10 ≤ k7 ∧ fC_X2_copy gk g9 (fun r11 h12 =>
  jp_so (some a5) ∧ ∃ c13, c13 ≤ (k7 - c10) ∧ fC_X4_init gk (some a5) x0 g8 r11 (fun h15 =>
  jp_pi h15 x0 1 4 0 (fun h16 =>
  jp_pi h16 x0 1 6 0 (fun h17 =>
  jp_pi h17 x0 1 7 (-1) (fun h18 =>
  jp_is h18 (some a5) 10 ∧ ∃ c19, c19 ≤ ((k7 - c10) - c13) ∧ fC_X4_records gk (some a5) (fun r20 h21 =>
  jp_gr h21 (some a5) 10 1 (fun g22 =>
  jp_pr h21 x0 1 0 g22 (fun h23 =>
  jp_pr h23 x0 1 1 none (fun h24 =>
  Q r20 h24)))) (fun E9 q9 h9 => (E9 = "NoteImporter$ImportException" ∧ fC_X1_importText_j55 gk x0 (some q9) Q E h9 (((k7 - c10) - c13) - c19))) h18 c19)))) E h12 c13) E h6 c10)))
theorem sC_X1_importText_j55 {X : jj_X} {N : Option jj_AV → jj_H → Prop} {XN : String → Nat → jj_H → Prop} (F : jj_F X RX1 cX1_importText 3) (M : jj_M X (some (.int)) 20 788 N XN) (O : jj_tb X [(35, 54, 55, 424)]) (J : jj_GJ X.1 X.2.2.1) (hi : X.2.2.2.2.2.2.2.2.2.1.name = yX1_importText.name) {Q : Int → jj_H → Prop} {E : String → Nat → jj_H → Prop} (hQ : ∀ r h, Q r h → N (some (.inl r)) h) (hE : ∀ e q h, E e q h → XN e q h) (x0 : Option Nat) (y0 : Option Nat) : ∀ (h : jj_H) (k : Nat), fC_X1_importText_j55 (jj_gk X.1) x0 y0 Q E h k → jj_J X 3 55 [(0, .inr (.inr (.inl x0)))] [.inr (.inr (.inl y0))] h k := by
  intro h k w
  unfold fC_X1_importText_j55 at w
  refine jr_astore_n (pc := 55) F (vs' := [(2, .inr (.inr (.inl _))), (0, .inr (.inr (.inl _)))]) dX1_importText_55 (Nat.le_of_ble_eq_true rfl) rfl ?_
  refine jr_aload_n (pc := 56) F (j := 1) dX1_importText_56 rfl ?_
  refine jr_aload_n (pc := 57) F (j := 0) dX1_importText_57 rfl ?_
  refine jr_giN (pc := 58) (ci := 11) (f := 6) F rfl in_X7 (Nat.le_of_ble_eq_true rfl) q2451 dX1_importText_58 w (fun g1 w => ?_)
  refine jr_pi (pc := 61) (ci := 1) (f := 6) F rfl in_X1 tyX1_ok nmX1 (Nat.le_of_ble_eq_true rfl) rfl rfl q632 dX1_importText_61 w (fun h2 w => ?_)
  refine jr_aload_n (pc := 64) F (j := 1) dX1_importText_64 rfl ?_
  refine jr_aload_n (pc := 65) F (j := 0) dX1_importText_65 rfl ?_
  refine jr_giN (pc := 66) (ci := 11) (f := 7) F rfl in_X7 (Nat.le_of_ble_eq_true rfl) q2453 dX1_importText_66 w (fun g3 w => ?_)
  refine jr_pi (pc := 69) (ci := 1) (f := 7) F rfl in_X1 tyX1_ok nmX1 (Nat.le_of_ble_eq_true rfl) rfl rfl q633 dX1_importText_69 w (fun h4 w => ?_)
  refine jr_iconst (pc := 72) F dX1_importText_72 ?_
  exact jr_iret (pc := 73) F M dX1_importText_73 (hQ _ _ w)

theorem sC_X1_importText {X : jj_X} {N : Option jj_AV → jj_H → Prop} {XN : String → Nat → jj_H → Prop} (F : jj_F X RX1 cX1_importText 3) (M : jj_M X (some (.int)) 20 788 N XN) (O : jj_tb X [(35, 54, 55, 424)]) (J : jj_GJ X.1 X.2.2.1) (hi : X.2.2.2.2.2.2.2.2.2.1.name = yX1_importText.name) {Q : Int → jj_H → Prop} {E : String → Nat → jj_H → Prop} (hQ : ∀ r h, Q r h → N (some (.inl r)) h) (hE : ∀ e q h, E e q h → XN e q h) (x0 : Option Nat) : ∀ (h : jj_H) (k : Nat), fC_X1_importText (jj_gk X.1) x0 Q E h k → jj_J X 3 0 [(0, .inr (.inr (.inl x0)))] [] h k := by
  intro h k w
  unfold fC_X1_importText at w
  refine jr_new (pc := 0) (ci := 10) F rfl in_X4 tyX4_ok q1836 q1837 q145 dfo_X4 rfl ⟨by decide, by decide⟩ dX1_importText_0 w (fun a5 h6 k7 w => ?_)
  refine jr_dup (pc := 3) F dX1_importText_3 rfl ?_
  refine jr_aload_n (pc := 4) F (j := 0) dX1_importText_4 rfl ?_
  refine jr_aload_n (pc := 5) F (j := 0) dX1_importText_5 rfl ?_
  refine jr_gi (pc := 6) (ci := 1) (f := 4) F rfl in_X1 (Nat.le_of_ble_eq_true rfl) q630 dX1_importText_6 w (fun g8 w => ?_)
  refine jr_aload_n (pc := 9) F (j := 0) dX1_importText_9 rfl ?_
  refine jr_gr (pc := 10) (ci := 1) (f := 0) F rfl in_X1 (Nat.le_of_ble_eq_true rfl) q625 dX1_importText_10 w (fun g9 w => ?_)
  obtain ⟨hi9, c10, hk9, w⟩ := w
  refine jr_cV (pc := 13) (As := []) (ci := 2) F M (lw_V q1838 q1839 q1840 q121 q1841) dX1_importText_13 hC_X2_copy rfl (Nat.le_of_ble_eq_true rfl) (Nat.le_of_ble_eq_true rfl) (Nat.le_of_ble_eq_true rfl) rfl hi9 hk9 (cC_X2_copy J w) (fun v9 h12 q9 => ?_) (fun E9 q9 h9 w9 => jr_outP F M (jK_nc J) O (fun z9 hz9 => Or.inl ((by decide : ∀ z ∈ tableOf [(35, 54, 55, 424)], covers z 13 = false) z9 hz9)) (hE _ _ _ w9))
  obtain ⟨r11, rfl, w⟩ := q9
  obtain ⟨hi9, c13, hk9, w⟩ := w
  refine jr_cI (pc := 16) (As := [_, _, _]) F M q2338 q2339 q145 q2340 dX1_importText_16 rfl hC_X4_init.2 rfl (Nat.le_of_ble_eq_true rfl) (Nat.le_of_ble_eq_true rfl) (Nat.le_of_ble_eq_true rfl) hi9 hk9 (cC_X4_init J w) (fun v9 h15 q9 => ?_) (fun E9 q9 h9 w9 => jr_outP F M (jK_nc J) O (fun z9 hz9 => Or.inl ((by decide : ∀ z ∈ tableOf [(35, 54, 55, 424)], covers z 16 = false) z9 hz9)) (hE _ _ _ w9))
  obtain ⟨rfl, w⟩ := q9
  refine jr_astore_n (pc := 19) F (vs' := [(1, .inr (.inr (.inl _))), (0, .inr (.inr (.inl _)))]) dX1_importText_19 (Nat.le_of_ble_eq_true rfl) rfl ?_
  refine jr_aload_n (pc := 20) F (j := 1) dX1_importText_20 rfl ?_
  refine jr_iconst (pc := 21) F dX1_importText_21 ?_
  refine jr_pi (pc := 22) (ci := 1) (f := 4) F rfl in_X1 tyX1_ok nmX1 (Nat.le_of_ble_eq_true rfl) rfl rfl q630 dX1_importText_22 w (fun h16 w => ?_)
  refine jr_aload_n (pc := 25) F (j := 1) dX1_importText_25 rfl ?_
  refine jr_iconst (pc := 26) F dX1_importText_26 ?_
  refine jr_pi (pc := 27) (ci := 1) (f := 6) F rfl in_X1 tyX1_ok nmX1 (Nat.le_of_ble_eq_true rfl) rfl rfl q632 dX1_importText_27 w (fun h17 w => ?_)
  refine jr_aload_n (pc := 30) F (j := 1) dX1_importText_30 rfl ?_
  refine jr_iconst (pc := 31) F dX1_importText_31 ?_
  refine jr_pi (pc := 32) (ci := 1) (f := 7) F rfl in_X1 tyX1_ok nmX1 (Nat.le_of_ble_eq_true rfl) rfl rfl q633 dX1_importText_32 w (fun h18 w => ?_)
  refine jr_aload_n (pc := 35) F (j := 0) dX1_importText_35 rfl ?_
  obtain ⟨hi9, c19, hk9, w⟩ := w
  refine jr_cV (pc := 36) (As := []) (ci := 10) F M (lw_V q2413 q2414 q2415 q145 q2416) dX1_importText_36 hC_X4_records rfl (Nat.le_of_ble_eq_true rfl) (Nat.le_of_ble_eq_true rfl) (Nat.le_of_ble_eq_true rfl) rfl hi9 hk9 (cC_X4_records J w) (fun v9 h21 q9 => ?_) (fun E9 q9 h9 w9 => ?_)
  · obtain ⟨r20, rfl, w⟩ := q9
    refine jr_istore_n (pc := 39) F (vs' := [(2, .inl _), (1, .inr (.inr (.inl _))), (0, .inr (.inr (.inl _)))]) dX1_importText_39 (Nat.le_of_ble_eq_true rfl) rfl ?_
    refine jr_aload_n (pc := 40) F (j := 2) dX1_importText_40 rfl ?_
    refine jr_aload_n (pc := 41) F (j := 1) dX1_importText_41 rfl ?_
    refine jr_grN (pc := 42) (ci := 10) (f := 1) F rfl in_X4 (Nat.le_of_ble_eq_true rfl) q2386 dX1_importText_42 w (fun g22 w => ?_)
    refine jr_pr (pc := 45) (ci := 1) (f := 0) F rfl in_X1 tyX1_ok nmX1 (Nat.le_of_ble_eq_true rfl) rfl rfl q625 dX1_importText_45 w (fun h23 w => ?_)
    refine jr_aload_n (pc := 48) F (j := 2) dX1_importText_48 rfl ?_
    refine jr_null (pc := 49) F dX1_importText_49 ?_
    refine jr_pr (pc := 50) (ci := 1) (f := 1) F rfl in_X1 tyX1_ok nmX1 (Nat.le_of_ble_eq_true rfl) rfl rfl q626 dX1_importText_50 w (fun h24 w => ?_)
    refine jr_iload_n (pc := 53) F (j := 0) dX1_importText_53 rfl ?_
    exact jr_iret (pc := 54) F M dX1_importText_54 (hQ _ _ w)
  · obtain ⟨rfl, w⟩ := w9
    refine jr_catch F (jK_nc J) O [] ⟨35, 54, 55, 424⟩ [] rfl (fun z9 hz9 => nomatch hz9) (by decide) (by decide) q1835 q2434 (tgt := 55) rfl ?_
    refine jj_J.sub [1] rfl ?_
    exact sC_X1_importText_j55 F M O J hi hQ hE _ _ _ _ w

theorem cC_X1_importText {G : jj_G} {l : Launch} (J : jj_GJ G l) {x0 : Option Nat} {Q : Int → jj_H → Prop} {E : String → Nat → jj_H → Prop} {h : jj_H} {k : Nat} (w : fC_X1_importText (jj_gk G) x0 Q E h k) : jj_Ct G l yX1_importText (wsW_ yX1_importText cX1_importText 3 (some (.int)) [(35, 54, 55, 424)]) 20 788 [.inr (.inr (.inl x0))] h k (jc_i Q) E := by
  refine jj_Ct.ofW (jK_gs J).1 (by decide +kernel) (Nat.le_of_ble_eq_true rfl) rfl (fun X hG hl F M O hnm => ?_)
  subst hG; subst hl
  exact sC_X1_importText F M O J hnm (fun r h q => ⟨r, rfl, q⟩) (fun _ _ _ q => q) _ _ _ w
theorem hC_X1_importText : yX1_importText.cls = RX1 ∧ yX1_importText.cls ≠ "java/lang/invoke/MethodHandle" ∧ yX1_importText.cls ≠ "java/lang/invoke/VarHandle" ∧ (parseMethodDescriptor yX1_importText.desc).map (fun d => d.parameters.length) = some 0 := by decide +kernel
/-! X1_errorCode()I -/
def fC_X1_errorCode (gk : Nat → Nat) (x0 : Option Nat) (Q : Int → jj_H → Prop) (E : String → Nat → jj_H → Prop) (h : jj_H) (k : Nat) : Prop :=
  jp_gi h x0 1 6 (fun g1 =>
  Q g1 h)
theorem sC_X1_errorCode {X : jj_X} {N : Option jj_AV → jj_H → Prop} {XN : String → Nat → jj_H → Prop} (F : jj_F X RX1 cX1_errorCode 1) (M : jj_M X (some (.int)) 0 0 N XN) (O : jj_no X) (J : jj_GJ X.1 X.2.2.1) (hi : X.2.2.2.2.2.2.2.2.2.1.name = yX1_errorCode.name) {Q : Int → jj_H → Prop} {E : String → Nat → jj_H → Prop} (hQ : ∀ r h, Q r h → N (some (.inl r)) h) (hE : ∀ e q h, E e q h → XN e q h) (x0 : Option Nat) : ∀ (h : jj_H) (k : Nat), fC_X1_errorCode (jj_gk X.1) x0 Q E h k → jj_J X 1 0 [(0, .inr (.inr (.inl x0)))] [] h k := by
  intro h k w
  unfold fC_X1_errorCode at w
  refine jr_aload_n (pc := 0) F (j := 0) dX1_errorCode_0 rfl ?_
  refine jr_gi (pc := 1) (ci := 1) (f := 6) F rfl in_X1 (Nat.le_of_ble_eq_true rfl) q632 dX1_errorCode_1 w (fun g1 w => ?_)
  exact jr_iret (pc := 4) F M dX1_errorCode_4 (hQ _ _ w)

theorem cC_X1_errorCode {G : jj_G} {l : Launch} (J : jj_GJ G l) {x0 : Option Nat} {Q : Int → jj_H → Prop} {E : String → Nat → jj_H → Prop} {h : jj_H} {k : Nat} (w : fC_X1_errorCode (jj_gk G) x0 Q E h k) : jj_Ct G l yX1_errorCode (ws_ yX1_errorCode cX1_errorCode 1 (some (.int))) 0 0 [.inr (.inr (.inl x0))] h k (jc_i Q) E := by
  refine jj_Ct.of (jK_gs J).1 (by decide +kernel) (Nat.le_of_ble_eq_true rfl) rfl (fun X hG hl F M O hnm => ?_)
  subst hG; subst hl
  exact sC_X1_errorCode F M O J hnm (fun r h q => ⟨r, rfl, q⟩) (fun _ _ _ q => q) _ _ _ w
theorem hC_X1_errorCode : yX1_errorCode.cls = RX1 ∧ yX1_errorCode.cls ≠ "java/lang/invoke/MethodHandle" ∧ yX1_errorCode.cls ≠ "java/lang/invoke/VarHandle" ∧ (parseMethodDescriptor yX1_errorCode.desc).map (fun d => d.parameters.length) = some 0 := by decide +kernel
/-! X1_errorPosition()I -/
def fC_X1_errorPosition (gk : Nat → Nat) (x0 : Option Nat) (Q : Int → jj_H → Prop) (E : String → Nat → jj_H → Prop) (h : jj_H) (k : Nat) : Prop :=
  jp_gi h x0 1 7 (fun g1 =>
  Q g1 h)
theorem sC_X1_errorPosition {X : jj_X} {N : Option jj_AV → jj_H → Prop} {XN : String → Nat → jj_H → Prop} (F : jj_F X RX1 cX1_errorPosition 1) (M : jj_M X (some (.int)) 0 0 N XN) (O : jj_no X) (J : jj_GJ X.1 X.2.2.1) (hi : X.2.2.2.2.2.2.2.2.2.1.name = yX1_errorPosition.name) {Q : Int → jj_H → Prop} {E : String → Nat → jj_H → Prop} (hQ : ∀ r h, Q r h → N (some (.inl r)) h) (hE : ∀ e q h, E e q h → XN e q h) (x0 : Option Nat) : ∀ (h : jj_H) (k : Nat), fC_X1_errorPosition (jj_gk X.1) x0 Q E h k → jj_J X 1 0 [(0, .inr (.inr (.inl x0)))] [] h k := by
  intro h k w
  unfold fC_X1_errorPosition at w
  refine jr_aload_n (pc := 0) F (j := 0) dX1_errorPosition_0 rfl ?_
  refine jr_gi (pc := 1) (ci := 1) (f := 7) F rfl in_X1 (Nat.le_of_ble_eq_true rfl) q633 dX1_errorPosition_1 w (fun g1 w => ?_)
  exact jr_iret (pc := 4) F M dX1_errorPosition_4 (hQ _ _ w)

theorem cC_X1_errorPosition {G : jj_G} {l : Launch} (J : jj_GJ G l) {x0 : Option Nat} {Q : Int → jj_H → Prop} {E : String → Nat → jj_H → Prop} {h : jj_H} {k : Nat} (w : fC_X1_errorPosition (jj_gk G) x0 Q E h k) : jj_Ct G l yX1_errorPosition (ws_ yX1_errorPosition cX1_errorPosition 1 (some (.int))) 0 0 [.inr (.inr (.inl x0))] h k (jc_i Q) E := by
  refine jj_Ct.of (jK_gs J).1 (by decide +kernel) (Nat.le_of_ble_eq_true rfl) rfl (fun X hG hl F M O hnm => ?_)
  subst hG; subst hl
  exact sC_X1_errorPosition F M O J hnm (fun r h q => ⟨r, rfl, q⟩) (fun _ _ _ q => q) _ _ _ w
theorem hC_X1_errorPosition : yX1_errorPosition.cls = RX1 ∧ yX1_errorPosition.cls ≠ "java/lang/invoke/MethodHandle" ∧ yX1_errorPosition.cls ≠ "java/lang/invoke/VarHandle" ∧ (parseMethodDescriptor yX1_errorPosition.desc).map (fun d => d.parameters.length) = some 0 := by decide +kernel
/-! X1_checkState(Z)V -/
def fC_X1_checkState (gk : Nat → Nat) (x0 : Int) (Q : jj_H → Prop) (E : String → Nat → jj_H → Prop) (h : jj_H) (k : Nat) : Prop :=
  jj_r x0 ∧ (¬ x0 = 0 → (
    Q h)) ∧
  (x0 = 0 → (
    2 ≤ k ∧ ∀ q9, E "java/lang/IllegalStateException" q9 h))
theorem sC_X1_checkState {X : jj_X} {N : Option jj_AV → jj_H → Prop} {XN : String → Nat → jj_H → Prop} (F : jj_F X RX1 cX1_checkState 1) (M : jj_M X (none) 6 89 N XN) (O : jj_no X) (J : jj_GJ X.1 X.2.2.1) (hi : X.2.2.2.2.2.2.2.2.2.1.name = yX1_checkState.name) {Q : jj_H → Prop} {E : String → Nat → jj_H → Prop} (hQ : ∀ h, Q h → N none h) (hE : ∀ e q h, E e q h → XN e q h) (x0 : Int) : ∀ (h : jj_H) (k : Nat), fC_X1_checkState (jj_gk X.1) x0 Q E h k → jj_J X 1 0 [(0, .inl x0)] [] h k := by
  intro h k w
  unfold fC_X1_checkState at w
  refine jr_iload_n (pc := 0) F (j := 0) dX1_checkState_0 rfl ?_
  obtain ⟨hx9, w1, w2⟩ := w
  refine jr_if_ne (pc := 1) (tgt := 12) F hx9 dX1_checkState_1 rfl (fun c9 => ?_) (fun c9 => ?_)
  · have w := w1 c9
    exact jr_vret (pc := 12) F M dX1_checkState_12 (hQ _ w)
  · have w := w2 c9
    exact jr_throw0 (pc := 4) F M (jK_zq J) (fun x9 hx9 => (O x9 hx9).elim) (cls := "java/lang/IllegalStateException") (names := ["java/lang/RuntimeException", "java/lang/Exception"]) (by decide +kernel) (by decide +kernel) q2607 q144 at_X1_12 og_X1_12 dX1_checkState_4 dX1_checkState_7 dX1_checkState_8 dX1_checkState_11 (Nat.le_of_ble_eq_true rfl) (Nat.le_of_ble_eq_true rfl) (Nat.le_of_ble_eq_true rfl) w.1 (fun q9 => hE _ _ _ (w.2 q9))

theorem cC_X1_checkState {G : jj_G} {l : Launch} (J : jj_GJ G l) {x0 : Int} {Q : jj_H → Prop} {E : String → Nat → jj_H → Prop} {h : jj_H} {k : Nat} (w : fC_X1_checkState (jj_gk G) x0 Q E h k) : jj_Ct G l yX1_checkState (ws_ yX1_checkState cX1_checkState 1 (none)) 6 89 [.inl x0] h k (jc_v Q) E := by
  refine jj_Ct.of (jK_gs J).1 (by decide +kernel) (Nat.le_of_ble_eq_true rfl) rfl (fun X hG hl F M O hnm => ?_)
  subst hG; subst hl
  exact sC_X1_checkState F M O J hnm (fun h q => ⟨rfl, q⟩) (fun _ _ _ q => q) _ _ _ w
theorem hC_X1_checkState : yX1_checkState.cls = RX1 ∧ yX1_checkState.cls ≠ "java/lang/invoke/MethodHandle" ∧ yX1_checkState.cls ≠ "java/lang/invoke/VarHandle" ∧ (parseMethodDescriptor yX1_checkState.desc).map (fun d => d.parameters.length) = some 1 := by decide +kernel
