set_option maxRecDepth 100000
/-! X2_init()V -/
def fC_X2_init (gk : Nat → Nat) (x0 : Option Nat) (Q : jj_H → Prop) (E : String → Nat → jj_H → Prop) (h : jj_H) (k : Nat) : Prop :=
  jp_so x0 ∧
  jp_nw h k 14 1 df_J2 (fun a1 h2 k3 =>
  jq_J2_init (some a1) 3 (fun h4 k5 =>
  jp_pr h4 x0 2 0 (some a1) (fun h6 =>
  jp_nw h6 k5 14 1 df_J2 (fun a7 h8 k9 =>
  jq_J2_init (some a7) 4 (fun h10 k11 =>
  jp_pr h10 x0 2 1 (some a7) (fun h12 =>
  jp_nw h12 k11 14 1 df_J2 (fun a13 h14 k15 =>
  jq_J2_init (some a13) 6 (fun h16 k17 =>
  jp_pr h16 x0 2 2 (some a13) (fun h18 =>
  jp_nw h18 k17 16 2 df_J19 (fun a19 h20 k21 =>
  jq_J19_init (some a19) (fun h22 k23 =>
  jp_pr h22 x0 2 3 (some a19) (fun h24 =>
  jp_pi h24 x0 2 5 50 (fun h25 =>
  Q h25))) h20 k21))) h14 k15))) h8 k9))) h2 k3)
theorem sC_X2_init {X : jj_X} {N : Option jj_AV → jj_H → Prop} {XN : String → Nat → jj_H → Prop} (F : jj_F X RX2 cX2_init 1) (M : jj_M X (none) 13 621 N XN) (O : jj_no X) (J : jj_GJ X.1 X.2.2.1) (hi : X.2.2.2.2.2.2.2.2.2.1.name = yX2_init.name) {Q : jj_H → Prop} {E : String → Nat → jj_H → Prop} (hQ : ∀ h, Q h → N none h) (hE : ∀ e q h, E e q h → XN e q h) (x0 : Option Nat) : ∀ (h : jj_H) (k : Nat), fC_X2_init (jj_gk X.1) x0 Q E h k → jj_J X 1 0 [(0, .inr (.inr (.inl x0)))] [] h k := by
  intro h k w
  unfold fC_X2_init at w
  refine jr_aload_n (pc := 0) F (j := 0) dX2_init_0 rfl ?_
  obtain ⟨ha9, w⟩ := w
  refine jr_objInitO (pc := 1) F M q199 q192 q193 ha9 (Nat.le_of_ble_eq_true rfl) (Nat.le_of_ble_eq_true rfl) (Nat.le_of_ble_eq_true rfl) dX2_init_1 ?_
  refine jr_aload_n (pc := 4) F (j := 0) dX2_init_4 rfl ?_
  refine jr_new (pc := 5) (ci := 14) F rfl in_J2 tyJ2_ok q200 q201 q124 dfo_J2 rfl ⟨by decide, by decide⟩ dX2_init_5 w (fun a1 h2 k3 w => ?_)
  refine jr_dup (pc := 8) F dX2_init_8 rfl ?_
  refine jr_iconst (pc := 9) F dX2_init_9 ?_
  refine jr_jI (pc := 10) (As := [_]) F M q202 q203 q124 q204 dX2_init_10 rfl hj_J2_init.2 rfl (Nat.le_of_ble_eq_true rfl) (Nat.le_of_ble_eq_true rfl) (Nat.le_of_ble_eq_true rfl) (jK_J2_init J _ _ _ _ _ w) (fun v9 h4 k5 q9 => ?_)
  obtain ⟨rfl, w⟩ := q9
  refine jr_prF (pc := 13) (ci := 2) (f := 0) F rfl in_X2 tyX2_ok nmX2 (Nat.le_of_ble_eq_true rfl) rfl rfl rfl hi q589 dX2_init_13 w (fun h6 w => ?_)
  refine jr_aload_n (pc := 16) F (j := 0) dX2_init_16 rfl ?_
  refine jr_new (pc := 17) (ci := 14) F rfl in_J2 tyJ2_ok q200 q201 q124 dfo_J2 rfl ⟨by decide, by decide⟩ dX2_init_17 w (fun a7 h8 k9 w => ?_)
  refine jr_dup (pc := 20) F dX2_init_20 rfl ?_
  refine jr_iconst (pc := 21) F dX2_init_21 ?_
  refine jr_jI (pc := 22) (As := [_]) F M q202 q203 q124 q204 dX2_init_22 rfl hj_J2_init.2 rfl (Nat.le_of_ble_eq_true rfl) (Nat.le_of_ble_eq_true rfl) (Nat.le_of_ble_eq_true rfl) (jK_J2_init J _ _ _ _ _ w) (fun v9 h10 k11 q9 => ?_)
  obtain ⟨rfl, w⟩ := q9
  refine jr_prF (pc := 25) (ci := 2) (f := 1) F rfl in_X2 tyX2_ok nmX2 (Nat.le_of_ble_eq_true rfl) rfl rfl rfl hi q593 dX2_init_25 w (fun h12 w => ?_)
  refine jr_aload_n (pc := 28) F (j := 0) dX2_init_28 rfl ?_
  refine jr_new (pc := 29) (ci := 14) F rfl in_J2 tyJ2_ok q200 q201 q124 dfo_J2 rfl ⟨by decide, by decide⟩ dX2_init_29 w (fun a13 h14 k15 w => ?_)
  refine jr_dup (pc := 32) F dX2_init_32 rfl ?_
  refine jr_bipush (pc := 33) F dX2_init_33 (by decide +kernel) ?_
  refine jr_jI (pc := 35) (As := [_]) F M q202 q203 q124 q204 dX2_init_35 rfl hj_J2_init.2 rfl (Nat.le_of_ble_eq_true rfl) (Nat.le_of_ble_eq_true rfl) (Nat.le_of_ble_eq_true rfl) (jK_J2_init J _ _ _ _ _ w) (fun v9 h16 k17 q9 => ?_)
  obtain ⟨rfl, w⟩ := q9
  refine jr_prF (pc := 38) (ci := 2) (f := 2) F rfl in_X2 tyX2_ok nmX2 (Nat.le_of_ble_eq_true rfl) rfl rfl rfl hi q597 dX2_init_38 w (fun h18 w => ?_)
  refine jr_aload_n (pc := 41) F (j := 0) dX2_init_41 rfl ?_
  refine jr_new (pc := 42) (ci := 16) F rfl in_J19 tyJ19_ok q551 q552 q142 dfo_J19 rfl ⟨by decide, by decide⟩ dX2_init_42 w (fun a19 h20 k21 w => ?_)
  refine jr_dup (pc := 45) F dX2_init_45 rfl ?_
  refine jr_jI (pc := 46) (As := []) F M q553 q554 q142 q555 dX2_init_46 rfl hj_J19_init.2 rfl (Nat.le_of_ble_eq_true rfl) (Nat.le_of_ble_eq_true rfl) (Nat.le_of_ble_eq_true rfl) (jK_J19_init J _ _ _ _ w) (fun v9 h22 k23 q9 => ?_)
  obtain ⟨rfl, w⟩ := q9
  refine jr_prF (pc := 49) (ci := 2) (f := 3) F rfl in_X2 tyX2_ok nmX2 (Nat.le_of_ble_eq_true rfl) rfl rfl rfl hi q600 dX2_init_49 w (fun h24 w => ?_)
  refine jr_aload_n (pc := 52) F (j := 0) dX2_init_52 rfl ?_
  refine jr_bipush (pc := 53) F dX2_init_53 (by decide +kernel) ?_
  refine jr_pi (pc := 55) (ci := 2) (f := 5) F rfl in_X2 tyX2_ok nmX2 (Nat.le_of_ble_eq_true rfl) rfl rfl q606 dX2_init_55 w (fun h25 w => ?_)
  exact jr_vret (pc := 58) F M dX2_init_58 (hQ _ w)

theorem cC_X2_init {G : jj_G} {l : Launch} (J : jj_GJ G l) {x0 : Option Nat} {Q : jj_H → Prop} {E : String → Nat → jj_H → Prop} {h : jj_H} {k : Nat} (w : fC_X2_init (jj_gk G) x0 Q E h k) : jj_Ct G l yX2_init (ws_ yX2_init cX2_init 1 (none)) 13 621 [.inr (.inr (.inl x0))] h k (jc_v Q) E := by
  refine jj_Ct.of (jK_gs J).1 (by decide +kernel) (Nat.le_of_ble_eq_true rfl) rfl (fun X hG hl F M O hnm => ?_)
  subst hG; subst hl
  exact sC_X2_init F M O J hnm (fun h q => ⟨rfl, q⟩) (fun _ _ _ q => q) _ _ _ w
theorem hC_X2_init : yX2_init.cls = RX2 ∧ yX2_init.cls ≠ "java/lang/invoke/MethodHandle" ∧ yX2_init.cls ≠ "java/lang/invoke/VarHandle" ∧ (parseMethodDescriptor yX2_init.desc).map (fun d => d.parameters.length) = some 0 := by decide +kernel
/-! X1_init()V -/
def fC_X1_init (gk : Nat → Nat) (x0 : Option Nat) (Q : jj_H → Prop) (E : String → Nat → jj_H → Prop) (h : jj_H) (k : Nat) : Prop :=
  jp_so x0 ∧
  jp_nw h k 2 2 df_X2 (fun a1 h2 k3 =>
  jp_so (some a1) ∧ ∃ c4, c4 ≤ k3 ∧ fC_X2_init gk (some a1) (fun h6 =>
  jp_pr h6 x0 1 0 (some a1) (fun h7 =>
  jp_nr h7 (k3 - c4) 1 2 (fun a8 h9 k10 =>
  jp_pr h9 x0 1 2 (some a8) (fun h11 =>
  jp_ni h11 k10 2 900 (fun a12 h13 k14 =>
  jp_pr h13 x0 1 3 (some a12) (fun h15 =>
  jp_nw h15 k14 26 1 df_J8 (fun a16 h17 k18 =>
  jq_J8_init (some a16) (fun h19 k20 =>
  jp_pr h19 x0 1 5 (some a16) (fun h21 =>
  jp_pi h21 x0 1 7 (-1) (fun h22 =>
  Q h22))) h17 k18))))))) E h2 c4)
theorem sC_X1_init {X : jj_X} {N : Option jj_AV → jj_H → Prop} {XN : String → Nat → jj_H → Prop} (F : jj_F X RX1 cX1_init 1) (M : jj_M X (none) 14 641 N XN) (O : jj_no X) (J : jj_GJ X.1 X.2.2.1) (hi : X.2.2.2.2.2.2.2.2.2.1.name = yX1_init.name) {Q : jj_H → Prop} {E : String → Nat → jj_H → Prop} (hQ : ∀ h, Q h → N none h) (hE : ∀ e q h, E e q h → XN e q h) (x0 : Option Nat) : ∀ (h : jj_H) (k : Nat), fC_X1_init (jj_gk X.1) x0 Q E h k → jj_J X 1 0 [(0, .inr (.inr (.inl x0)))] [] h k := by
  intro h k w
  unfold fC_X1_init at w
  refine jr_aload_n (pc := 0) F (j := 0) dX1_init_0 rfl ?_
  obtain ⟨ha9, w⟩ := w
  refine jr_objInitO (pc := 1) F M q191 q192 q193 ha9 (Nat.le_of_ble_eq_true rfl) (Nat.le_of_ble_eq_true rfl) (Nat.le_of_ble_eq_true rfl) dX1_init_1 ?_
  refine jr_aload_n (pc := 4) F (j := 0) dX1_init_4 rfl ?_
  refine jr_new (pc := 5) (ci := 2) F rfl in_X2 tyX2_ok q194 q195 q121 dfo_X2 rfl ⟨by decide, by decide⟩ dX1_init_5 w (fun a1 h2 k3 w => ?_)
  refine jr_dup (pc := 8) F dX1_init_8 rfl ?_
  obtain ⟨hi9, c4, hk9, w⟩ := w
  refine jr_cIN (pc := 9) (As := []) F M q196 q197 q121 q198 dX1_init_9 rfl hC_X2_init.2 rfl (Nat.le_of_ble_eq_true rfl) (Nat.le_of_ble_eq_true rfl) (Nat.le_of_ble_eq_true rfl) hi9 hk9 (cC_X2_init J w) (fun v9 h6 q9 => ?_) (fun E9 q9 h9 w9 => jr_out F M O (hE _ _ _ w9))
  obtain ⟨rfl, w⟩ := q9
  refine jr_pr (pc := 12) (ci := 1) (f := 0) F rfl in_X1 tyX1_ok nmX1 (Nat.le_of_ble_eq_true rfl) rfl rfl q625 dX1_init_12 w (fun h7 w => ?_)
  refine jr_aload_n (pc := 15) F (j := 0) dX1_init_15 rfl ?_
  refine jr_iconst (pc := 16) F dX1_init_16 ?_
  refine jr_newR (pc := 17) F (fun _ => rfl) q194 (jK_ao1 J) dX1_init_17 w (fun a8 h9 k10 w => ?_)
  refine jr_prF (pc := 20) (ci := 1) (f := 2) F rfl in_X1 tyX1_ok nmX1 (Nat.le_of_ble_eq_true rfl) rfl rfl rfl hi q627 dX1_init_20 w (fun h11 w => ?_)
  refine jr_aload_n (pc := 23) F (j := 0) dX1_init_23 rfl ?_
  refine jr_sipush (pc := 24) F dX1_init_24 (by decide +kernel) ?_
  refine jr_newB (pc := 27) F q294 dX1_init_27 w (fun a12 h13 k14 w => ?_)
  refine jr_prF (pc := 29) (ci := 1) (f := 3) F rfl in_X1 tyX1_ok nmX1 (Nat.le_of_ble_eq_true rfl) rfl rfl rfl hi q629 dX1_init_29 w (fun h15 w => ?_)
  refine jr_aload_n (pc := 32) F (j := 0) dX1_init_32 rfl ?_
  refine jr_new (pc := 33) (ci := 26) F rfl in_J8 tyJ8_ok q623 q263 q130 dfo_J8 rfl ⟨by decide, by decide⟩ dX1_init_33 w (fun a16 h17 k18 w => ?_)
  refine jr_dup (pc := 36) F dX1_init_36 rfl ?_
  refine jr_jI (pc := 37) (As := []) F M q624 q265 q130 q266 dX1_init_37 rfl hj_J8_init.2 rfl (Nat.le_of_ble_eq_true rfl) (Nat.le_of_ble_eq_true rfl) (Nat.le_of_ble_eq_true rfl) (jK_J8_init J _ _ _ _ w) (fun v9 h19 k20 q9 => ?_)
  obtain ⟨rfl, w⟩ := q9
  refine jr_prF (pc := 40) (ci := 1) (f := 5) F rfl in_X1 tyX1_ok nmX1 (Nat.le_of_ble_eq_true rfl) rfl rfl rfl hi q631 dX1_init_40 w (fun h21 w => ?_)
  refine jr_aload_n (pc := 43) F (j := 0) dX1_init_43 rfl ?_
  refine jr_iconst (pc := 44) F dX1_init_44 ?_
  refine jr_pi (pc := 45) (ci := 1) (f := 7) F rfl in_X1 tyX1_ok nmX1 (Nat.le_of_ble_eq_true rfl) rfl rfl q633 dX1_init_45 w (fun h22 w => ?_)
  exact jr_vret (pc := 48) F M dX1_init_48 (hQ _ w)

theorem cC_X1_init {G : jj_G} {l : Launch} (J : jj_GJ G l) {x0 : Option Nat} {Q : jj_H → Prop} {E : String → Nat → jj_H → Prop} {h : jj_H} {k : Nat} (w : fC_X1_init (jj_gk G) x0 Q E h k) : jj_Ct G l yX1_init (ws_ yX1_init cX1_init 1 (none)) 14 641 [.inr (.inr (.inl x0))] h k (jc_v Q) E := by
  refine jj_Ct.of (jK_gs J).1 (by decide +kernel) (Nat.le_of_ble_eq_true rfl) rfl (fun X hG hl F M O hnm => ?_)
  subst hG; subst hl
  exact sC_X1_init F M O J hnm (fun h q => ⟨rfl, q⟩) (fun _ _ _ q => q) _ _ _ w
theorem hC_X1_init : yX1_init.cls = RX1 ∧ yX1_init.cls ≠ "java/lang/invoke/MethodHandle" ∧ yX1_init.cls ≠ "java/lang/invoke/VarHandle" ∧ (parseMethodDescriptor yX1_init.desc).map (fun d => d.parameters.length) = some 0 := by decide +kernel
/-! X13_add(ILNoteImporter$Note;LNoteImporter$Anchor;I)V -/
def fC_X13_add_j86 (gk : Nat → Nat) (x0 : Option Nat) (x3 : Option Nat) (y0 : Option Nat) (y1 : Int) (Q : jj_H → Prop) (E : String → Nat → jj_H → Prop) (h : jj_H) (k : Nat) : Prop :=
  jp_pi h y0 7 3 y1 (fun h1 =>
  jp_gi h1 x0 7 4 (fun g2 =>
  jp_gi h1 x3 6 2 (fun g3 =>
  jj_r g2 ∧ jj_r g3 ∧
  jp_pi h1 x0 7 4 (max g2 g3) (fun h4 =>
  Q h4))))
def fC_X13_add_j48 (gk : Nat → Nat) (x0 : Option Nat) (x3 : Option Nat) (y0 : Option Nat) (y1 : Int) (Q : jj_H → Prop) (E : String → Nat → jj_H → Prop) (h : jj_H) (k : Nat) : Prop :=
  jp_pi h y0 7 5 y1 (fun h5 =>
  jp_gi h5 x3 6 0 (fun g6 =>
  jj_r g6 ∧ (g6 = 3 → (
    Q h5)) ∧
  (¬ g6 = 3 → (
    jp_gi h5 x0 7 3 (fun g7 =>
    jj_r g7 ∧ (¬ g7 = (-1) → (
      jp_gi h5 x0 7 3 (fun g8 =>
      jp_gi h5 x3 6 1 (fun g9 =>
      jj_r g8 ∧ jj_r g9 ∧
      fC_X13_add_j86 gk x0 x3 x0 (min g8 g9) Q E h5 k)))) ∧
    (g7 = (-1) → (
      jp_gi h5 x3 6 1 (fun g10 =>
      fC_X13_add_j86 gk x0 x3 x0 g10 Q E h5 k))))))))
def fC_X13_add (gk : Nat → Nat) (x0 : Option Nat) (x1 : Int) (x2 : Option Nat) (x3 : Option Nat) (x4 : Int) (Q : jj_H → Prop) (E : String → Nat → jj_H → Prop) (h : jj_H) (k : Nat) : Prop :=
  jp_gr h x0 7 1 (fun g11 =>
  jq_J17_valueOf gk x1 (fun r14 h12 k13 =>
  jq_J2_add g11 r14 (fun r17 h15 k16 =>
  jp_gi h15 x0 7 2 (fun g18 =>
  jp_gi h15 x2 4 0 (fun g19 =>
  jp_pi h15 x0 7 2 (jj_or g18 (jj_shl 1 g19)) (fun h20 =>
  jp_gr h20 x2 4 3 (fun g21 =>
  jq_J2_size g21 (fun r24 h22 k23 =>
  jj_r r24 ∧ jj_r x4 ∧ (r24 ≤ x4 → (
    jp_gi h22 x0 7 5 (fun g25 =>
    fC_X13_add_j48 gk x0 x3 x0 g25 Q E h22 k23))) ∧
  (¬ r24 ≤ x4 → (
    fC_X13_add_j48 gk x0 x3 x0 x1 Q E h22 k23))) h20 k16))))) h12 k13) h k)
theorem sC_X13_add_j86 {X : jj_X} {N : Option jj_AV → jj_H → Prop} {XN : String → Nat → jj_H → Prop} (F : jj_F X RX13 cX13_add 5) (M : jj_M X (none) 13 621 N XN) (O : jj_no X) (J : jj_GJ X.1 X.2.2.1) (hi : X.2.2.2.2.2.2.2.2.2.1.name = yX13_add.name) {Q : jj_H → Prop} {E : String → Nat → jj_H → Prop} (hQ : ∀ h, Q h → N none h) (hE : ∀ e q h, E e q h → XN e q h) (x0 : Option Nat) (x3 : Option Nat) (y0 : Option Nat) (y1 : Int) : ∀ (h : jj_H) (k : Nat), fC_X13_add_j86 (jj_gk X.1) x0 x3 y0 y1 Q E h k → jj_J X 5 86 [(0, .inr (.inr (.inl x0))), (3, .inr (.inr (.inl x3)))] [.inl y1, .inr (.inr (.inl y0))] h k := by
  intro h k w
  unfold fC_X13_add_j86 at w
  refine jr_pi (pc := 86) (ci := 7) (f := 3) F rfl in_X13 tyX13_ok nmX13 (Nat.le_of_ble_eq_true rfl) rfl rfl q797 dX13_add_86 w (fun h1 w => ?_)
  refine jr_aload_n (pc := 89) F (j := 0) dX13_add_89 rfl ?_
  refine jr_aload_n (pc := 90) F (j := 0) dX13_add_90 rfl ?_
  refine jr_gi (pc := 91) (ci := 7) (f := 4) F rfl in_X13 (Nat.le_of_ble_eq_true rfl) q801 dX13_add_91 w (fun g2 w => ?_)
  refine jr_aload_n (pc := 94) F (j := 1) dX13_add_94 rfl ?_
  refine jr_giN (pc := 95) (ci := 6) (f := 2) F rfl in_X12 (Nat.le_of_ble_eq_true rfl) q764 dX13_add_95 w (fun g3 w => ?_)
  obtain ⟨hx9, hy9, w⟩ := w
  refine jr_mmax (pc := 98) F M hx9 hy9 q1592 (Nat.le_of_ble_eq_true rfl) (Nat.le_of_ble_eq_true rfl) (Nat.le_of_ble_eq_true rfl) dX13_add_98 ?_
  refine jr_pi (pc := 101) (ci := 7) (f := 4) F rfl in_X13 tyX13_ok nmX13 (Nat.le_of_ble_eq_true rfl) rfl rfl q801 dX13_add_101 w (fun h4 w => ?_)
  exact jr_vret (pc := 104) F M dX13_add_104 (hQ _ w)

theorem sC_X13_add_j48 {X : jj_X} {N : Option jj_AV → jj_H → Prop} {XN : String → Nat → jj_H → Prop} (F : jj_F X RX13 cX13_add 5) (M : jj_M X (none) 13 621 N XN) (O : jj_no X) (J : jj_GJ X.1 X.2.2.1) (hi : X.2.2.2.2.2.2.2.2.2.1.name = yX13_add.name) {Q : jj_H → Prop} {E : String → Nat → jj_H → Prop} (hQ : ∀ h, Q h → N none h) (hE : ∀ e q h, E e q h → XN e q h) (x0 : Option Nat) (x3 : Option Nat) (y0 : Option Nat) (y1 : Int) : ∀ (h : jj_H) (k : Nat), fC_X13_add_j48 (jj_gk X.1) x0 x3 y0 y1 Q E h k → jj_J X 5 48 [(0, .inr (.inr (.inl x0))), (3, .inr (.inr (.inl x3)))] [.inl y1, .inr (.inr (.inl y0))] h k := by
  intro h k w
  unfold fC_X13_add_j48 at w
  refine jr_pi (pc := 48) (ci := 7) (f := 5) F rfl in_X13 tyX13_ok nmX13 (Nat.le_of_ble_eq_true rfl) rfl rfl q803 dX13_add_48 w (fun h5 w => ?_)
  refine jr_aload_n (pc := 51) F (j := 1) dX13_add_51 rfl ?_
  refine jr_giN (pc := 52) (ci := 6) (f := 0) F rfl in_X12 (Nat.le_of_ble_eq_true rfl) q757 dX13_add_52 w (fun g6 w => ?_)
  refine jr_iconst (pc := 55) F dX13_add_55 ?_
  obtain ⟨hx9, w1, w2⟩ := w
  refine jr_icmp_eq (pc := 56) (tgt := 104) F hx9 ⟨by decide, by decide⟩ dX13_add_56 rfl (fun c9 => ?_) (fun c9 => ?_)
  · have w := w1 c9
    exact jr_vret (pc := 104) F M dX13_add_104 (hQ _ w)
  · have w := w2 c9
    refine jr_aload_n (pc := 59) F (j := 0) dX13_add_59 rfl ?_
    refine jr_aload_n (pc := 60) F (j := 0) dX13_add_60 rfl ?_
    refine jr_gi (pc := 61) (ci := 7) (f := 3) F rfl in_X13 (Nat.le_of_ble_eq_true rfl) q797 dX13_add_61 w (fun g7 w => ?_)
    refine jr_iconst (pc := 64) F dX13_add_64 ?_
    obtain ⟨hx9, w1, w2⟩ := w
    refine jr_icmp_ne (pc := 65) (tgt := 75) F hx9 ⟨by decide, by decide⟩ dX13_add_65 rfl (fun c9 => ?_) (fun c9 => ?_)
    · have w := w1 c9
      refine jr_aload_n (pc := 75) F (j := 0) dX13_add_75 rfl ?_
      refine jr_gi (pc := 76) (ci := 7) (f := 3) F rfl in_X13 (Nat.le_of_ble_eq_true rfl) q797 dX13_add_76 w (fun g8 w => ?_)
      refine jr_aload_n (pc := 79) F (j := 1) dX13_add_79 rfl ?_
      refine jr_giN (pc := 80) (ci := 6) (f := 1) F rfl in_X12 (Nat.le_of_ble_eq_true rfl) q761 dX13_add_80 w (fun g9 w => ?_)
      obtain ⟨hx9, hy9, w⟩ := w
      refine jr_mmin (pc := 83) F M hx9 hy9 q1591 (Nat.le_of_ble_eq_true rfl) (Nat.le_of_ble_eq_true rfl) (Nat.le_of_ble_eq_true rfl) dX13_add_83 ?_
      exact sC_X13_add_j86 F M O J hi hQ hE _ _ _ _ _ _ w
    · have w := w2 c9
      refine jr_aload_n (pc := 68) F (j := 1) dX13_add_68 rfl ?_
      refine jr_giN (pc := 69) (ci := 6) (f := 1) F rfl in_X12 (Nat.le_of_ble_eq_true rfl) q761 dX13_add_69 w (fun g10 w => ?_)
      refine jr_goto (pc := 72) (tgt := 86) F dX13_add_72 rfl ?_
      exact sC_X13_add_j86 F M O J hi hQ hE _ _ _ _ _ _ w

theorem sC_X13_add {X : jj_X} {N : Option jj_AV → jj_H → Prop} {XN : String → Nat → jj_H → Prop} (F : jj_F X RX13 cX13_add 5) (M : jj_M X (none) 13 621 N XN) (O : jj_no X) (J : jj_GJ X.1 X.2.2.1) (hi : X.2.2.2.2.2.2.2.2.2.1.name = yX13_add.name) {Q : jj_H → Prop} {E : String → Nat → jj_H → Prop} (hQ : ∀ h, Q h → N none h) (hE : ∀ e q h, E e q h → XN e q h) (x0 : Option Nat) (x1 : Int) (x2 : Option Nat) (x3 : Option Nat) (x4 : Int) : ∀ (h : jj_H) (k : Nat), fC_X13_add (jj_gk X.1) x0 x1 x2 x3 x4 Q E h k → jj_J X 5 0 [(0, .inr (.inr (.inl x0))), (1, .inl x1), (2, .inr (.inr (.inl x2))), (3, .inr (.inr (.inl x3))), (4, .inl x4)] [] h k := by
  intro h k w
  unfold fC_X13_add at w
  refine jr_aload_n (pc := 0) F (j := 0) dX13_add_0 rfl ?_
  refine jr_gr (pc := 1) (ci := 7) (f := 1) F rfl in_X13 (Nat.le_of_ble_eq_true rfl) q793 dX13_add_1 w (fun g11 w => ?_)
  refine jr_iload_n (pc := 4) F (j := 1) dX13_add_4 rfl ?_
  refine jr_jS (pc := 5) (As := [_]) F M (lw_S q1588 q893 q140 q894) dX13_add_5 hj_J17_valueOf.2 rfl (Nat.le_of_ble_eq_true rfl) (Nat.le_of_ble_eq_true rfl) (Nat.le_of_ble_eq_true rfl) (jK_J17_valueOf J _ _ _ _ w) (fun v9 h12 k13 q9 => ?_)
  obtain ⟨r14, rfl, w⟩ := q9
  refine jr_jV (pc := 8) (As := [_]) (ci := 14) F M (lw_V q1589 q820 q821 q124 q822) dX13_add_8 hj_J2_add rfl (Nat.le_of_ble_eq_true rfl) (Nat.le_of_ble_eq_true rfl) (Nat.le_of_ble_eq_true rfl) rfl (jK_J2_add J _ _ _ _ _ w) (fun v9 h15 k16 q9 => ?_)
  obtain ⟨r17, rfl, w⟩ := q9
  refine jr_pop (pc := 11) F dX13_add_11 rfl ?_
  refine jr_aload_n (pc := 12) F (j := 0) dX13_add_12 rfl ?_
  refine jr_dup (pc := 13) F dX13_add_13 rfl ?_
  refine jr_gi (pc := 14) (ci := 7) (f := 2) F rfl in_X13 (Nat.le_of_ble_eq_true rfl) q795 dX13_add_14 w (fun g18 w => ?_)
  refine jr_iconst (pc := 17) F dX13_add_17 ?_
  refine jr_aload_n (pc := 18) F (j := 2) dX13_add_18 rfl ?_
  refine jr_giN (pc := 19) (ci := 4) (f := 0) F rfl in_X6 (Nat.le_of_ble_eq_true rfl) q2294 dX13_add_19 w (fun g19 w => ?_)
  refine jr_ishl (pc := 22) F dX13_add_22 ?_
  refine jr_ior (pc := 23) F dX13_add_23 ?_
  refine jr_pi (pc := 24) (ci := 7) (f := 2) F rfl in_X13 tyX13_ok nmX13 (Nat.le_of_ble_eq_true rfl) rfl rfl q795 dX13_add_24 w (fun h20 w => ?_)
  refine jr_aload_n (pc := 27) F (j := 0) dX13_add_27 rfl ?_
  refine jr_aload_n (pc := 28) F (j := 2) dX13_add_28 rfl ?_
  refine jr_grN (pc := 29) (ci := 4) (f := 3) F rfl in_X6 (Nat.le_of_ble_eq_true rfl) q2304 dX13_add_29 w (fun g21 w => ?_)
  refine jr_jV (pc := 32) (As := []) (ci := 14) F M (lw_V q1590 q676 q677 q124 q678) dX13_add_32 hj_J2_size rfl (Nat.le_of_ble_eq_true rfl) (Nat.le_of_ble_eq_true rfl) (Nat.le_of_ble_eq_true rfl) rfl (jK_J2_size J _ _ _ _ w) (fun v9 h22 k23 q9 => ?_)
  obtain ⟨r24, rfl, w⟩ := q9
  refine jr_iload (pc := 35) F (j := 4) dX13_add_35 rfl ?_
  obtain ⟨hx9, hy9, w1, w2⟩ := w
  refine jr_icmp_le (pc := 37) (tgt := 44) F hx9 hy9 dX13_add_37 rfl (fun c9 => ?_) (fun c9 => ?_)
  · have w := w1 c9
    refine jr_aload_n (pc := 44) F (j := 0) dX13_add_44 rfl ?_
    refine jr_gi (pc := 45) (ci := 7) (f := 5) F rfl in_X13 (Nat.le_of_ble_eq_true rfl) q803 dX13_add_45 w (fun g25 w => ?_)
    refine jj_J.sub [0, 3] rfl ?_
    exact sC_X13_add_j48 F M O J hi hQ hE _ _ _ _ _ _ w
  · have w := w2 c9
    refine jr_iload_n (pc := 40) F (j := 1) dX13_add_40 rfl ?_
    refine jr_goto (pc := 41) (tgt := 48) F dX13_add_41 rfl ?_
    refine jj_J.sub [0, 3] rfl ?_
    exact sC_X13_add_j48 F M O J hi hQ hE _ _ _ _ _ _ w

theorem cC_X13_add {G : jj_G} {l : Launch} (J : jj_GJ G l) {x0 : Option Nat} {x1 : Int} {x2 : Option Nat} {x3 : Option Nat} {x4 : Int} {Q : jj_H → Prop} {E : String → Nat → jj_H → Prop} {h : jj_H} {k : Nat} (w : fC_X13_add (jj_gk G) x0 x1 x2 x3 x4 Q E h k) : jj_Ct G l yX13_add (ws_ yX13_add cX13_add 5 (none)) 13 621 [.inr (.inr (.inl x0)), .inl x1, .inr (.inr (.inl x2)), .inr (.inr (.inl x3)), .inl x4] h k (jc_v Q) E := by
  refine jj_Ct.of (jK_gs J).1 (by decide +kernel) (Nat.le_of_ble_eq_true rfl) rfl (fun X hG hl F M O hnm => ?_)
  subst hG; subst hl
  exact sC_X13_add F M O J hnm (fun h q => ⟨rfl, q⟩) (fun _ _ _ q => q) _ _ _ _ _ _ _ w
theorem hC_X13_add : yX13_add.cls = RX13 ∧ yX13_add.cls ≠ "java/lang/invoke/MethodHandle" ∧ yX13_add.cls ≠ "java/lang/invoke/VarHandle" ∧ (parseMethodDescriptor yX13_add.desc).map (fun d => d.parameters.length) = some 4 := by decide +kernel
/-! X10_gather()V -/
def fC_X10_gather_l2 (gk : Nat → Nat) (x0 : Option Nat) (Q : jj_H → Prop) (E : String → Nat → jj_H → Prop) : Nat → Int → jj_H → Nat → Prop
  | 0, _, _, _ => False
  | n + 1, x1, h, k =>
  jp_gr h x0 8 0 (fun g1 =>
  jp_gr h g1 2 1 (fun g2 =>
  jq_J2_size g2 (fun r5 h3 k4 =>
  jj_r x1 ∧ jj_r r5 ∧ (r5 ≤ x1 → (
    Q h3)) ∧
  (¬ r5 ≤ x1 → (
    jp_gr h3 x0 8 4 (fun g6 =>
    jp_gr h3 x0 8 3 (fun g7 =>
    jp_al h3 g7 0 x1 (fun g8 =>
    jq_J2_get g6 g8 (fun r11 h9 k10 =>
    jp_is h9 r11 7 ∧
    jp_gr h9 x0 8 0 (fun g12 =>
    jp_gr h9 g12 2 1 (fun g13 =>
    jq_J2_get g13 x1 (fun r16 h14 k15 =>
    jp_is h14 r16 4 ∧
    jp_gr h14 x0 8 2 (fun g17 =>
    jp_rl h14 g17 3 x1 (fun g18 =>
    jp_gr h14 x0 8 0 (fun g19 =>
    jp_gr h14 g19 2 1 (fun g20 =>
    jp_gi h14 r11 7 5 (fun g21 =>
    jq_J2_get g20 g21 (fun r24 h22 k23 =>
    jp_is h22 r24 4 ∧
    jp_gr h22 r24 4 3 (fun g25 =>
    jq_J2_size g25 (fun r28 h26 k27 =>
    jp_is h26 r11 7 ∧ ∃ c29, c29 ≤ k27 ∧ fC_X13_add gk r11 x1 r16 g18 r28 (fun h31 =>
    ∀ v32, v32 = x1 + 1 →
    fC_X10_gather_l2 gk x0 Q E n v32 h31 (k27 - c29)) E h26 c29) h22 k23)) h14 k15)))))) h9 k10))) h3 k4)))))) h k))
def fC_X10_gather (gk : Nat → Nat) (x0 : Option Nat) (Q : jj_H → Prop) (E : String → Nat → jj_H → Prop) (h : jj_H) (k : Nat) : Prop :=
  ∃ n9, fC_X10_gather_l2 gk x0 Q E n9 0 h k
theorem sC_X10_gather_l2 {X : jj_X} {N : Option jj_AV → jj_H → Prop} {XN : String → Nat → jj_H → Prop} (F : jj_F X RX10 cX10_gather 3) (M : jj_M X (none) 14 645 N XN) (O : jj_no X) (J : jj_GJ X.1 X.2.2.1) (hi : X.2.2.2.2.2.2.2.2.2.1.name = yX10_gather.name) {Q : jj_H → Prop} {E : String → Nat → jj_H → Prop} (hQ : ∀ h, Q h → N none h) (hE : ∀ e q h, E e q h → XN e q h) (x0 : Option Nat) : ∀ (n : Nat) (x1 : Int) (h : jj_H) (k : Nat), fC_X10_gather_l2 (jj_gk X.1) x0 Q E n x1 h k → jj_J X 3 2 [(0, .inr (.inr (.inl x0))), (1, .inl x1)] [] h k := by
  intro n
  induction n with
  | zero =>
    intro x1 h k w
    exact (show False from w).elim
  | succ n ih =>
    intro x1 h k w
    rw [fC_X10_gather_l2] at w
    refine jr_iload_n (pc := 2) F (j := 1) dX10_gather_2 rfl ?_
    refine jr_aload_n (pc := 3) F (j := 0) dX10_gather_3 rfl ?_
    refine jr_gr (pc := 4) (ci := 8) (f := 0) F rfl in_X10 (Nat.le_of_ble_eq_true rfl) q1593 dX10_gather_4 w (fun g1 w => ?_)
    refine jr_grN (pc := 7) (ci := 2) (f := 1) F rfl in_X2 (Nat.le_of_ble_eq_true rfl) q594 dX10_gather_7 w (fun g2 w => ?_)
    refine jr_jV (pc := 10) (As := []) (ci := 14) F M (lw_V q675 q676 q677 q124 q678) dX10_gather_10 hj_J2_size rfl (Nat.le_of_ble_eq_true rfl) (Nat.le_of_ble_eq_true rfl) (Nat.le_of_ble_eq_true rfl) rfl (jK_J2_size J _ _ _ _ w) (fun v9 h3 k4 q9 => ?_)
    obtain ⟨r5, rfl, w⟩ := q9
    obtain ⟨hx9, hy9, w1, w2⟩ := w
    refine jr_icmp_ge (pc := 13) (tgt := 87) F hx9 hy9 dX10_gather_13 rfl (fun c9 => ?_) (fun c9 => ?_)
    · have w := w1 c9
      exact jr_vret (pc := 87) F M dX10_gather_87 (hQ _ w)
    · have w := w2 c9
      refine jr_aload_n (pc := 16) F (j := 0) dX10_gather_16 rfl ?_
      refine jr_gr (pc := 17) (ci := 8) (f := 4) F rfl in_X10 (Nat.le_of_ble_eq_true rfl) q1600 dX10_gather_17 w (fun g6 w => ?_)
      refine jr_aload_n (pc := 20) F (j := 0) dX10_gather_20 rfl ?_
      refine jr_gr (pc := 21) (ci := 8) (f := 3) F rfl in_X10 (Nat.le_of_ble_eq_true rfl) q1598 dX10_gather_21 w (fun g7 w => ?_)
      refine jr_iload_n (pc := 24) F (j := 1) dX10_gather_24 rfl ?_
      refine jr_iald (pc := 25) F dX10_gather_25 w (fun g8 w => ?_)
      refine jr_jV (pc := 26) (As := [_]) (ci := 14) F M (lw_V q680 q681 q682 q124 q683) dX10_gather_26 hj_J2_get rfl (Nat.le_of_ble_eq_true rfl) (Nat.le_of_ble_eq_true rfl) (Nat.le_of_ble_eq_true rfl) rfl (jK_J2_get J _ _ _ _ _ w) (fun v9 h9 k10 q9 => ?_)
      obtain ⟨r11, rfl, w⟩ := q9
      obtain ⟨hi9, w⟩ := w
      refine jr_cast (pc := 29) (ci := 7) F rfl q781 dX10_gather_29 hi9 ?_
      refine jr_astore_n (pc := 32) F (vs' := [(2, .inr (.inr (.inl _))), (0, .inr (.inr (.inl _))), (1, .inl _)]) dX10_gather_32 (Nat.le_of_ble_eq_true rfl) rfl ?_
      refine jr_aload_n (pc := 33) F (j := 0) dX10_gather_33 rfl ?_
      refine jr_iload_n (pc := 34) F (j := 2) dX10_gather_34 rfl ?_
      refine jr_aload_n (pc := 35) F (j := 1) dX10_gather_35 rfl ?_
      refine jr_gr (pc := 36) (ci := 8) (f := 0) F rfl in_X10 (Nat.le_of_ble_eq_true rfl) q1593 dX10_gather_36 w (fun g12 w => ?_)
      refine jr_grN (pc := 39) (ci := 2) (f := 1) F rfl in_X2 (Nat.le_of_ble_eq_true rfl) q594 dX10_gather_39 w (fun g13 w => ?_)
      refine jr_iload_n (pc := 42) F (j := 2) dX10_gather_42 rfl ?_
      refine jr_jV (pc := 43) (As := [_]) (ci := 14) F M (lw_V q680 q681 q682 q124 q683) dX10_gather_43 hj_J2_get rfl (Nat.le_of_ble_eq_true rfl) (Nat.le_of_ble_eq_true rfl) (Nat.le_of_ble_eq_true rfl) rfl (jK_J2_get J _ _ _ _ _ w) (fun v9 h14 k15 q9 => ?_)
      obtain ⟨r16, rfl, w⟩ := q9
      obtain ⟨hi9, w⟩ := w
      refine jr_cast (pc := 46) (ci := 4) F rfl q733 dX10_gather_46 hi9 ?_
      refine jr_aload_n (pc := 49) F (j := 1) dX10_gather_49 rfl ?_
      refine jr_gr (pc := 50) (ci := 8) (f := 2) F rfl in_X10 (Nat.le_of_ble_eq_true rfl) q1596 dX10_gather_50 w (fun g17 w => ?_)
      refine jr_iload_n (pc := 53) F (j := 2) dX10_gather_53 rfl ?_
      refine jr_aald (pc := 54) F ⟨7, _, fun _ => rfl⟩ dX10_gather_54 w (fun g18 w => ?_)
      refine jr_aload_n (pc := 55) F (j := 1) dX10_gather_55 rfl ?_
      refine jr_gr (pc := 56) (ci := 8) (f := 0) F rfl in_X10 (Nat.le_of_ble_eq_true rfl) q1593 dX10_gather_56 w (fun g19 w => ?_)
      refine jr_grN (pc := 59) (ci := 2) (f := 1) F rfl in_X2 (Nat.le_of_ble_eq_true rfl) q594 dX10_gather_59 w (fun g20 w => ?_)
      refine jr_aload_n (pc := 62) F (j := 0) dX10_gather_62 rfl ?_
      refine jr_giN (pc := 63) (ci := 7) (f := 5) F rfl in_X13 (Nat.le_of_ble_eq_true rfl) q804 dX10_gather_63 w (fun g21 w => ?_)
      refine jr_jV (pc := 66) (As := [_]) (ci := 14) F M (lw_V q680 q681 q682 q124 q683) dX10_gather_66 hj_J2_get rfl (Nat.le_of_ble_eq_true rfl) (Nat.le_of_ble_eq_true rfl) (Nat.le_of_ble_eq_true rfl) rfl (jK_J2_get J _ _ _ _ _ w) (fun v9 h22 k23 q9 => ?_)
      obtain ⟨r24, rfl, w⟩ := q9
      obtain ⟨hi9, w⟩ := w
      refine jr_cast (pc := 69) (ci := 4) F rfl q733 dX10_gather_69 hi9 ?_
      refine jr_grN (pc := 72) (ci := 4) (f := 3) F rfl in_X6 (Nat.le_of_ble_eq_true rfl) q2305 dX10_gather_72 w (fun g25 w => ?_)
      refine jr_jV (pc := 75) (As := []) (ci := 14) F M (lw_V q675 q676 q677 q124 q678) dX10_gather_75 hj_J2_size rfl (Nat.le_of_ble_eq_true rfl) (Nat.le_of_ble_eq_true rfl) (Nat.le_of_ble_eq_true rfl) rfl (jK_J2_size J _ _ _ _ w) (fun v9 h26 k27 q9 => ?_)
      obtain ⟨r28, rfl, w⟩ := q9
      obtain ⟨hi9, c29, hk9, w⟩ := w
      refine jr_cV (pc := 78) (As := [_, _, _, _]) (ci := 7) F M (lw_V q1584 q1585 q1586 q180 q1587) dX10_gather_78 hC_X13_add rfl (Nat.le_of_ble_eq_true rfl) (Nat.le_of_ble_eq_true rfl) (Nat.le_of_ble_eq_true rfl) rfl hi9 hk9 (cC_X13_add J w) (fun v9 h31 q9 => ?_) (fun E9 q9 h9 w9 => jr_out F M O (hE _ _ _ w9))
      obtain ⟨rfl, w⟩ := q9
      have w := w _ rfl
      refine jr_iinc (pc := 81) F (j := 2) (vs' := [(1, .inl _), (2, .inr (.inr (.inl _))), (0, .inr (.inr (.inl _)))]) dX10_gather_81 rfl rfl (Nat.le_of_ble_eq_true rfl) rfl ?_
      refine jr_goto (pc := 84) (tgt := 2) F dX10_gather_84 rfl ?_
      refine jj_J.sub [2, 0] rfl ?_
      exact ih _ _ _ w

theorem sC_X10_gather {X : jj_X} {N : Option jj_AV → jj_H → Prop} {XN : String → Nat → jj_H → Prop} (F : jj_F X RX10 cX10_gather 3) (M : jj_M X (none) 14 645 N XN) (O : jj_no X) (J : jj_GJ X.1 X.2.2.1) (hi : X.2.2.2.2.2.2.2.2.2.1.name = yX10_gather.name) {Q : jj_H → Prop} {E : String → Nat → jj_H → Prop} (hQ : ∀ h, Q h → N none h) (hE : ∀ e q h, E e q h → XN e q h) (x0 : Option Nat) : ∀ (h : jj_H) (k : Nat), fC_X10_gather (jj_gk X.1) x0 Q E h k → jj_J X 3 0 [(0, .inr (.inr (.inl x0)))] [] h k := by
  intro h k w
  unfold fC_X10_gather at w
  refine jr_iconst (pc := 0) F dX10_gather_0 ?_
  refine jr_istore_n (pc := 1) F (vs' := [(1, .inl _), (0, .inr (.inr (.inl _)))]) dX10_gather_1 (Nat.le_of_ble_eq_true rfl) rfl ?_
  refine jj_J.sub [1, 0] rfl ?_
  obtain ⟨n9, w⟩ := w
  exact sC_X10_gather_l2 F M O J hi hQ hE _ n9 _ _ _ w

theorem cC_X10_gather {G : jj_G} {l : Launch} (J : jj_GJ G l) {x0 : Option Nat} {Q : jj_H → Prop} {E : String → Nat → jj_H → Prop} {h : jj_H} {k : Nat} (w : fC_X10_gather (jj_gk G) x0 Q E h k) : jj_Ct G l yX10_gather (ws_ yX10_gather cX10_gather 3 (none)) 14 645 [.inr (.inr (.inl x0))] h k (jc_v Q) E := by
  refine jj_Ct.of (jK_gs J).1 (by decide +kernel) (Nat.le_of_ble_eq_true rfl) rfl (fun X hG hl F M O hnm => ?_)
  subst hG; subst hl
  exact sC_X10_gather F M O J hnm (fun h q => ⟨rfl, q⟩) (fun _ _ _ q => q) _ _ _ w
theorem hC_X10_gather : yX10_gather.cls = RX10 ∧ yX10_gather.cls ≠ "java/lang/invoke/MethodHandle" ∧ yX10_gather.cls ≠ "java/lang/invoke/VarHandle" ∧ (parseMethodDescriptor yX10_gather.desc).map (fun d => d.parameters.length) = some 0 := by decide +kernel
/-! X10_areTextsAlike(Ljava/util/HashSet;Ljava/util/HashSet;)Z -/
def fC_X10_areTextsAlike_l8 (gk : Nat → Nat) (x0 : Option Nat) (x1 : Option Nat) (x2 : Option Nat) (x4 : Option Nat) (Q : Int → jj_H → Prop) (E : String → Nat → jj_H → Prop) : Nat → Int → jj_H → Nat → Prop
  | 0, _, _, _ => False
  | n + 1, x3, h, k =>
  jq_J24_hasNext x4 (fun r3 h1 k2 =>
  jj_r r3 ∧ (r3 = 0 → (
    jp_gr h1 x0 8 0 (fun g4 =>
    jp_gi h1 g4 2 5 (fun g5 =>
    jq_J33_size x1 (fun r8 h6 k7 =>
    jq_J33_size x2 (fun r11 h9 k10 =>
    jj_r (100 * x3) ∧ jj_r (g5 * ((r8 + r11) - x3)) ∧ ((100 * x3) < (g5 * ((r8 + r11) - x3)) → (
      Q 0 h9)) ∧
    (¬ (100 * x3) < (g5 * ((r8 + r11) - x3)) → (
      Q 1 h9))) h6 k7) h1 k2)))) ∧
  (¬ r3 = 0 → (
    jq_J25_next x4 (fun r14 h12 k13 =>
    jp_is h12 r14 25 ∧
    jq_J33_contains x2 r14 (fun r17 h15 k16 =>
    jj_r r17 ∧ (r17 = 0 → (
      ∀ v18, v18 = x3 + 0 →
      fC_X10_areTextsAlike_l8 gk x0 x1 x2 x4 Q E n v18 h15 k16)) ∧
    (¬ r17 = 0 → (
      ∀ v19, v19 = x3 + 1 →
      fC_X10_areTextsAlike_l8 gk x0 x1 x2 x4 Q E n v19 h15 k16))) h12 k13) h1 k2))) h k
def fC_X10_areTextsAlike (gk : Nat → Nat) (x0 : Option Nat) (x1 : Option Nat) (x2 : Option Nat) (Q : Int → jj_H → Prop) (E : String → Nat → jj_H → Prop) (h : jj_H) (k : Nat) : Prop :=
  jq_J33_iterator x1 (fun r22 h20 k21 =>
  ∃ n9, fC_X10_areTextsAlike_l8 gk x0 x1 x2 r22 Q E n9 0 h20 k21) h k
theorem sC_X10_areTextsAlike_l8 {X : jj_X} {N : Option jj_AV → jj_H → Prop} {XN : String → Nat → jj_H → Prop} (F : jj_F X RX10 cX10_areTextsAlike 6) (M : jj_M X (some (.boolean)) 13 621 N XN) (O : jj_no X) (J : jj_GJ X.1 X.2.2.1) (hi : X.2.2.2.2.2.2.2.2.2.1.name = yX10_areTextsAlike.name) {Q : Int → jj_H → Prop} {E : String → Nat → jj_H → Prop} (hQ : ∀ r h, Q r h → N (some (.inl r)) h) (hE : ∀ e q h, E e q h → XN e q h) (x0 : Option Nat) (x1 : Option Nat) (x2 : Option Nat) (x4 : Option Nat) : ∀ (n : Nat) (x3 : Int) (h : jj_H) (k : Nat), fC_X10_areTextsAlike_l8 (jj_gk X.1) x0 x1 x2 x4 Q E n x3 h k → jj_J X 6 8 [(0, .inr (.inr (.inl x0))), (1, .inr (.inr (.inl x1))), (2, .inr (.inr (.inl x2))), (3, .inl x3), (4, .inr (.inr (.inl x4)))] [] h k := by
  intro n
  induction n with
  | zero =>
    intro x3 h k w
    exact (show False from w).elim
  | succ n ih =>
    intro x3 h k w
    rw [fC_X10_areTextsAlike_l8] at w
    refine jr_aload (pc := 8) F (j := 4) dX10_areTextsAlike_8 rfl ?_
    refine jr_jF (pc := 10) (As := []) (ci := 19) F M (fw_J24_hasNext q1071) (jK_f_J24_hasNext J) dX10_areTextsAlike_10 (by decide +kernel) rfl (Nat.le_of_ble_eq_true rfl) (Nat.le_of_ble_eq_true rfl) (Nat.le_of_ble_eq_true rfl) rfl (jK_J24_hasNext J _ _ _ _ w) (fun v9 h1 k2 q9 => ?_)
    obtain ⟨r3, rfl, w⟩ := q9
    obtain ⟨hx9, w1, w2⟩ := w
    refine jr_if_eq (pc := 15) (tgt := 50) F hx9 dX10_areTextsAlike_15 rfl (fun c9 => ?_) (fun c9 => ?_)
    · have w := w1 c9
      refine jr_bipush (pc := 50) F dX10_areTextsAlike_50 (by decide +kernel) ?_
      refine jr_iload_n (pc := 52) F (j := 3) dX10_areTextsAlike_52 rfl ?_
      refine jr_imul (pc := 53) F dX10_areTextsAlike_53 ?_
      refine jr_aload_n (pc := 54) F (j := 0) dX10_areTextsAlike_54 rfl ?_
      refine jr_gr (pc := 55) (ci := 8) (f := 0) F rfl in_X10 (Nat.le_of_ble_eq_true rfl) q1593 dX10_areTextsAlike_55 w (fun g4 w => ?_)
      refine jr_giN (pc := 58) (ci := 2) (f := 5) F rfl in_X2 (Nat.le_of_ble_eq_true rfl) q607 dX10_areTextsAlike_58 w (fun g5 w => ?_)
      refine jr_aload_n (pc := 61) F (j := 1) dX10_areTextsAlike_61 rfl ?_
      refine jr_jV (pc := 62) (As := []) (ci := 20) F M (lw_V q1572 q1573 q1574 q160 q1575) dX10_areTextsAlike_62 hj_J33_size rfl (Nat.le_of_ble_eq_true rfl) (Nat.le_of_ble_eq_true rfl) (Nat.le_of_ble_eq_true rfl) rfl (jK_J33_size J _ _ _ _ w) (fun v9 h6 k7 q9 => ?_)
      obtain ⟨r8, rfl, w⟩ := q9
      refine jr_aload_n (pc := 65) F (j := 2) dX10_areTextsAlike_65 rfl ?_
      refine jr_jV (pc := 66) (As := []) (ci := 20) F M (lw_V q1572 q1573 q1574 q160 q1575) dX10_areTextsAlike_66 hj_J33_size rfl (Nat.le_of_ble_eq_true rfl) (Nat.le_of_ble_eq_true rfl) (Nat.le_of_ble_eq_true rfl) rfl (jK_J33_size J _ _ _ _ w) (fun v9 h9 k10 q9 => ?_)
      obtain ⟨r11, rfl, w⟩ := q9
      refine jr_iadd (pc := 69) F dX10_areTextsAlike_69 ?_
      refine jr_iload_n (pc := 70) F (j := 3) dX10_areTextsAlike_70 rfl ?_
      refine jr_isub (pc := 71) F dX10_areTextsAlike_71 ?_
      refine jr_imul (pc := 72) F dX10_areTextsAlike_72 ?_
      obtain ⟨hx9, hy9, w1, w2⟩ := w
      refine jr_icmp_lt (pc := 73) (tgt := 80) F hx9 hy9 dX10_areTextsAlike_73 rfl (fun c9 => ?_) (fun c9 => ?_)
      · have w := w1 c9
        refine jr_iconst (pc := 80) F dX10_areTextsAlike_80 ?_
        exact jr_zret (pc := 81) F M dX10_areTextsAlike_81 (by decide) (hQ _ _ w)
      · have w := w2 c9
        refine jr_iconst (pc := 76) F dX10_areTextsAlike_76 ?_
        refine jr_goto (pc := 77) (tgt := 81) F dX10_areTextsAlike_77 rfl ?_
        exact jr_zret (pc := 81) F M dX10_areTextsAlike_81 (by decide) (hQ _ _ w)
    · have w := w2 c9
      refine jr_aload (pc := 18) F (j := 4) dX10_areTextsAlike_18 rfl ?_
      refine jr_jF (pc := 20) (As := []) (ci := 19) F M (fw_J25_next q1103) (jK_f_J25_next J) dX10_areTextsAlike_20 (by decide +kernel) rfl (Nat.le_of_ble_eq_true rfl) (Nat.le_of_ble_eq_true rfl) (Nat.le_of_ble_eq_true rfl) rfl (jK_J25_next J _ _ _ _ w) (fun v9 h12 k13 q9 => ?_)
      obtain ⟨r14, rfl, w⟩ := q9
      obtain ⟨hi9, w⟩ := w
      refine jr_cast (pc := 25) (ci := 25) F rfl q1159 dX10_areTextsAlike_25 hi9 ?_
      refine jr_astore (pc := 28) F (vs' := [(5, .inr (.inr (.inl _))), (0, .inr (.inr (.inl _))), (1, .inr (.inr (.inl _))), (2, .inr (.inr (.inl _))), (3, .inl _), (4, .inr (.inr (.inl _)))]) dX10_areTextsAlike_28 (Nat.le_of_ble_eq_true rfl) rfl ?_
      refine jr_iload_n (pc := 30) F (j := 4) dX10_areTextsAlike_30 rfl ?_
      refine jr_aload_n (pc := 31) F (j := 3) dX10_areTextsAlike_31 rfl ?_
      refine jr_aload (pc := 32) F (j := 0) dX10_areTextsAlike_32 rfl ?_
      refine jr_jV (pc := 34) (As := [_]) (ci := 20) F M (lw_V q1160 q1161 q1162 q160 q1163) dX10_areTextsAlike_34 hj_J33_contains rfl (Nat.le_of_ble_eq_true rfl) (Nat.le_of_ble_eq_true rfl) (Nat.le_of_ble_eq_true rfl) rfl (jK_J33_contains J _ _ _ _ _ w) (fun v9 h15 k16 q9 => ?_)
      obtain ⟨r17, rfl, w⟩ := q9
      obtain ⟨hx9, w1, w2⟩ := w
      refine jr_if_eq (pc := 37) (tgt := 44) F hx9 dX10_areTextsAlike_37 rfl (fun c9 => ?_) (fun c9 => ?_)
      · have w := w1 c9
        refine jr_iconst (pc := 44) F dX10_areTextsAlike_44 ?_
        refine jr_iadd (pc := 45) F dX10_areTextsAlike_45 ?_
        have w := w _ rfl
        refine jr_istore_n (pc := 46) F (vs' := [(3, .inl _), (5, .inr (.inr (.inl _))), (0, .inr (.inr (.inl _))), (1, .inr (.inr (.inl _))), (2, .inr (.inr (.inl _))), (4, .inr (.inr (.inl _)))]) dX10_areTextsAlike_46 (Nat.le_of_ble_eq_true rfl) rfl ?_
        refine jr_goto (pc := 47) (tgt := 8) F dX10_areTextsAlike_47 rfl ?_
        refine jj_J.sub [2, 3, 4, 0, 5] rfl ?_
        exact ih _ _ _ w
      · have w := w2 c9
        refine jr_iconst (pc := 40) F dX10_areTextsAlike_40 ?_
        refine jr_goto (pc := 41) (tgt := 45) F dX10_areTextsAlike_41 rfl ?_
        refine jr_iadd (pc := 45) F dX10_areTextsAlike_45 ?_
        have w := w _ rfl
        refine jr_istore_n (pc := 46) F (vs' := [(3, .inl _), (5, .inr (.inr (.inl _))), (0, .inr (.inr (.inl _))), (1, .inr (.inr (.inl _))), (2, .inr (.inr (.inl _))), (4, .inr (.inr (.inl _)))]) dX10_areTextsAlike_46 (Nat.le_of_ble_eq_true rfl) rfl ?_
        refine jr_goto (pc := 47) (tgt := 8) F dX10_areTextsAlike_47 rfl ?_
        refine jj_J.sub [2, 3, 4, 0, 5] rfl ?_
        exact ih _ _ _ w

theorem sC_X10_areTextsAlike {X : jj_X} {N : Option jj_AV → jj_H → Prop} {XN : String → Nat → jj_H → Prop} (F : jj_F X RX10 cX10_areTextsAlike 6) (M : jj_M X (some (.boolean)) 13 621 N XN) (O : jj_no X) (J : jj_GJ X.1 X.2.2.1) (hi : X.2.2.2.2.2.2.2.2.2.1.name = yX10_areTextsAlike.name) {Q : Int → jj_H → Prop} {E : String → Nat → jj_H → Prop} (hQ : ∀ r h, Q r h → N (some (.inl r)) h) (hE : ∀ e q h, E e q h → XN e q h) (x0 : Option Nat) (x1 : Option Nat) (x2 : Option Nat) : ∀ (h : jj_H) (k : Nat), fC_X10_areTextsAlike (jj_gk X.1) x0 x1 x2 Q E h k → jj_J X 6 0 [(0, .inr (.inr (.inl x0))), (1, .inr (.inr (.inl x1))), (2, .inr (.inr (.inl x2)))] [] h k := by
  intro h k w
  unfold fC_X10_areTextsAlike at w
  refine jr_iconst (pc := 0) F dX10_areTextsAlike_0 ?_
  refine jr_istore_n (pc := 1) F (vs' := [(3, .inl _), (0, .inr (.inr (.inl _))), (1, .inr (.inr (.inl _))), (2, .inr (.inr (.inl _)))]) dX10_areTextsAlike_1 (Nat.le_of_ble_eq_true rfl) rfl ?_
  refine jr_aload_n (pc := 2) F (j := 2) dX10_areTextsAlike_2 rfl ?_
  refine jr_jV (pc := 3) (As := []) (ci := 20) F M (lw_V q935 q936 q937 q160 q938) dX10_areTextsAlike_3 hj_J33_iterator rfl (Nat.le_of_ble_eq_true rfl) (Nat.le_of_ble_eq_true rfl) (Nat.le_of_ble_eq_true rfl) rfl (jK_J33_iterator J _ _ _ _ w) (fun v9 h20 k21 q9 => ?_)
  obtain ⟨r22, rfl, w⟩ := q9
  refine jr_astore (pc := 6) F (vs' := [(4, .inr (.inr (.inl _))), (3, .inl _), (0, .inr (.inr (.inl _))), (1, .inr (.inr (.inl _))), (2, .inr (.inr (.inl _)))]) dX10_areTextsAlike_6 (Nat.le_of_ble_eq_true rfl) rfl ?_
  refine jj_J.sub [2, 3, 4, 1, 0] rfl ?_
  obtain ⟨n9, w⟩ := w
  exact sC_X10_areTextsAlike_l8 F M O J hi hQ hE _ _ _ _ n9 _ _ _ w

theorem cC_X10_areTextsAlike {G : jj_G} {l : Launch} (J : jj_GJ G l) {x0 : Option Nat} {x1 : Option Nat} {x2 : Option Nat} {Q : Int → jj_H → Prop} {E : String → Nat → jj_H → Prop} {h : jj_H} {k : Nat} (w : fC_X10_areTextsAlike (jj_gk G) x0 x1 x2 Q E h k) : jj_Ct G l yX10_areTextsAlike (ws_ yX10_areTextsAlike cX10_areTextsAlike 6 (some (.boolean))) 13 621 [.inr (.inr (.inl x0)), .inr (.inr (.inl x1)), .inr (.inr (.inl x2))] h k (jc_i Q) E := by
  refine jj_Ct.of (jK_gs J).1 (by decide +kernel) (Nat.le_of_ble_eq_true rfl) rfl (fun X hG hl F M O hnm => ?_)
  subst hG; subst hl
  exact sC_X10_areTextsAlike F M O J hnm (fun r h q => ⟨r, rfl, q⟩) (fun _ _ _ q => q) _ _ _ _ _ w
theorem hC_X10_areTextsAlike : yX10_areTextsAlike.cls = RX10 ∧ yX10_areTextsAlike.cls ≠ "java/lang/invoke/MethodHandle" ∧ yX10_areTextsAlike.cls ≠ "java/lang/invoke/VarHandle" ∧ (parseMethodDescriptor yX10_areTextsAlike.desc).map (fun d => d.parameters.length) = some 2 := by decide +kernel
/-! X12_length()I -/
def fC_X12_length (gk : Nat → Nat) (x0 : Option Nat) (Q : Int → jj_H → Prop) (E : String → Nat → jj_H → Prop) (h : jj_H) (k : Nat) : Prop :=
  jp_gi h x0 6 2 (fun g1 =>
  jp_gi h x0 6 1 (fun g2 =>
  Q ((g1 - g2) + 1) h))
theorem sC_X12_length {X : jj_X} {N : Option jj_AV → jj_H → Prop} {XN : String → Nat → jj_H → Prop} (F : jj_F X RX12 cX12_length 1) (M : jj_M X (some (.int)) 0 0 N XN) (O : jj_no X) (J : jj_GJ X.1 X.2.2.1) (hi : X.2.2.2.2.2.2.2.2.2.1.name = yX12_length.name) {Q : Int → jj_H → Prop} {E : String → Nat → jj_H → Prop} (hQ : ∀ r h, Q r h → N (some (.inl r)) h) (hE : ∀ e q h, E e q h → XN e q h) (x0 : Option Nat) : ∀ (h : jj_H) (k : Nat), fC_X12_length (jj_gk X.1) x0 Q E h k → jj_J X 1 0 [(0, .inr (.inr (.inl x0)))] [] h k := by
  intro h k w
  unfold fC_X12_length at w
  refine jr_aload_n (pc := 0) F (j := 0) dX12_length_0 rfl ?_
  refine jr_gi (pc := 1) (ci := 6) (f := 2) F rfl in_X12 (Nat.le_of_ble_eq_true rfl) q763 dX12_length_1 w (fun g1 w => ?_)
  refine jr_aload_n (pc := 4) F (j := 0) dX12_length_4 rfl ?_
  refine jr_gi (pc := 5) (ci := 6) (f := 1) F rfl in_X12 (Nat.le_of_ble_eq_true rfl) q760 dX12_length_5 w (fun g2 w => ?_)
  refine jr_isub (pc := 8) F dX12_length_8 ?_
  refine jr_iconst (pc := 9) F dX12_length_9 ?_
  refine jr_iadd (pc := 10) F dX12_length_10 ?_
  exact jr_iret (pc := 11) F M dX12_length_11 (hQ _ _ w)

theorem cC_X12_length {G : jj_G} {l : Launch} (J : jj_GJ G l) {x0 : Option Nat} {Q : Int → jj_H → Prop} {E : String → Nat → jj_H → Prop} {h : jj_H} {k : Nat} (w : fC_X12_length (jj_gk G) x0 Q E h k) : jj_Ct G l yX12_length (ws_ yX12_length cX12_length 1 (some (.int))) 0 0 [.inr (.inr (.inl x0))] h k (jc_i Q) E := by
  refine jj_Ct.of (jK_gs J).1 (by decide +kernel) (Nat.le_of_ble_eq_true rfl) rfl (fun X hG hl F M O hnm => ?_)
  subst hG; subst hl
  exact sC_X12_length F M O J hnm (fun r h q => ⟨r, rfl, q⟩) (fun _ _ _ q => q) _ _ _ w
theorem hC_X12_length : yX12_length.cls = RX12 ∧ yX12_length.cls ≠ "java/lang/invoke/MethodHandle" ∧ yX12_length.cls ≠ "java/lang/invoke/VarHandle" ∧ (parseMethodDescriptor yX12_length.desc).map (fun d => d.parameters.length) = some 0 := by decide +kernel
/-! X12_shared(LNoteImporter$Anchor;)I -/
def fC_X12_shared (gk : Nat → Nat) (x0 : Option Nat) (x1 : Option Nat) (Q : Int → jj_H → Prop) (E : String → Nat → jj_H → Prop) (h : jj_H) (k : Nat) : Prop :=
  jp_gi h x0 6 2 (fun g1 =>
  jp_gi h x1 6 2 (fun g2 =>
  jj_r g1 ∧ jj_r g2 ∧
  jp_gi h x0 6 1 (fun g3 =>
  jp_gi h x1 6 1 (fun g4 =>
  jj_r g3 ∧ jj_r g4 ∧
  jj_r (((min g1 g2) - (max g3 g4)) + 1) ∧
  Q (max 0 (((min g1 g2) - (max g3 g4)) + 1)) h))))
theorem sC_X12_shared {X : jj_X} {N : Option jj_AV → jj_H → Prop} {XN : String → Nat → jj_H → Prop} (F : jj_F X RX12 cX12_shared 2) (M : jj_M X (some (.int)) 1 21 N XN) (O : jj_no X) (J : jj_GJ X.1 X.2.2.1) (hi : X.2.2.2.2.2.2.2.2.2.1.name = yX12_shared.name) {Q : Int → jj_H → Prop} {E : String → Nat → jj_H → Prop} (hQ : ∀ r h, Q r h → N (some (.inl r)) h) (hE : ∀ e q h, E e q h → XN e q h) (x0 : Option Nat) (x1 : Option Nat) : ∀ (h : jj_H) (k : Nat), fC_X12_shared (jj_gk X.1) x0 x1 Q E h k → jj_J X 2 0 [(0, .inr (.inr (.inl x0))), (1, .inr (.inr (.inl x1)))] [] h k := by
  intro h k w
  unfold fC_X12_shared at w
  refine jr_iconst (pc := 0) F dX12_shared_0 ?_
  refine jr_aload_n (pc := 1) F (j := 0) dX12_shared_1 rfl ?_
  refine jr_gi (pc := 2) (ci := 6) (f := 2) F rfl in_X12 (Nat.le_of_ble_eq_true rfl) q763 dX12_shared_2 w (fun g1 w => ?_)
  refine jr_aload_n (pc := 5) F (j := 1) dX12_shared_5 rfl ?_
  refine jr_gi (pc := 6) (ci := 6) (f := 2) F rfl in_X12 (Nat.le_of_ble_eq_true rfl) q763 dX12_shared_6 w (fun g2 w => ?_)
  obtain ⟨hx9, hy9, w⟩ := w
  refine jr_mmin (pc := 9) F M hx9 hy9 q925 (Nat.le_of_ble_eq_true rfl) (Nat.le_of_ble_eq_true rfl) (Nat.le_of_ble_eq_true rfl) dX12_shared_9 ?_
  refine jr_aload_n (pc := 12) F (j := 0) dX12_shared_12 rfl ?_
  refine jr_gi (pc := 13) (ci := 6) (f := 1) F rfl in_X12 (Nat.le_of_ble_eq_true rfl) q760 dX12_shared_13 w (fun g3 w => ?_)
  refine jr_aload_n (pc := 16) F (j := 1) dX12_shared_16 rfl ?_
  refine jr_gi (pc := 17) (ci := 6) (f := 1) F rfl in_X12 (Nat.le_of_ble_eq_true rfl) q760 dX12_shared_17 w (fun g4 w => ?_)
  obtain ⟨hx9, hy9, w⟩ := w
  refine jr_mmax (pc := 20) F M hx9 hy9 q755 (Nat.le_of_ble_eq_true rfl) (Nat.le_of_ble_eq_true rfl) (Nat.le_of_ble_eq_true rfl) dX12_shared_20 ?_
  refine jr_isub (pc := 23) F dX12_shared_23 ?_
  refine jr_iconst (pc := 24) F dX12_shared_24 ?_
  refine jr_iadd (pc := 25) F dX12_shared_25 ?_
  obtain ⟨hy9, w⟩ := w
  refine jr_mmax (pc := 26) F M ⟨by decide, by decide⟩ hy9 q755 (Nat.le_of_ble_eq_true rfl) (Nat.le_of_ble_eq_true rfl) (Nat.le_of_ble_eq_true rfl) dX12_shared_26 ?_
  exact jr_iret (pc := 29) F M dX12_shared_29 (hQ _ _ w)

theorem cC_X12_shared {G : jj_G} {l : Launch} (J : jj_GJ G l) {x0 : Option Nat} {x1 : Option Nat} {Q : Int → jj_H → Prop} {E : String → Nat → jj_H → Prop} {h : jj_H} {k : Nat} (w : fC_X12_shared (jj_gk G) x0 x1 Q E h k) : jj_Ct G l yX12_shared (ws_ yX12_shared cX12_shared 2 (some (.int))) 1 21 [.inr (.inr (.inl x0)), .inr (.inr (.inl x1))] h k (jc_i Q) E := by
  refine jj_Ct.of (jK_gs J).1 (by decide +kernel) (Nat.le_of_ble_eq_true rfl) rfl (fun X hG hl F M O hnm => ?_)
  subst hG; subst hl
  exact sC_X12_shared F M O J hnm (fun r h q => ⟨r, rfl, q⟩) (fun _ _ _ q => q) _ _ _ _ w
theorem hC_X12_shared : yX12_shared.cls = RX12 ∧ yX12_shared.cls ≠ "java/lang/invoke/MethodHandle" ∧ yX12_shared.cls ≠ "java/lang/invoke/VarHandle" ∧ (parseMethodDescriptor yX12_shared.desc).map (fun d => d.parameters.length) = some 1 := by decide +kernel
/-! X10_areAlike(II)Z -/
def fC_X10_areAlike (gk : Nat → Nat) (x0 : Option Nat) (x1 : Int) (x2 : Int) (Q : Int → jj_H → Prop) (E : String → Nat → jj_H → Prop) (h : jj_H) (k : Nat) : Prop :=
  jp_gr h x0 8 0 (fun g1 =>
  jp_gr h g1 2 1 (fun g2 =>
  jq_J2_get g2 x1 (fun r5 h3 k4 =>
  jp_is h3 r5 4 ∧
  jp_gr h3 x0 8 0 (fun g6 =>
  jp_gr h3 g6 2 1 (fun g7 =>
  jq_J2_get g7 x2 (fun r10 h8 k9 =>
  jp_is h8 r10 4 ∧
  jp_gr h8 x0 8 2 (fun g11 =>
  jp_rl h8 g11 3 x1 (fun g12 =>
  jp_gr h8 x0 8 2 (fun g13 =>
  jp_rl h8 g13 3 x2 (fun g14 =>
  jj_r x1 ∧ jj_r x2 ∧ (x1 = x2 → (
    Q 0 h8)) ∧
  (¬ x1 = x2 → (
    jp_gi h8 r5 4 1 (fun g15 =>
    jp_gi h8 r10 4 1 (fun g16 =>
    jj_r g15 ∧ jj_r g16 ∧ (¬ g15 = g16 → (
      Q 0 h8)) ∧
    (g15 = g16 → (
      jp_gi h8 g12 6 0 (fun g17 =>
      jj_r g17 ∧ (g17 = 3 → (
        Q 0 h8)) ∧
      (¬ g17 = 3 → (
        jp_gi h8 g14 6 0 (fun g18 =>
        jj_r g18 ∧ (¬ g18 = 3 → (
          jp_is h8 g12 6 ∧ fC_X12_shared gk g12 g14 (fun r20 h21 =>
          jp_is h21 g12 6 ∧ fC_X12_length gk g12 (fun r23 h24 =>
          jp_is h24 g14 6 ∧ fC_X12_length gk g14 (fun r26 h27 =>
          jj_r r23 ∧ jj_r r26 ∧
          jj_r (2 * r20) ∧ jj_r (min r23 r26) ∧ ((2 * r20) < (min r23 r26) → (
            Q 0 h27)) ∧
          (¬ (2 * r20) < (min r23 r26) → (
            jp_gr h27 r5 4 4 (fun g28 =>
            jp_gr h27 r10 4 4 (fun g29 =>
            jp_is h27 x0 8 ∧ ∃ c30, c30 ≤ k9 ∧ fC_X10_areTextsAlike gk x0 g28 g29 (fun r31 h32 =>
            jj_r r31 ∧ (r31 = 0 → (
              Q 0 h32)) ∧
            (¬ r31 = 0 → (
              Q 1 h32))) E h27 c30))))) E h24 0) E h21 0) E h8 0)) ∧
        (g18 = 3 → (
          Q 0 h8))))))))))))))))) h3 k4))) h k))
theorem sC_X10_areAlike {X : jj_X} {N : Option jj_AV → jj_H → Prop} {XN : String → Nat → jj_H → Prop} (F : jj_F X RX10 cX10_areAlike 7) (M : jj_M X (some (.boolean)) 14 646 N XN) (O : jj_no X) (J : jj_GJ X.1 X.2.2.1) (hi : X.2.2.2.2.2.2.2.2.2.1.name = yX10_areAlike.name) {Q : Int → jj_H → Prop} {E : String → Nat → jj_H → Prop} (hQ : ∀ r h, Q r h → N (some (.inl r)) h) (hE : ∀ e q h, E e q h → XN e q h) (x0 : Option Nat) (x1 : Int) (x2 : Int) : ∀ (h : jj_H) (k : Nat), fC_X10_areAlike (jj_gk X.1) x0 x1 x2 Q E h k → jj_J X 7 0 [(0, .inr (.inr (.inl x0))), (1, .inl x1), (2, .inl x2)] [] h k := by
  intro h k w
  unfold fC_X10_areAlike at w
  refine jr_aload_n (pc := 0) F (j := 0) dX10_areAlike_0 rfl ?_
  refine jr_gr (pc := 1) (ci := 8) (f := 0) F rfl in_X10 (Nat.le_of_ble_eq_true rfl) q1593 dX10_areAlike_1 w (fun g1 w => ?_)
  refine jr_grN (pc := 4) (ci := 2) (f := 1) F rfl in_X2 (Nat.le_of_ble_eq_true rfl) q594 dX10_areAlike_4 w (fun g2 w => ?_)
  refine jr_iload_n (pc := 7) F (j := 1) dX10_areAlike_7 rfl ?_
  refine jr_jV (pc := 8) (As := [_]) (ci := 14) F M (lw_V q680 q681 q682 q124 q683) dX10_areAlike_8 hj_J2_get rfl (Nat.le_of_ble_eq_true rfl) (Nat.le_of_ble_eq_true rfl) (Nat.le_of_ble_eq_true rfl) rfl (jK_J2_get J _ _ _ _ _ w) (fun v9 h3 k4 q9 => ?_)
  obtain ⟨r5, rfl, w⟩ := q9
  obtain ⟨hi9, w⟩ := w
  refine jr_cast (pc := 11) (ci := 4) F rfl q733 dX10_areAlike_11 hi9 ?_
  refine jr_astore_n (pc := 14) F (vs' := [(3, .inr (.inr (.inl _))), (0, .inr (.inr (.inl _))), (1, .inl _), (2, .inl _)]) dX10_areAlike_14 (Nat.le_of_ble_eq_true rfl) rfl ?_
  refine jr_aload_n (pc := 15) F (j := 1) dX10_areAlike_15 rfl ?_
  refine jr_gr (pc := 16) (ci := 8) (f := 0) F rfl in_X10 (Nat.le_of_ble_eq_true rfl) q1593 dX10_areAlike_16 w (fun g6 w => ?_)
  refine jr_grN (pc := 19) (ci := 2) (f := 1) F rfl in_X2 (Nat.le_of_ble_eq_true rfl) q594 dX10_areAlike_19 w (fun g7 w => ?_)
  refine jr_iload_n (pc := 22) F (j := 3) dX10_areAlike_22 rfl ?_
  refine jr_jV (pc := 23) (As := [_]) (ci := 14) F M (lw_V q680 q681 q682 q124 q683) dX10_areAlike_23 hj_J2_get rfl (Nat.le_of_ble_eq_true rfl) (Nat.le_of_ble_eq_true rfl) (Nat.le_of_ble_eq_true rfl) rfl (jK_J2_get J _ _ _ _ _ w) (fun v9 h8 k9 q9 => ?_)
  obtain ⟨r10, rfl, w⟩ := q9
  obtain ⟨hi9, w⟩ := w
  refine jr_cast (pc := 26) (ci := 4) F rfl q733 dX10_areAlike_26 hi9 ?_
  refine jr_astore (pc := 29) F (vs' := [(4, .inr (.inr (.inl _))), (3, .inr (.inr (.inl _))), (0, .inr (.inr (.inl _))), (1, .inl _), (2, .inl _)]) dX10_areAlike_29 (Nat.le_of_ble_eq_true rfl) rfl ?_
  refine jr_aload_n (pc := 31) F (j := 2) dX10_areAlike_31 rfl ?_
  refine jr_gr (pc := 32) (ci := 8) (f := 2) F rfl in_X10 (Nat.le_of_ble_eq_true rfl) q1596 dX10_areAlike_32 w (fun g11 w => ?_)
  refine jr_iload_n (pc := 35) F (j := 3) dX10_areAlike_35 rfl ?_
  refine jr_aald (pc := 36) F ⟨7, _, fun _ => rfl⟩ dX10_areAlike_36 w (fun g12 w => ?_)
  refine jr_astore (pc := 37) F (vs' := [(5, .inr (.inr (.inl _))), (4, .inr (.inr (.inl _))), (3, .inr (.inr (.inl _))), (0, .inr (.inr (.inl _))), (1, .inl _), (2, .inl _)]) dX10_areAlike_37 (Nat.le_of_ble_eq_true rfl) rfl ?_
  refine jr_aload_n (pc := 39) F (j := 3) dX10_areAlike_39 rfl ?_
  refine jr_gr (pc := 40) (ci := 8) (f := 2) F rfl in_X10 (Nat.le_of_ble_eq_true rfl) q1596 dX10_areAlike_40 w (fun g13 w => ?_)
  refine jr_iload_n (pc := 43) F (j := 5) dX10_areAlike_43 rfl ?_
  refine jr_aald (pc := 44) F ⟨7, _, fun _ => rfl⟩ dX10_areAlike_44 w (fun g14 w => ?_)
  refine jr_astore (pc := 45) F (vs' := [(6, .inr (.inr (.inl _))), (5, .inr (.inr (.inl _))), (4, .inr (.inr (.inl _))), (3, .inr (.inr (.inl _))), (0, .inr (.inr (.inl _))), (1, .inl _), (2, .inl _)]) dX10_areAlike_45 (Nat.le_of_ble_eq_true rfl) rfl ?_
  refine jr_iload_n (pc := 47) F (j := 5) dX10_areAlike_47 rfl ?_
  refine jr_iload_n (pc := 48) F (j := 6) dX10_areAlike_48 rfl ?_
  obtain ⟨hx9, hy9, w1, w2⟩ := w
  refine jr_icmp_eq (pc := 49) (tgt := 82) F hx9 hy9 dX10_areAlike_49 rfl (fun c9 => ?_) (fun c9 => ?_)
  · have w := w1 c9
    refine jr_iconst (pc := 82) F dX10_areAlike_82 ?_
    exact jr_zret (pc := 83) F M dX10_areAlike_83 (by decide) (hQ _ _ w)
  · have w := w2 c9
    refine jr_aload_n (pc := 52) F (j := 3) dX10_areAlike_52 rfl ?_
    refine jr_giN (pc := 53) (ci := 4) (f := 1) F rfl in_X6 (Nat.le_of_ble_eq_true rfl) q2298 dX10_areAlike_53 w (fun g15 w => ?_)
    refine jr_aload (pc := 56) F (j := 2) dX10_areAlike_56 rfl ?_
    refine jr_giN (pc := 58) (ci := 4) (f := 1) F rfl in_X6 (Nat.le_of_ble_eq_true rfl) q2298 dX10_areAlike_58 w (fun g16 w => ?_)
    obtain ⟨hx9, hy9, w1, w2⟩ := w
    refine jr_icmp_ne (pc := 61) (tgt := 82) F hx9 hy9 dX10_areAlike_61 rfl (fun c9 => ?_) (fun c9 => ?_)
    · have w := w1 c9
      refine jr_iconst (pc := 82) F dX10_areAlike_82 ?_
      exact jr_zret (pc := 83) F M dX10_areAlike_83 (by decide) (hQ _ _ w)
    · have w := w2 c9
      refine jr_aload (pc := 64) F (j := 1) dX10_areAlike_64 rfl ?_
      refine jr_giN (pc := 66) (ci := 6) (f := 0) F rfl in_X12 (Nat.le_of_ble_eq_true rfl) q758 dX10_areAlike_66 w (fun g17 w => ?_)
      refine jr_iconst (pc := 69) F dX10_areAlike_69 ?_
      obtain ⟨hx9, w1, w2⟩ := w
      refine jr_icmp_eq (pc := 70) (tgt := 82) F hx9 ⟨by decide, by decide⟩ dX10_areAlike_70 rfl (fun c9 => ?_) (fun c9 => ?_)
      · have w := w1 c9
        refine jr_iconst (pc := 82) F dX10_areAlike_82 ?_
        exact jr_zret (pc := 83) F M dX10_areAlike_83 (by decide) (hQ _ _ w)
      · have w := w2 c9
        refine jr_aload (pc := 73) F (j := 0) dX10_areAlike_73 rfl ?_
        refine jr_giN (pc := 75) (ci := 6) (f := 0) F rfl in_X12 (Nat.le_of_ble_eq_true rfl) q758 dX10_areAlike_75 w (fun g18 w => ?_)
        refine jr_iconst (pc := 78) F dX10_areAlike_78 ?_
        obtain ⟨hx9, w1, w2⟩ := w
        refine jr_icmp_ne (pc := 79) (tgt := 84) F hx9 ⟨by decide, by decide⟩ dX10_areAlike_79 rfl (fun c9 => ?_) (fun c9 => ?_)
        · have w := w1 c9
          refine jr_iconst (pc := 84) F dX10_areAlike_84 ?_
          refine jr_aload (pc := 85) F (j := 1) dX10_areAlike_85 rfl ?_
          refine jr_aload (pc := 87) F (j := 0) dX10_areAlike_87 rfl ?_
          obtain ⟨hi9, w⟩ := w
          refine jr_cV (pc := 89) (As := [_]) (ci := 6) F M (lw_V q921 q922 q923 q179 q924) dX10_areAlike_89 hC_X12_shared rfl (Nat.le_of_ble_eq_true rfl) (Nat.le_of_ble_eq_true rfl) (Nat.le_of_ble_eq_true rfl) rfl hi9 (Nat.zero_le _) (cC_X12_shared J w) (fun v9 h21 q9 => ?_) (fun E9 q9 h9 w9 => jr_out F M O (hE _ _ _ w9))
          obtain ⟨r20, rfl, w⟩ := q9
          refine jr_imul (pc := 92) F dX10_areAlike_92 ?_
          refine jr_aload (pc := 93) F (j := 1) dX10_areAlike_93 rfl ?_
          obtain ⟨hi9, w⟩ := w
          refine jr_cV (pc := 95) (As := []) (ci := 6) F M (lw_V q926 q927 q928 q179 q929) dX10_areAlike_95 hC_X12_length rfl (Nat.le_of_ble_eq_true rfl) (Nat.le_of_ble_eq_true rfl) (Nat.le_of_ble_eq_true rfl) rfl hi9 (Nat.zero_le _) (cC_X12_length J w) (fun v9 h24 q9 => ?_) (fun E9 q9 h9 w9 => jr_out F M O (hE _ _ _ w9))
          obtain ⟨r23, rfl, w⟩ := q9
          refine jr_aload (pc := 98) F (j := 0) dX10_areAlike_98 rfl ?_
          obtain ⟨hi9, w⟩ := w
          refine jr_cV (pc := 100) (As := []) (ci := 6) F M (lw_V q926 q927 q928 q179 q929) dX10_areAlike_100 hC_X12_length rfl (Nat.le_of_ble_eq_true rfl) (Nat.le_of_ble_eq_true rfl) (Nat.le_of_ble_eq_true rfl) rfl hi9 (Nat.zero_le _) (cC_X12_length J w) (fun v9 h27 q9 => ?_) (fun E9 q9 h9 w9 => jr_out F M O (hE _ _ _ w9))
          obtain ⟨r26, rfl, w⟩ := q9
          obtain ⟨hx9, hy9, w⟩ := w
          refine jr_mmin (pc := 103) F M hx9 hy9 q930 (Nat.le_of_ble_eq_true rfl) (Nat.le_of_ble_eq_true rfl) (Nat.le_of_ble_eq_true rfl) dX10_areAlike_103 ?_
          obtain ⟨hx9, hy9, w1, w2⟩ := w
          refine jr_icmp_lt (pc := 106) (tgt := 129) F hx9 hy9 dX10_areAlike_106 rfl (fun c9 => ?_) (fun c9 => ?_)
          · have w := w1 c9
            refine jr_iconst (pc := 129) F dX10_areAlike_129 ?_
            exact jr_zret (pc := 130) F M dX10_areAlike_130 (by decide) (hQ _ _ w)
          · have w := w2 c9
            refine jr_aload_n (pc := 109) F (j := 4) dX10_areAlike_109 rfl ?_
            refine jr_aload_n (pc := 110) F (j := 3) dX10_areAlike_110 rfl ?_
            refine jr_grN (pc := 111) (ci := 4) (f := 4) F rfl in_X6 (Nat.le_of_ble_eq_true rfl) q2308 dX10_areAlike_111 w (fun g28 w => ?_)
            refine jr_aload (pc := 114) F (j := 2) dX10_areAlike_114 rfl ?_
            refine jr_grN (pc := 116) (ci := 4) (f := 4) F rfl in_X6 (Nat.le_of_ble_eq_true rfl) q2308 dX10_areAlike_116 w (fun g29 w => ?_)
            obtain ⟨hi9, c30, hk9, w⟩ := w
            refine jr_cV (pc := 119) (As := [_, _]) (ci := 8) F M (lw_V q931 q933 qs9 q177 q934) dX10_areAlike_119 hC_X10_areTextsAlike rfl (Nat.le_of_ble_eq_true rfl) (Nat.le_of_ble_eq_true rfl) (Nat.le_of_ble_eq_true rfl) rfl hi9 hk9 (cC_X10_areTextsAlike J w) (fun v9 h32 q9 => ?_) (fun E9 q9 h9 w9 => jr_out F M O (hE _ _ _ w9))
            obtain ⟨r31, rfl, w⟩ := q9
            obtain ⟨hx9, w1, w2⟩ := w
            refine jr_if_eq (pc := 122) (tgt := 129) F hx9 dX10_areAlike_122 rfl (fun c9 => ?_) (fun c9 => ?_)
            · have w := w1 c9
              refine jr_iconst (pc := 129) F dX10_areAlike_129 ?_
              exact jr_zret (pc := 130) F M dX10_areAlike_130 (by decide) (hQ _ _ w)
            · have w := w2 c9
              refine jr_iconst (pc := 125) F dX10_areAlike_125 ?_
              refine jr_goto (pc := 126) (tgt := 130) F dX10_areAlike_126 rfl ?_
              exact jr_zret (pc := 130) F M dX10_areAlike_130 (by decide) (hQ _ _ w)
        · have w := w2 c9
          refine jr_iconst (pc := 82) F dX10_areAlike_82 ?_
          exact jr_zret (pc := 83) F M dX10_areAlike_83 (by decide) (hQ _ _ w)

theorem cC_X10_areAlike {G : jj_G} {l : Launch} (J : jj_GJ G l) {x0 : Option Nat} {x1 : Int} {x2 : Int} {Q : Int → jj_H → Prop} {E : String → Nat → jj_H → Prop} {h : jj_H} {k : Nat} (w : fC_X10_areAlike (jj_gk G) x0 x1 x2 Q E h k) : jj_Ct G l yX10_areAlike (ws_ yX10_areAlike cX10_areAlike 7 (some (.boolean))) 14 646 [.inr (.inr (.inl x0)), .inl x1, .inl x2] h k (jc_i Q) E := by
  refine jj_Ct.of (jK_gs J).1 (by decide +kernel) (Nat.le_of_ble_eq_true rfl) rfl (fun X hG hl F M O hnm => ?_)
  subst hG; subst hl
  exact sC_X10_areAlike F M O J hnm (fun r h q => ⟨r, rfl, q⟩) (fun _ _ _ q => q) _ _ _ _ _ w
theorem hC_X10_areAlike : yX10_areAlike.cls = RX10 ∧ yX10_areAlike.cls ≠ "java/lang/invoke/MethodHandle" ∧ yX10_areAlike.cls ≠ "java/lang/invoke/VarHandle" ∧ (parseMethodDescriptor yX10_areAlike.desc).map (fun d => d.parameters.length) = some 2 := by decide +kernel
/-! X13_init(II)V -/
def fC_X13_init (gk : Nat → Nat) (x0 : Option Nat) (x1 : Int) (x2 : Int) (Q : jj_H → Prop) (E : String → Nat → jj_H → Prop) (h : jj_H) (k : Nat) : Prop :=
  jp_so x0 ∧
  jp_nw h k 14 1 df_J2 (fun a1 h2 k3 =>
  jq_J2_init (some a1) 2 (fun h4 k5 =>
  jp_pr h4 x0 7 1 (some a1) (fun h6 =>
  jp_pi h6 x0 7 3 (-1) (fun h7 =>
  jp_pi h7 x0 7 4 (-1) (fun h8 =>
  jp_pi h8 x0 7 0 x1 (fun h9 =>
  jp_pi h9 x0 7 5 x2 (fun h10 =>
  Q h10)))))) h2 k3)
theorem sC_X13_init {X : jj_X} {N : Option jj_AV → jj_H → Prop} {XN : String → Nat → jj_H → Prop} (F : jj_F X RX13 cX13_init 3) (M : jj_M X (none) 13 621 N XN) (O : jj_no X) (J : jj_GJ X.1 X.2.2.1) (hi : X.2.2.2.2.2.2.2.2.2.1.name = yX13_init.name) {Q : jj_H → Prop} {E : String → Nat → jj_H → Prop} (hQ : ∀ h, Q h → N none h) (hE : ∀ e q h, E e q h → XN e q h) (x0 : Option Nat) (x1 : Int) (x2 : Int) : ∀ (h : jj_H) (k : Nat), fC_X13_init (jj_gk X.1) x0 x1 x2 Q E h k → jj_J X 3 0 [(0, .inr (.inr (.inl x0))), (1, .inl x1), (2, .inl x2)] [] h k := by
  intro h k w
  unfold fC_X13_init at w
  refine jr_aload_n (pc := 0) F (j := 0) dX13_init_0 rfl ?_
  obtain ⟨ha9, w⟩ := w
  refine jr_objInitO (pc := 1) F M q786 q192 q193 ha9 (Nat.le_of_ble_eq_true rfl) (Nat.le_of_ble_eq_true rfl) (Nat.le_of_ble_eq_true rfl) dX13_init_1 ?_
  refine jr_aload_n (pc := 4) F (j := 0) dX13_init_4 rfl ?_
  refine jr_new (pc := 5) (ci := 14) F rfl in_J2 tyJ2_ok q787 q201 q124 dfo_J2 rfl ⟨by decide, by decide⟩ dX13_init_5 w (fun a1 h2 k3 w => ?_)
  refine jr_dup (pc := 8) F dX13_init_8 rfl ?_
  refine jr_iconst (pc := 9) F dX13_init_9 ?_
  refine jr_jI (pc := 10) (As := [_]) F M q788 q203 q124 q204 dX13_init_10 rfl hj_J2_init.2 rfl (Nat.le_of_ble_eq_true rfl) (Nat.le_of_ble_eq_true rfl) (Nat.le_of_ble_eq_true rfl) (jK_J2_init J _ _ _ _ _ w) (fun v9 h4 k5 q9 => ?_)
  obtain ⟨rfl, w⟩ := q9
  refine jr_prF (pc := 13) (ci := 7) (f := 1) F rfl in_X13 tyX13_ok nmX13 (Nat.le_of_ble_eq_true rfl) rfl rfl rfl hi q793 dX13_init_13 w (fun h6 w => ?_)
  refine jr_aload_n (pc := 16) F (j := 0) dX13_init_16 rfl ?_
  refine jr_iconst (pc := 17) F dX13_init_17 ?_
  refine jr_pi (pc := 18) (ci := 7) (f := 3) F rfl in_X13 tyX13_ok nmX13 (Nat.le_of_ble_eq_true rfl) rfl rfl q797 dX13_init_18 w (fun h7 w => ?_)
  refine jr_aload_n (pc := 21) F (j := 0) dX13_init_21 rfl ?_
  refine jr_iconst (pc := 22) F dX13_init_22 ?_
  refine jr_pi (pc := 23) (ci := 7) (f := 4) F rfl in_X13 tyX13_ok nmX13 (Nat.le_of_ble_eq_true rfl) rfl rfl q801 dX13_init_23 w (fun h8 w => ?_)
  refine jr_aload_n (pc := 26) F (j := 0) dX13_init_26 rfl ?_
  refine jr_iload_n (pc := 27) F (j := 1) dX13_init_27 rfl ?_
  refine jr_piF (pc := 28) (ci := 7) (f := 0) F rfl in_X13 tyX13_ok nmX13 (Nat.le_of_ble_eq_true rfl) rfl rfl rfl hi q789 dX13_init_28 w (fun h9 w => ?_)
  refine jr_aload_n (pc := 31) F (j := 0) dX13_init_31 rfl ?_
  refine jr_iload_n (pc := 32) F (j := 2) dX13_init_32 rfl ?_
  refine jr_pi (pc := 33) (ci := 7) (f := 5) F rfl in_X13 tyX13_ok nmX13 (Nat.le_of_ble_eq_true rfl) rfl rfl q803 dX13_init_33 w (fun h10 w => ?_)
  exact jr_vret (pc := 36) F M dX13_init_36 (hQ _ w)

theorem cC_X13_init {G : jj_G} {l : Launch} (J : jj_GJ G l) {x0 : Option Nat} {x1 : Int} {x2 : Int} {Q : jj_H → Prop} {E : String → Nat → jj_H → Prop} {h : jj_H} {k : Nat} (w : fC_X13_init (jj_gk G) x0 x1 x2 Q E h k) : jj_Ct G l yX13_init (ws_ yX13_init cX13_init 3 (none)) 13 621 [.inr (.inr (.inl x0)), .inl x1, .inl x2] h k (jc_v Q) E := by
  refine jj_Ct.of (jK_gs J).1 (by decide +kernel) (Nat.le_of_ble_eq_true rfl) rfl (fun X hG hl F M O hnm => ?_)
  subst hG; subst hl
  exact sC_X13_init F M O J hnm (fun h q => ⟨rfl, q⟩) (fun _ _ _ q => q) _ _ _ _ _ w
theorem hC_X13_init : yX13_init.cls = RX13 ∧ yX13_init.cls ≠ "java/lang/invoke/MethodHandle" ∧ yX13_init.cls ≠ "java/lang/invoke/VarHandle" ∧ (parseMethodDescriptor yX13_init.desc).map (fun d => d.parameters.length) = some 2 := by decide +kernel
/-! X10_spread(I)V -/
def fC_X10_spread_l65 (gk : Nat → Nat) (x0 : Option Nat) (x2 : Int) (x3 : Option Nat) (x4 : Int) (K53 : Int → jj_H → Nat → Prop) (Q : jj_H → Prop) (E : String → Nat → jj_H → Prop) : Nat → Int → jj_H → Nat → Prop
  | 0, _, _, _ => False
  | n + 1, x5, h, k =>
  jp_gr h x0 8 0 (fun g1 =>
  jp_gr h g1 2 1 (fun g2 =>
  jq_J2_size g2 (fun r5 h3 k4 =>
  jj_r x5 ∧ jj_r r5 ∧ (r5 ≤ x5 → (
    ∀ v6, v6 = x4 + 1 →
    K53 v6 h3 k4)) ∧
  (¬ r5 ≤ x5 → (
    jp_gr h3 x0 8 3 (fun g7 =>
    jp_al h3 g7 0 x5 (fun g8 =>
    jj_r g8 ∧ (¬ g8 = (-1) → (
      ∀ v9, v9 = x5 + 1 →
      fC_X10_spread_l65 gk x0 x2 x3 x4 K53 Q E n v9 h3 k4)) ∧
    (g8 = (-1) → (
      jq_J2_get x3 x4 (fun r12 h10 k11 =>
      jp_is h10 r12 27 ∧
      jq_J17_intValue r12 (fun r15 h13 k14 =>
      jp_is h13 x0 8 ∧ ∃ c16, c16 ≤ k14 ∧ fC_X10_areAlike gk x0 r15 x5 (fun r17 h18 =>
      jj_r r17 ∧ (r17 = 0 → (
        ∀ v19, v19 = x5 + 1 →
        fC_X10_spread_l65 gk x0 x2 x3 x4 K53 Q E n v19 h18 (k14 - c16))) ∧
      (¬ r17 = 0 → (
        jp_gr h18 x0 8 3 (fun g20 =>
        jp_as h18 g20 0 x5 x2 (fun h21 =>
        jq_J17_valueOf gk x5 (fun r24 h22 k23 =>
        jq_J2_add x3 r24 (fun r27 h25 k26 =>
        ∀ v28, v28 = x5 + 1 →
        fC_X10_spread_l65 gk x0 x2 x3 x4 K53 Q E n v28 h25 k26) h22 k23) h21 (k14 - c16)))))) E h13 c16) h10 k11) h3 k4))))))) h k))
def fC_X10_spread_l53 (gk : Nat → Nat) (x0 : Option Nat) (x2 : Int) (x3 : Option Nat) (Q : jj_H → Prop) (E : String → Nat → jj_H → Prop) : Nat → Int → jj_H → Nat → Prop
  | 0, _, _, _ => False
  | n + 1, x4, h, k =>
  jq_J2_size x3 (fun r31 h29 k30 =>
  jj_r x4 ∧ jj_r r31 ∧ (r31 ≤ x4 → (
    Q h29)) ∧
  (¬ r31 ≤ x4 → (
    ∃ n9, fC_X10_spread_l65 gk x0 x2 x3 x4 (fC_X10_spread_l53 gk x0 x2 x3 Q E n) Q E n9 0 h29 k30))) h k
def fC_X10_spread (gk : Nat → Nat) (x0 : Option Nat) (x1 : Int) (Q : jj_H → Prop) (E : String → Nat → jj_H → Prop) (h : jj_H) (k : Nat) : Prop :=
  jp_gr h x0 8 4 (fun g32 =>
  jq_J2_size g32 (fun r35 h33 k34 =>
  jp_gr h33 x0 8 4 (fun g36 =>
  jp_nw h33 k34 7 2 df_X13 (fun a37 h38 k39 =>
  jp_so (some a37) ∧ ∃ c40, c40 ≤ k39 ∧ fC_X13_init gk (some a37) r35 x1 (fun h42 =>
  jq_J2_add g36 (some a37) (fun r45 h43 k44 =>
  jp_gr h43 x0 8 3 (fun g46 =>
  jp_as h43 g46 0 x1 r35 (fun h47 =>
  jp_nw h47 k44 14 1 df_J2 (fun a48 h49 k50 =>
  jq_J2_init (some a48) 4 (fun h51 k52 =>
  jq_J17_valueOf gk x1 (fun r55 h53 k54 =>
  jq_J2_add (some a48) r55 (fun r58 h56 k57 =>
  ∃ n9, fC_X10_spread_l53 gk x0 r35 (some a48) Q E n9 0 h56 k57) h53 k54) h51 k52) h49 k50)))) h42 (k39 - c40)) E h38 c40))) h k)
theorem sC_X10_spread_l65 {X : jj_X} {N : Option jj_AV → jj_H → Prop} {XN : String → Nat → jj_H → Prop} (F : jj_F X RX10 cX10_spread 6) (M : jj_M X (none) 15 672 N XN) (O : jj_no X) (J : jj_GJ X.1 X.2.2.1) (hi : X.2.2.2.2.2.2.2.2.2.1.name = yX10_spread.name) {Q : jj_H → Prop} {E : String → Nat → jj_H → Prop} (hQ : ∀ h, Q h → N none h) (hE : ∀ e q h, E e q h → XN e q h) (x0 : Option Nat) (x2 : Int) (x3 : Option Nat) (x4 : Int) {K53 : Int → jj_H → Nat → Prop} (hK53 : ∀ (z4 : Int) (h : jj_H) (k : Nat), K53 z4 h k → jj_J X 6 53 [(0, .inr (.inr (.inl x0))), (2, .inl x2), (3, .inr (.inr (.inl x3))), (4, .inl z4)] [] h k) : ∀ (n : Nat) (x5 : Int) (h : jj_H) (k : Nat), fC_X10_spread_l65 (jj_gk X.1) x0 x2 x3 x4 K53 Q E n x5 h k → jj_J X 6 65 [(0, .inr (.inr (.inl x0))), (2, .inl x2), (3, .inr (.inr (.inl x3))), (4, .inl x4), (5, .inl x5)] [] h k := by
  intro n
  induction n with
  | zero =>
    intro x5 h k w
    exact (show False from w).elim
  | succ n ih =>
    intro x5 h k w
    rw [fC_X10_spread_l65] at w
    refine jr_iload (pc := 65) F (j := 4) dX10_spread_65 rfl ?_
    refine jr_aload_n (pc := 67) F (j := 0) dX10_spread_67 rfl ?_
    refine jr_gr (pc := 68) (ci := 8) (f := 0) F rfl in_X10 (Nat.le_of_ble_eq_true rfl) q1593 dX10_spread_68 w (fun g1 w => ?_)
    refine jr_grN (pc := 71) (ci := 2) (f := 1) F rfl in_X2 (Nat.le_of_ble_eq_true rfl) q594 dX10_spread_71 w (fun g2 w => ?_)
    refine jr_jV (pc := 74) (As := []) (ci := 14) F M (lw_V q675 q676 q677 q124 q678) dX10_spread_74 hj_J2_size rfl (Nat.le_of_ble_eq_true rfl) (Nat.le_of_ble_eq_true rfl) (Nat.le_of_ble_eq_true rfl) rfl (jK_J2_size J _ _ _ _ w) (fun v9 h3 k4 q9 => ?_)
    obtain ⟨r5, rfl, w⟩ := q9
    obtain ⟨hx9, hy9, w1, w2⟩ := w
    refine jr_icmp_ge (pc := 77) (tgt := 136) F hx9 hy9 dX10_spread_77 rfl (fun c9 => ?_) (fun c9 => ?_)
    · have w := w1 c9
      have w := w _ rfl
      refine jr_iinc (pc := 136) F (j := 3) (vs' := [(4, .inl _), (0, .inr (.inr (.inl _))), (2, .inl _), (3, .inr (.inr (.inl _))), (5, .inl _)]) dX10_spread_136 rfl rfl (Nat.le_of_ble_eq_true rfl) rfl ?_
      refine jr_goto (pc := 139) (tgt := 53) F dX10_spread_139 rfl ?_
      refine jj_J.sub [1, 2, 3, 0] rfl ?_
      exact hK53 _ _ _ w
    · have w := w2 c9
      refine jr_aload_n (pc := 80) F (j := 0) dX10_spread_80 rfl ?_
      refine jr_gr (pc := 81) (ci := 8) (f := 3) F rfl in_X10 (Nat.le_of_ble_eq_true rfl) q1598 dX10_spread_81 w (fun g7 w => ?_)
      refine jr_iload (pc := 84) F (j := 4) dX10_spread_84 rfl ?_
      refine jr_iald (pc := 86) F dX10_spread_86 w (fun g8 w => ?_)
      refine jr_iconst (pc := 87) F dX10_spread_87 ?_
      obtain ⟨hx9, w1, w2⟩ := w
      refine jr_icmp_ne (pc := 88) (tgt := 130) F hx9 ⟨by decide, by decide⟩ dX10_spread_88 rfl (fun c9 => ?_) (fun c9 => ?_)
      · have w := w1 c9
        have w := w _ rfl
        refine jr_iinc (pc := 130) F (j := 4) (vs' := [(5, .inl _), (0, .inr (.inr (.inl _))), (2, .inl _), (3, .inr (.inr (.inl _))), (4, .inl _)]) dX10_spread_130 rfl rfl (Nat.le_of_ble_eq_true rfl) rfl ?_
        refine jr_goto (pc := 133) (tgt := 65) F dX10_spread_133 rfl ?_
        refine jj_J.sub [1, 2, 3, 4, 0] rfl ?_
        exact ih _ _ _ w
      · have w := w2 c9
        refine jr_aload_n (pc := 91) F (j := 0) dX10_spread_91 rfl ?_
        refine jr_aload_n (pc := 92) F (j := 2) dX10_spread_92 rfl ?_
        refine jr_iload (pc := 93) F (j := 3) dX10_spread_93 rfl ?_
        refine jr_jV (pc := 95) (As := [_]) (ci := 14) F M (lw_V q680 q681 q682 q124 q683) dX10_spread_95 hj_J2_get rfl (Nat.le_of_ble_eq_true rfl) (Nat.le_of_ble_eq_true rfl) (Nat.le_of_ble_eq_true rfl) rfl (jK_J2_get J _ _ _ _ _ w) (fun v9 h10 k11 q9 => ?_)
        obtain ⟨r12, rfl, w⟩ := q9
        obtain ⟨hi9, w⟩ := w
        refine jr_cast (pc := 98) (ci := 27) F rfl q912 dX10_spread_98 hi9 ?_
        refine jr_jV (pc := 101) (As := []) (ci := 27) F M (lw_V q913 q914 q915 q140 q916) dX10_spread_101 hj_J17_intValue rfl (Nat.le_of_ble_eq_true rfl) (Nat.le_of_ble_eq_true rfl) (Nat.le_of_ble_eq_true rfl) rfl (jK_J17_intValue J _ _ _ _ w) (fun v9 h13 k14 q9 => ?_)
        obtain ⟨r15, rfl, w⟩ := q9
        refine jr_iload (pc := 104) F (j := 4) dX10_spread_104 rfl ?_
        obtain ⟨hi9, c16, hk9, w⟩ := w
        refine jr_cV (pc := 106) (As := [_, _]) (ci := 8) F M (lw_V q917 q918 q919 q177 q920) dX10_spread_106 hC_X10_areAlike rfl (Nat.le_of_ble_eq_true rfl) (Nat.le_of_ble_eq_true rfl) (Nat.le_of_ble_eq_true rfl) rfl hi9 hk9 (cC_X10_areAlike J w) (fun v9 h18 q9 => ?_) (fun E9 q9 h9 w9 => jr_out F M O (hE _ _ _ w9))
        obtain ⟨r17, rfl, w⟩ := q9
        obtain ⟨hx9, w1, w2⟩ := w
        refine jr_if_eq (pc := 109) (tgt := 130) F hx9 dX10_spread_109 rfl (fun c9 => ?_) (fun c9 => ?_)
        · have w := w1 c9
          have w := w _ rfl
          refine jr_iinc (pc := 130) F (j := 4) (vs' := [(5, .inl _), (0, .inr (.inr (.inl _))), (2, .inl _), (3, .inr (.inr (.inl _))), (4, .inl _)]) dX10_spread_130 rfl rfl (Nat.le_of_ble_eq_true rfl) rfl ?_
          refine jr_goto (pc := 133) (tgt := 65) F dX10_spread_133 rfl ?_
          refine jj_J.sub [1, 2, 3, 4, 0] rfl ?_
          exact ih _ _ _ w
        · have w := w2 c9
          refine jr_aload_n (pc := 112) F (j := 0) dX10_spread_112 rfl ?_
          refine jr_gr (pc := 113) (ci := 8) (f := 3) F rfl in_X10 (Nat.le_of_ble_eq_true rfl) q1598 dX10_spread_113 w (fun g20 w => ?_)
          refine jr_iload (pc := 116) F (j := 4) dX10_spread_116 rfl ?_
          refine jr_iload_n (pc := 118) F (j := 1) dX10_spread_118 rfl ?_
          refine jr_iast (pc := 119) F dX10_spread_119 w (fun h21 w => ?_)
          refine jr_aload_n (pc := 120) F (j := 2) dX10_spread_120 rfl ?_
          refine jr_iload (pc := 121) F (j := 4) dX10_spread_121 rfl ?_
          refine jr_jS (pc := 123) (As := [_]) F M (lw_S q892 q893 q140 q894) dX10_spread_123 hj_J17_valueOf.2 rfl (Nat.le_of_ble_eq_true rfl) (Nat.le_of_ble_eq_true rfl) (Nat.le_of_ble_eq_true rfl) (jK_J17_valueOf J _ _ _ _ w) (fun v9 h22 k23 q9 => ?_)
          obtain ⟨r24, rfl, w⟩ := q9
          refine jr_jV (pc := 126) (As := [_]) (ci := 14) F M (lw_V q819 q820 q821 q124 q822) dX10_spread_126 hj_J2_add rfl (Nat.le_of_ble_eq_true rfl) (Nat.le_of_ble_eq_true rfl) (Nat.le_of_ble_eq_true rfl) rfl (jK_J2_add J _ _ _ _ _ w) (fun v9 h25 k26 q9 => ?_)
          obtain ⟨r27, rfl, w⟩ := q9
          refine jr_pop (pc := 129) F dX10_spread_129 rfl ?_
          have w := w _ rfl
          refine jr_iinc (pc := 130) F (j := 4) (vs' := [(5, .inl _), (0, .inr (.inr (.inl _))), (2, .inl _), (3, .inr (.inr (.inl _))), (4, .inl _)]) dX10_spread_130 rfl rfl (Nat.le_of_ble_eq_true rfl) rfl ?_
          refine jr_goto (pc := 133) (tgt := 65) F dX10_spread_133 rfl ?_
          refine jj_J.sub [1, 2, 3, 4, 0] rfl ?_
          exact ih _ _ _ w

theorem sC_X10_spread_l53 {X : jj_X} {N : Option jj_AV → jj_H → Prop} {XN : String → Nat → jj_H → Prop} (F : jj_F X RX10 cX10_spread 6) (M : jj_M X (none) 15 672 N XN) (O : jj_no X) (J : jj_GJ X.1 X.2.2.1) (hi : X.2.2.2.2.2.2.2.2.2.1.name = yX10_spread.name) {Q : jj_H → Prop} {E : String → Nat → jj_H → Prop} (hQ : ∀ h, Q h → N none h) (hE : ∀ e q h, E e q h → XN e q h) (x0 : Option Nat) (x2 : Int) (x3 : Option Nat) : ∀ (n : Nat) (x4 : Int) (h : jj_H) (k : Nat), fC_X10_spread_l53 (jj_gk X.1) x0 x2 x3 Q E n x4 h k → jj_J X 6 53 [(0, .inr (.inr (.inl x0))), (2, .inl x2), (3, .inr (.inr (.inl x3))), (4, .inl x4)] [] h k := by
  intro n
  induction n with
  | zero =>
    intro x4 h k w
    exact (show False from w).elim
  | succ n ih =>
    intro x4 h k w
    rw [fC_X10_spread_l53] at w
    refine jr_iload (pc := 53) F (j := 3) dX10_spread_53 rfl ?_
    refine jr_aload_n (pc := 55) F (j := 2) dX10_spread_55 rfl ?_
    refine jr_jV (pc := 56) (As := []) (ci := 14) F M (lw_V q675 q676 q677 q124 q678) dX10_spread_56 hj_J2_size rfl (Nat.le_of_ble_eq_true rfl) (Nat.le_of_ble_eq_true rfl) (Nat.le_of_ble_eq_true rfl) rfl (jK_J2_size J _ _ _ _ w) (fun v9 h29 k30 q9 => ?_)
    obtain ⟨r31, rfl, w⟩ := q9
    obtain ⟨hx9, hy9, w1, w2⟩ := w
    refine jr_icmp_ge (pc := 59) (tgt := 142) F hx9 hy9 dX10_spread_59 rfl (fun c9 => ?_) (fun c9 => ?_)
    · have w := w1 c9
      exact jr_vret (pc := 142) F M dX10_spread_142 (hQ _ w)
    · have w := w2 c9
      refine jr_iconst (pc := 62) F dX10_spread_62 ?_
      refine jr_istore (pc := 63) F (vs' := [(5, .inl _), (0, .inr (.inr (.inl _))), (2, .inl _), (3, .inr (.inr (.inl _))), (4, .inl _)]) dX10_spread_63 (Nat.le_of_ble_eq_true rfl) rfl ?_
      refine jj_J.sub [1, 2, 3, 4, 0] rfl ?_
      obtain ⟨n9, w⟩ := w
      exact sC_X10_spread_l65 F M O J hi hQ hE _ _ _ _ ih n9 _ _ _ w

theorem sC_X10_spread {X : jj_X} {N : Option jj_AV → jj_H → Prop} {XN : String → Nat → jj_H → Prop} (F : jj_F X RX10 cX10_spread 6) (M : jj_M X (none) 15 672 N XN) (O : jj_no X) (J : jj_GJ X.1 X.2.2.1) (hi : X.2.2.2.2.2.2.2.2.2.1.name = yX10_spread.name) {Q : jj_H → Prop} {E : String → Nat → jj_H → Prop} (hQ : ∀ h, Q h → N none h) (hE : ∀ e q h, E e q h → XN e q h) (x0 : Option Nat) (x1 : Int) : ∀ (h : jj_H) (k : Nat), fC_X10_spread (jj_gk X.1) x0 x1 Q E h k → jj_J X 6 0 [(0, .inr (.inr (.inl x0))), (1, .inl x1)] [] h k := by
  intro h k w
  unfold fC_X10_spread at w
  refine jr_aload_n (pc := 0) F (j := 0) dX10_spread_0 rfl ?_
  refine jr_gr (pc := 1) (ci := 8) (f := 4) F rfl in_X10 (Nat.le_of_ble_eq_true rfl) q1600 dX10_spread_1 w (fun g32 w => ?_)
  refine jr_jV (pc := 4) (As := []) (ci := 14) F M (lw_V q675 q676 q677 q124 q678) dX10_spread_4 hj_J2_size rfl (Nat.le_of_ble_eq_true rfl) (Nat.le_of_ble_eq_true rfl) (Nat.le_of_ble_eq_true rfl) rfl (jK_J2_size J _ _ _ _ w) (fun v9 h33 k34 q9 => ?_)
  obtain ⟨r35, rfl, w⟩ := q9
  refine jr_istore_n (pc := 7) F (vs' := [(2, .inl _), (0, .inr (.inr (.inl _))), (1, .inl _)]) dX10_spread_7 (Nat.le_of_ble_eq_true rfl) rfl ?_
  refine jr_aload_n (pc := 8) F (j := 1) dX10_spread_8 rfl ?_
  refine jr_gr (pc := 9) (ci := 8) (f := 4) F rfl in_X10 (Nat.le_of_ble_eq_true rfl) q1600 dX10_spread_9 w (fun g36 w => ?_)
  refine jr_new (pc := 12) (ci := 7) F rfl in_X13 tyX13_ok q781 q782 q180 dfo_X13 rfl ⟨by decide, by decide⟩ dX10_spread_12 w (fun a37 h38 k39 w => ?_)
  refine jr_dup (pc := 15) F dX10_spread_15 rfl ?_
  refine jr_iload_n (pc := 16) F (j := 0) dX10_spread_16 rfl ?_
  refine jr_iload_n (pc := 17) F (j := 2) dX10_spread_17 rfl ?_
  obtain ⟨hi9, c40, hk9, w⟩ := w
  refine jr_cI (pc := 18) (As := [_, _]) F M q783 q784 q180 q785 dX10_spread_18 rfl hC_X13_init.2 rfl (Nat.le_of_ble_eq_true rfl) (Nat.le_of_ble_eq_true rfl) (Nat.le_of_ble_eq_true rfl) hi9 hk9 (cC_X13_init J w) (fun v9 h42 q9 => ?_) (fun E9 q9 h9 w9 => jr_out F M O (hE _ _ _ w9))
  obtain ⟨rfl, w⟩ := q9
  refine jr_jV (pc := 21) (As := [_]) (ci := 14) F M (lw_V q819 q820 q821 q124 q822) dX10_spread_21 hj_J2_add rfl (Nat.le_of_ble_eq_true rfl) (Nat.le_of_ble_eq_true rfl) (Nat.le_of_ble_eq_true rfl) rfl (jK_J2_add J _ _ _ _ _ w) (fun v9 h43 k44 q9 => ?_)
  obtain ⟨r45, rfl, w⟩ := q9
  refine jr_pop (pc := 24) F dX10_spread_24 rfl ?_
  refine jr_aload_n (pc := 25) F (j := 1) dX10_spread_25 rfl ?_
  refine jr_gr (pc := 26) (ci := 8) (f := 3) F rfl in_X10 (Nat.le_of_ble_eq_true rfl) q1598 dX10_spread_26 w (fun g46 w => ?_)
  refine jr_iload_n (pc := 29) F (j := 2) dX10_spread_29 rfl ?_
  refine jr_iload_n (pc := 30) F (j := 0) dX10_spread_30 rfl ?_
  refine jr_iast (pc := 31) F dX10_spread_31 w (fun h47 w => ?_)
  refine jr_new (pc := 32) (ci := 14) F rfl in_J2 tyJ2_ok q673 q201 q124 dfo_J2 rfl ⟨by decide, by decide⟩ dX10_spread_32 w (fun a48 h49 k50 w => ?_)
  refine jr_dup (pc := 35) F dX10_spread_35 rfl ?_
  refine jr_iconst (pc := 36) F dX10_spread_36 ?_
  refine jr_jI (pc := 37) (As := [_]) F M q674 q203 q124 q204 dX10_spread_37 rfl hj_J2_init.2 rfl (Nat.le_of_ble_eq_true rfl) (Nat.le_of_ble_eq_true rfl) (Nat.le_of_ble_eq_true rfl) (jK_J2_init J _ _ _ _ _ w) (fun v9 h51 k52 q9 => ?_)
  obtain ⟨rfl, w⟩ := q9
  refine jr_astore_n (pc := 40) F (vs' := [(3, .inr (.inr (.inl _))), (2, .inl _), (0, .inr (.inr (.inl _))), (1, .inl _)]) dX10_spread_40 (Nat.le_of_ble_eq_true rfl) rfl ?_
  refine jr_aload_n (pc := 41) F (j := 0) dX10_spread_41 rfl ?_
  refine jr_iload_n (pc := 42) F (j := 3) dX10_spread_42 rfl ?_
  refine jr_jS (pc := 43) (As := [_]) F M (lw_S q892 q893 q140 q894) dX10_spread_43 hj_J17_valueOf.2 rfl (Nat.le_of_ble_eq_true rfl) (Nat.le_of_ble_eq_true rfl) (Nat.le_of_ble_eq_true rfl) (jK_J17_valueOf J _ _ _ _ w) (fun v9 h53 k54 q9 => ?_)
  obtain ⟨r55, rfl, w⟩ := q9
  refine jr_jV (pc := 46) (As := [_]) (ci := 14) F M (lw_V q819 q820 q821 q124 q822) dX10_spread_46 hj_J2_add rfl (Nat.le_of_ble_eq_true rfl) (Nat.le_of_ble_eq_true rfl) (Nat.le_of_ble_eq_true rfl) rfl (jK_J2_add J _ _ _ _ _ w) (fun v9 h56 k57 q9 => ?_)
  obtain ⟨r58, rfl, w⟩ := q9
  refine jr_pop (pc := 49) F dX10_spread_49 rfl ?_
  refine jr_iconst (pc := 50) F dX10_spread_50 ?_
  refine jr_istore (pc := 51) F (vs' := [(4, .inl _), (3, .inr (.inr (.inl _))), (2, .inl _), (0, .inr (.inr (.inl _))), (1, .inl _)]) dX10_spread_51 (Nat.le_of_ble_eq_true rfl) rfl ?_
  refine jj_J.sub [3, 2, 1, 0] rfl ?_
  obtain ⟨n9, w⟩ := w
  exact sC_X10_spread_l53 F M O J hi hQ hE _ _ _ n9 _ _ _ w

theorem cC_X10_spread {G : jj_G} {l : Launch} (J : jj_GJ G l) {x0 : Option Nat} {x1 : Int} {Q : jj_H → Prop} {E : String → Nat → jj_H → Prop} {h : jj_H} {k : Nat} (w : fC_X10_spread (jj_gk G) x0 x1 Q E h k) : jj_Ct G l yX10_spread (ws_ yX10_spread cX10_spread 6 (none)) 15 672 [.inr (.inr (.inl x0)), .inl x1] h k (jc_v Q) E := by
  refine jj_Ct.of (jK_gs J).1 (by decide +kernel) (Nat.le_of_ble_eq_true rfl) rfl (fun X hG hl F M O hnm => ?_)
  subst hG; subst hl
  exact sC_X10_spread F M O J hnm (fun h q => ⟨rfl, q⟩) (fun _ _ _ q => q) _ _ _ _ w
theorem hC_X10_spread : yX10_spread.cls = RX10 ∧ yX10_spread.cls ≠ "java/lang/invoke/MethodHandle" ∧ yX10_spread.cls ≠ "java/lang/invoke/VarHandle" ∧ (parseMethodDescriptor yX10_spread.desc).map (fun d => d.parameters.length) = some 1 := by decide +kernel
/-! X5_size()I -/
def fC_X5_size (gk : Nat → Nat) (x0 : Option Nat) (Q : Int → jj_H → Prop) (E : String → Nat → jj_H → Prop) (h : jj_H) (k : Nat) : Prop :=
  jp_gr h x0 3 0 (fun g1 =>
  jq_J2_size g1 (fun r4 h2 k3 =>
  Q r4 h2) h k)
theorem sC_X5_size {X : jj_X} {N : Option jj_AV → jj_H → Prop} {XN : String → Nat → jj_H → Prop} (F : jj_F X RX5 cX5_size 1) (M : jj_M X (some (.int)) 13 620 N XN) (O : jj_no X) (J : jj_GJ X.1 X.2.2.1) (hi : X.2.2.2.2.2.2.2.2.2.1.name = yX5_size.name) {Q : Int → jj_H → Prop} {E : String → Nat → jj_H → Prop} (hQ : ∀ r h, Q r h → N (some (.inl r)) h) (hE : ∀ e q h, E e q h → XN e q h) (x0 : Option Nat) : ∀ (h : jj_H) (k : Nat), fC_X5_size (jj_gk X.1) x0 Q E h k → jj_J X 1 0 [(0, .inr (.inr (.inl x0)))] [] h k := by
  intro h k w
  unfold fC_X5_size at w
  refine jr_aload_n (pc := 0) F (j := 0) dX5_size_0 rfl ?_
  refine jr_gr (pc := 1) (ci := 3) (f := 0) F rfl in_X5 (Nat.le_of_ble_eq_true rfl) q1861 dX5_size_1 w (fun g1 w => ?_)
  refine jr_jV (pc := 4) (As := []) (ci := 14) F M (lw_V q709 q676 q677 q124 q678) dX5_size_4 hj_J2_size rfl (Nat.le_of_ble_eq_true rfl) (Nat.le_of_ble_eq_true rfl) (Nat.le_of_ble_eq_true rfl) rfl (jK_J2_size J _ _ _ _ w) (fun v9 h2 k3 q9 => ?_)
  obtain ⟨r4, rfl, w⟩ := q9
  exact jr_iret (pc := 7) F M dX5_size_7 (hQ _ _ w)

theorem cC_X5_size {G : jj_G} {l : Launch} (J : jj_GJ G l) {x0 : Option Nat} {Q : Int → jj_H → Prop} {E : String → Nat → jj_H → Prop} {h : jj_H} {k : Nat} (w : fC_X5_size (jj_gk G) x0 Q E h k) : jj_Ct G l yX5_size (ws_ yX5_size cX5_size 1 (some (.int))) 13 620 [.inr (.inr (.inl x0))] h k (jc_i Q) E := by
  refine jj_Ct.of (jK_gs J).1 (by decide +kernel) (Nat.le_of_ble_eq_true rfl) rfl (fun X hG hl F M O hnm => ?_)
  subst hG; subst hl
  exact sC_X5_size F M O J hnm (fun r h q => ⟨r, rfl, q⟩) (fun _ _ _ q => q) _ _ _ w
theorem hC_X5_size : yX5_size.cls = RX5 ∧ yX5_size.cls ≠ "java/lang/invoke/MethodHandle" ∧ yX5_size.cls ≠ "java/lang/invoke/VarHandle" ∧ (parseMethodDescriptor yX5_size.desc).map (fun d => d.parameters.length) = some 0 := by decide +kernel
/-! X11_walk(LNoteImporter$Edition;LNoteImporter$Edition;[I)V -/
def fC_X11_walk_l14 (gk : Nat → Nat) (x0 : Option Nat) (x1 : Option Nat) (x2 : Option Nat) (x3 : Option Nat) (x4 : Int) (Q : jj_H → Prop) (E : String → Nat → jj_H → Prop) : Nat → Int → Int → jj_H → Nat → Prop
  | 0, _, _, _, _ => False
  | n + 1, x5, x6, h, k =>
  jp_is h x1 3 ∧ fC_X5_size gk x1 (fun r2 h3 =>
  jj_r x5 ∧ jj_r r2 ∧ (r2 ≤ x5 → (
    Q h3)) ∧
  (¬ r2 ≤ x5 → (
    jp_is h3 x2 3 ∧ fC_X5_size gk x2 (fun r5 h6 =>
    jj_r x6 ∧ jj_r r5 ∧ (r5 ≤ x6 → (
      Q h6)) ∧
    (¬ r5 ≤ x6 → (
      jp_gr h6 x1 3 0 (fun g7 =>
      jq_J2_get g7 x5 (fun r10 h8 k9 =>
      jp_is h8 r10 25 ∧
      jp_gr h8 x2 3 0 (fun g11 =>
      jq_J2_get g11 x6 (fun r14 h12 k13 =>
      jq_J9_equals r10 r14 (fun r17 h15 k16 =>
      jj_r r17 ∧ (r17 = 0 → (
        jp_al h15 x3 0 ((x4 * (x5 + 1)) + x6) (fun g18 =>
        jp_al h15 x3 0 (((x4 * x5) + x6) + 1) (fun g19 =>
        jj_r g18 ∧ jj_r g19 ∧ (g18 < g19 → (
          ∀ v20, v20 = x6 + 1 →
          fC_X11_walk_l14 gk x0 x1 x2 x3 x4 Q E n x5 v20 h15 k16)) ∧
        (¬ g18 < g19 → (
          ∀ v21, v21 = x5 + 1 →
          fC_X11_walk_l14 gk x0 x1 x2 x3 x4 Q E n v21 x6 h15 k16)))))) ∧
      (¬ r17 = 0 → (
        jp_gr h15 x0 5 0 (fun g22 =>
        jp_as h15 g22 0 x5 x6 (fun h23 =>
        ∀ v24, v24 = x5 + 1 →
        ∀ v25, v25 = x6 + 1 →
        fC_X11_walk_l14 gk x0 x1 x2 x3 x4 Q E n v24 v25 h23 k16))))) h12 k13) h8 k9)) h6 k)))) E h3 0))) E h 0
def fC_X11_walk (gk : Nat → Nat) (x0 : Option Nat) (x1 : Option Nat) (x2 : Option Nat) (x3 : Option Nat) (Q : jj_H → Prop) (E : String → Nat → jj_H → Prop) (h : jj_H) (k : Nat) : Prop :=
  jp_is h x2 3 ∧ fC_X5_size gk x2 (fun r27 h28 =>
  ∀ v29, v29 = r27 + 1 →
  ∃ n9, fC_X11_walk_l14 gk x0 x1 x2 x3 v29 Q E n9 0 0 h28 k) E h 0
theorem sC_X11_walk_l14 {X : jj_X} {N : Option jj_AV → jj_H → Prop} {XN : String → Nat → jj_H → Prop} (F : jj_F X RX11 cX11_walk 7) (M : jj_M X (none) 14 640 N XN) (O : jj_no X) (J : jj_GJ X.1 X.2.2.1) (hi : X.2.2.2.2.2.2.2.2.2.1.name = yX11_walk.name) {Q : jj_H → Prop} {E : String → Nat → jj_H → Prop} (hQ : ∀ h, Q h → N none h) (hE : ∀ e q h, E e q h → XN e q h) (x0 : Option Nat) (x1 : Option Nat) (x2 : Option Nat) (x3 : Option Nat) (x4 : Int) : ∀ (n : Nat) (x5 : Int) (x6 : Int) (h : jj_H) (k : Nat), fC_X11_walk_l14 (jj_gk X.1) x0 x1 x2 x3 x4 Q E n x5 x6 h k → jj_J X 7 14 [(0, .inr (.inr (.inl x0))), (1, .inr (.inr (.inl x1))), (2, .inr (.inr (.inl x2))), (3, .inr (.inr (.inl x3))), (4, .inl x4), (5, .inl x5), (6, .inl x6)] [] h k := by
  intro n
  induction n with
  | zero =>
    intro x5 x6 h k w
    exact (show False from w).elim
  | succ n ih =>
    intro x5 x6 h k w
    rw [fC_X11_walk_l14] at w
    refine jr_iload (pc := 14) F (j := 5) dX11_walk_14 rfl ?_
    refine jr_aload_n (pc := 16) F (j := 1) dX11_walk_16 rfl ?_
    obtain ⟨hi9, w⟩ := w
    refine jr_cV (pc := 17) (As := []) (ci := 3) F M (lw_V q705 q706 q707 q149 q708) dX11_walk_17 hC_X5_size rfl (Nat.le_of_ble_eq_true rfl) (Nat.le_of_ble_eq_true rfl) (Nat.le_of_ble_eq_true rfl) rfl hi9 (Nat.zero_le _) (cC_X5_size J w) (fun v9 h3 q9 => ?_) (fun E9 q9 h9 w9 => jr_out F M O (hE _ _ _ w9))
    obtain ⟨r2, rfl, w⟩ := q9
    obtain ⟨hx9, hy9, w1, w2⟩ := w
    refine jr_icmp_ge (pc := 20) (tgt := 116) F hx9 hy9 dX11_walk_20 rfl (fun c9 => ?_) (fun c9 => ?_)
    · have w := w1 c9
      exact jr_vret (pc := 116) F M dX11_walk_116 (hQ _ w)
    · have w := w2 c9
      refine jr_iload (pc := 23) F (j := 6) dX11_walk_23 rfl ?_
      refine jr_aload_n (pc := 25) F (j := 2) dX11_walk_25 rfl ?_
      obtain ⟨hi9, w⟩ := w
      refine jr_cV (pc := 26) (As := []) (ci := 3) F M (lw_V q705 q706 q707 q149 q708) dX11_walk_26 hC_X5_size rfl (Nat.le_of_ble_eq_true rfl) (Nat.le_of_ble_eq_true rfl) (Nat.le_of_ble_eq_true rfl) rfl hi9 (Nat.zero_le _) (cC_X5_size J w) (fun v9 h6 q9 => ?_) (fun E9 q9 h9 w9 => jr_out F M O (hE _ _ _ w9))
      obtain ⟨r5, rfl, w⟩ := q9
      obtain ⟨hx9, hy9, w1, w2⟩ := w
      refine jr_icmp_ge (pc := 29) (tgt := 116) F hx9 hy9 dX11_walk_29 rfl (fun c9 => ?_) (fun c9 => ?_)
      · have w := w1 c9
        exact jr_vret (pc := 116) F M dX11_walk_116 (hQ _ w)
      · have w := w2 c9
        refine jr_aload_n (pc := 32) F (j := 1) dX11_walk_32 rfl ?_
        refine jr_grN (pc := 33) (ci := 3) (f := 0) F rfl in_X5 (Nat.le_of_ble_eq_true rfl) q1862 dX11_walk_33 w (fun g7 w => ?_)
        refine jr_iload (pc := 36) F (j := 5) dX11_walk_36 rfl ?_
        refine jr_jV (pc := 38) (As := [_]) (ci := 14) F M (lw_V q710 q681 q682 q124 q683) dX11_walk_38 hj_J2_get rfl (Nat.le_of_ble_eq_true rfl) (Nat.le_of_ble_eq_true rfl) (Nat.le_of_ble_eq_true rfl) rfl (jK_J2_get J _ _ _ _ _ w) (fun v9 h8 k9 q9 => ?_)
        obtain ⟨r10, rfl, w⟩ := q9
        obtain ⟨hi9, w⟩ := w
        refine jr_cast (pc := 41) (ci := 25) F rfl q711 dX11_walk_41 hi9 ?_
        refine jr_aload_n (pc := 44) F (j := 2) dX11_walk_44 rfl ?_
        refine jr_grN (pc := 45) (ci := 3) (f := 0) F rfl in_X5 (Nat.le_of_ble_eq_true rfl) q1862 dX11_walk_45 w (fun g11 w => ?_)
        refine jr_iload (pc := 48) F (j := 6) dX11_walk_48 rfl ?_
        refine jr_jV (pc := 50) (As := [_]) (ci := 14) F M (lw_V q710 q681 q682 q124 q683) dX11_walk_50 hj_J2_get rfl (Nat.le_of_ble_eq_true rfl) (Nat.le_of_ble_eq_true rfl) (Nat.le_of_ble_eq_true rfl) rfl (jK_J2_get J _ _ _ _ _ w) (fun v9 h12 k13 q9 => ?_)
        obtain ⟨r14, rfl, w⟩ := q9
        refine jr_jV (pc := 53) (As := [_]) (ci := 25) F M (lw_V q712 q713 q714 q131 q715) dX11_walk_53 hj_J9_equals rfl (Nat.le_of_ble_eq_true rfl) (Nat.le_of_ble_eq_true rfl) (Nat.le_of_ble_eq_true rfl) rfl (jK_J9_equals J _ _ _ _ _ w) (fun v9 h15 k16 q9 => ?_)
        obtain ⟨r17, rfl, w⟩ := q9
        obtain ⟨hx9, w1, w2⟩ := w
        refine jr_if_eq (pc := 56) (tgt := 77) F hx9 dX11_walk_56 rfl (fun c9 => ?_) (fun c9 => ?_)
        · have w := w1 c9
          refine jr_aload_n (pc := 77) F (j := 3) dX11_walk_77 rfl ?_
          refine jr_iload (pc := 78) F (j := 4) dX11_walk_78 rfl ?_
          refine jr_iload (pc := 80) F (j := 5) dX11_walk_80 rfl ?_
          refine jr_iconst (pc := 82) F dX11_walk_82 ?_
          refine jr_iadd (pc := 83) F dX11_walk_83 ?_
          refine jr_imul (pc := 84) F dX11_walk_84 ?_
          refine jr_iload (pc := 85) F (j := 6) dX11_walk_85 rfl ?_
          refine jr_iadd (pc := 87) F dX11_walk_87 ?_
          refine jr_iald (pc := 88) F dX11_walk_88 w (fun g18 w => ?_)
          refine jr_aload_n (pc := 89) F (j := 3) dX11_walk_89 rfl ?_
          refine jr_iload (pc := 90) F (j := 4) dX11_walk_90 rfl ?_
          refine jr_iload (pc := 92) F (j := 5) dX11_walk_92 rfl ?_
          refine jr_imul (pc := 94) F dX11_walk_94 ?_
          refine jr_iload (pc := 95) F (j := 6) dX11_walk_95 rfl ?_
          refine jr_iadd (pc := 97) F dX11_walk_97 ?_
          refine jr_iconst (pc := 98) F dX11_walk_98 ?_
          refine jr_iadd (pc := 99) F dX11_walk_99 ?_
          refine jr_iald (pc := 100) F dX11_walk_100 w (fun g19 w => ?_)
          obtain ⟨hx9, hy9, w1, w2⟩ := w
          refine jr_icmp_lt (pc := 101) (tgt := 110) F hx9 hy9 dX11_walk_101 rfl (fun c9 => ?_) (fun c9 => ?_)
          · have w := w1 c9
            have w := w _ rfl
            refine jr_iinc (pc := 110) F (j := 6) (vs' := [(6, .inl _), (0, .inr (.inr (.inl _))), (1, .inr (.inr (.inl _))), (2, .inr (.inr (.inl _))), (3, .inr (.inr (.inl _))), (4, .inl _), (5, .inl _)]) dX11_walk_110 rfl rfl (Nat.le_of_ble_eq_true rfl) rfl ?_
            refine jr_goto (pc := 113) (tgt := 14) F dX11_walk_113 rfl ?_
            refine jj_J.sub [1, 2, 3, 4, 5, 6, 0] rfl ?_
            exact ih _ _ _ _ w
          · have w := w2 c9
            have w := w _ rfl
            refine jr_iinc (pc := 104) F (j := 5) (vs' := [(5, .inl _), (0, .inr (.inr (.inl _))), (1, .inr (.inr (.inl _))), (2, .inr (.inr (.inl _))), (3, .inr (.inr (.inl _))), (4, .inl _), (6, .inl _)]) dX11_walk_104 rfl rfl (Nat.le_of_ble_eq_true rfl) rfl ?_
            refine jr_goto (pc := 107) (tgt := 14) F dX11_walk_107 rfl ?_
            refine jj_J.sub [1, 2, 3, 4, 5, 0, 6] rfl ?_
            exact ih _ _ _ _ w
        · have w := w2 c9
          refine jr_aload_n (pc := 59) F (j := 0) dX11_walk_59 rfl ?_
          refine jr_gr (pc := 60) (ci := 5) (f := 0) F rfl in_X11 (Nat.le_of_ble_eq_true rfl) q725 dX11_walk_60 w (fun g22 w => ?_)
          refine jr_iload (pc := 63) F (j := 5) dX11_walk_63 rfl ?_
          refine jr_iload (pc := 65) F (j := 6) dX11_walk_65 rfl ?_
          refine jr_iast (pc := 67) F dX11_walk_67 w (fun h23 w => ?_)
          have w := w _ rfl
          refine jr_iinc (pc := 68) F (j := 5) (vs' := [(5, .inl _), (0, .inr (.inr (.inl _))), (1, .inr (.inr (.inl _))), (2, .inr (.inr (.inl _))), (3, .inr (.inr (.inl _))), (4, .inl _), (6, .inl _)]) dX11_walk_68 rfl rfl (Nat.le_of_ble_eq_true rfl) rfl ?_
          have w := w _ rfl
          refine jr_iinc (pc := 71) F (j := 6) (vs' := [(6, .inl _), (5, .inl _), (0, .inr (.inr (.inl _))), (1, .inr (.inr (.inl _))), (2, .inr (.inr (.inl _))), (3, .inr (.inr (.inl _))), (4, .inl _)]) dX11_walk_71 rfl rfl (Nat.le_of_ble_eq_true rfl) rfl ?_
          refine jr_goto (pc := 74) (tgt := 14) F dX11_walk_74 rfl ?_
          refine jj_J.sub [2, 3, 4, 5, 6, 1, 0] rfl ?_
          exact ih _ _ _ _ w

theorem sC_X11_walk {X : jj_X} {N : Option jj_AV → jj_H → Prop} {XN : String → Nat → jj_H → Prop} (F : jj_F X RX11 cX11_walk 7) (M : jj_M X (none) 14 640 N XN) (O : jj_no X) (J : jj_GJ X.1 X.2.2.1) (hi : X.2.2.2.2.2.2.2.2.2.1.name = yX11_walk.name) {Q : jj_H → Prop} {E : String → Nat → jj_H → Prop} (hQ : ∀ h, Q h → N none h) (hE : ∀ e q h, E e q h → XN e q h) (x0 : Option Nat) (x1 : Option Nat) (x2 : Option Nat) (x3 : Option Nat) : ∀ (h : jj_H) (k : Nat), fC_X11_walk (jj_gk X.1) x0 x1 x2 x3 Q E h k → jj_J X 7 0 [(0, .inr (.inr (.inl x0))), (1, .inr (.inr (.inl x1))), (2, .inr (.inr (.inl x2))), (3, .inr (.inr (.inl x3)))] [] h k := by
  intro h k w
  unfold fC_X11_walk at w
  refine jr_aload_n (pc := 0) F (j := 2) dX11_walk_0 rfl ?_
  obtain ⟨hi9, w⟩ := w
  refine jr_cV (pc := 1) (As := []) (ci := 3) F M (lw_V q705 q706 q707 q149 q708) dX11_walk_1 hC_X5_size rfl (Nat.le_of_ble_eq_true rfl) (Nat.le_of_ble_eq_true rfl) (Nat.le_of_ble_eq_true rfl) rfl hi9 (Nat.zero_le _) (cC_X5_size J w) (fun v9 h28 q9 => ?_) (fun E9 q9 h9 w9 => jr_out F M O (hE _ _ _ w9))
  obtain ⟨r27, rfl, w⟩ := q9
  refine jr_iconst (pc := 4) F dX11_walk_4 ?_
  refine jr_iadd (pc := 5) F dX11_walk_5 ?_
  have w := w _ rfl
  refine jr_istore (pc := 6) F (vs' := [(4, .inl _), (0, .inr (.inr (.inl _))), (1, .inr (.inr (.inl _))), (2, .inr (.inr (.inl _))), (3, .inr (.inr (.inl _)))]) dX11_walk_6 (Nat.le_of_ble_eq_true rfl) rfl ?_
  refine jr_iconst (pc := 8) F dX11_walk_8 ?_
  refine jr_istore (pc := 9) F (vs' := [(5, .inl _), (4, .inl _), (0, .inr (.inr (.inl _))), (1, .inr (.inr (.inl _))), (2, .inr (.inr (.inl _))), (3, .inr (.inr (.inl _)))]) dX11_walk_9 (Nat.le_of_ble_eq_true rfl) rfl ?_
  refine jr_iconst (pc := 11) F dX11_walk_11 ?_
  refine jr_istore (pc := 12) F (vs' := [(6, .inl _), (5, .inl _), (4, .inl _), (0, .inr (.inr (.inl _))), (1, .inr (.inr (.inl _))), (2, .inr (.inr (.inl _))), (3, .inr (.inr (.inl _)))]) dX11_walk_12 (Nat.le_of_ble_eq_true rfl) rfl ?_
  refine jj_J.sub [3, 4, 5, 6, 2, 1, 0] rfl ?_
  obtain ⟨n9, w⟩ := w
  exact sC_X11_walk_l14 F M O J hi hQ hE _ _ _ _ _ n9 _ _ _ _ w

theorem cC_X11_walk {G : jj_G} {l : Launch} (J : jj_GJ G l) {x0 : Option Nat} {x1 : Option Nat} {x2 : Option Nat} {x3 : Option Nat} {Q : jj_H → Prop} {E : String → Nat → jj_H → Prop} {h : jj_H} {k : Nat} (w : fC_X11_walk (jj_gk G) x0 x1 x2 x3 Q E h k) : jj_Ct G l yX11_walk (ws_ yX11_walk cX11_walk 7 (none)) 14 640 [.inr (.inr (.inl x0)), .inr (.inr (.inl x1)), .inr (.inr (.inl x2)), .inr (.inr (.inl x3))] h k (jc_v Q) E := by
  refine jj_Ct.of (jK_gs J).1 (by decide +kernel) (Nat.le_of_ble_eq_true rfl) rfl (fun X hG hl F M O hnm => ?_)
  subst hG; subst hl
  exact sC_X11_walk F M O J hnm (fun h q => ⟨rfl, q⟩) (fun _ _ _ q => q) _ _ _ _ _ _ w
theorem hC_X11_walk : yX11_walk.cls = RX11 ∧ yX11_walk.cls ≠ "java/lang/invoke/MethodHandle" ∧ yX11_walk.cls ≠ "java/lang/invoke/VarHandle" ∧ (parseMethodDescriptor yX11_walk.desc).map (fun d => d.parameters.length) = some 3 := by decide +kernel
/-! X11_init(LNoteImporter$Edition;LNoteImporter$Edition;)V -/
def fC_X11_init_l161 (gk : Nat → Nat) (x0 : Option Nat) (x1 : Option Nat) (x2 : Option Nat) (x4 : Option Nat) (Q : jj_H → Prop) (E : String → Nat → jj_H → Prop) : Nat → Int → jj_H → Nat → Prop
  | 0, _, _, _ => False
  | n + 1, x5, h, k =>
  jp_gr h x0 5 0 (fun g1 =>
  jp_ai h g1 0 (fun g2 =>
  jj_r x5 ∧ jj_r g2 ∧ (g2 ≤ x5 → (
    jp_is h x0 5 ∧ fC_X11_walk gk x0 x1 x2 x4 (fun h5 =>
    Q h5) E h 0)) ∧
  (¬ g2 ≤ x5 → (
    jp_gr h x0 5 0 (fun g6 =>
    jp_as h g6 0 x5 (-1) (fun h7 =>
    ∀ v8, v8 = x5 + 1 →
    fC_X11_init_l161 gk x0 x1 x2 x4 Q E n v8 h7 k))))))
def fC_X11_init_l54 (gk : Nat → Nat) (x0 : Option Nat) (x1 : Option Nat) (x2 : Option Nat) (x3 : Int) (x4 : Option Nat) (x5 : Int) (K41 : Int → jj_H → Nat → Prop) (Q : jj_H → Prop) (E : String → Nat → jj_H → Prop) : Nat → Int → jj_H → Nat → Prop
  | 0, _, _, _ => False
  | n + 1, x6, h, k =>
  jj_r x6 ∧ (x6 < 0 → (
    ∀ v9, v9 = x5 + (-1) →
    K41 v9 h k)) ∧
  (¬ x6 < 0 → (
    jp_gr h x1 3 0 (fun g10 =>
    jq_J2_get g10 x5 (fun r13 h11 k12 =>
    jp_is h11 r13 25 ∧
    jp_gr h11 x2 3 0 (fun g14 =>
    jq_J2_get g14 x6 (fun r17 h15 k16 =>
    jq_J9_equals r13 r17 (fun r20 h18 k19 =>
    jj_r r20 ∧ (r20 = 0 → (
      jp_al h18 x4 0 ((x3 * (x5 + 1)) + x6) (fun g21 =>
      jp_al h18 x4 0 (((x3 * x5) + x6) + 1) (fun g22 =>
      jj_r g21 ∧ jj_r g22 ∧
      jp_as h18 x4 0 ((x3 * x5) + x6) (max g21 g22) (fun h23 =>
      ∀ v24, v24 = x6 + (-1) →
      fC_X11_init_l54 gk x0 x1 x2 x3 x4 x5 K41 Q E n v24 h23 k19))))) ∧
    (¬ r20 = 0 → (
      jp_al h18 x4 0 (((x3 * (x5 + 1)) + x6) + 1) (fun g25 =>
      jp_as h18 x4 0 ((x3 * x5) + x6) (1 + g25) (fun h26 =>
      ∀ v27, v27 = x6 + (-1) →
      fC_X11_init_l54 gk x0 x1 x2 x3 x4 x5 K41 Q E n v27 h26 k19))))) h15 k16) h11 k12)) h k)))
def fC_X11_init_l41 (gk : Nat → Nat) (x0 : Option Nat) (x1 : Option Nat) (x2 : Option Nat) (x3 : Int) (x4 : Option Nat) (Q : jj_H → Prop) (E : String → Nat → jj_H → Prop) : Nat → Int → jj_H → Nat → Prop
  | 0, _, _, _ => False
  | n + 1, x5, h, k =>
  jj_r x5 ∧ (x5 < 0 → (
    ∃ n9, fC_X11_init_l161 gk x0 x1 x2 x4 Q E n9 0 h k)) ∧
  (¬ x5 < 0 → (
    jp_is h x2 3 ∧ fC_X5_size gk x2 (fun r29 h30 =>
    ∀ v31, v31 = r29 - 1 →
    ∃ n9, fC_X11_init_l54 gk x0 x1 x2 x3 x4 x5 (fC_X11_init_l41 gk x0 x1 x2 x3 x4 Q E n) Q E n9 v31 h30 k) E h 0))
def fC_X11_init (gk : Nat → Nat) (x0 : Option Nat) (x1 : Option Nat) (x2 : Option Nat) (Q : jj_H → Prop) (E : String → Nat → jj_H → Prop) (h : jj_H) (k : Nat) : Prop :=
  jp_so x0 ∧
  jp_is h x1 3 ∧ fC_X5_size gk x1 (fun r33 h34 =>
  jp_ni h34 k 0 r33 (fun a35 h36 k37 =>
  jp_pr h36 x0 5 0 (some a35) (fun h38 =>
  jp_is h38 x2 3 ∧ fC_X5_size gk x2 (fun r40 h41 =>
  ∀ v42, v42 = r40 + 1 →
  jp_is h41 x1 3 ∧ fC_X5_size gk x1 (fun r44 h45 =>
  jp_ni h45 k37 0 ((r44 + 1) * v42) (fun a46 h47 k48 =>
  jp_is h47 x1 3 ∧ fC_X5_size gk x1 (fun r50 h51 =>
  ∀ v52, v52 = r50 - 1 →
  ∃ n9, fC_X11_init_l41 gk x0 x1 x2 v42 (some a46) Q E n9 v52 h51 k48) E h47 0)) E h41 0) E h38 0))) E h 0
theorem sC_X11_init_l161 {X : jj_X} {N : Option jj_AV → jj_H → Prop} {XN : String → Nat → jj_H → Prop} (F : jj_F X RX11 cX11_init 8) (M : jj_M X (none) 15 666 N XN) (O : jj_no X) (J : jj_GJ X.1 X.2.2.1) (hi : X.2.2.2.2.2.2.2.2.2.1.name = yX11_init.name) {Q : jj_H → Prop} {E : String → Nat → jj_H → Prop} (hQ : ∀ h, Q h → N none h) (hE : ∀ e q h, E e q h → XN e q h) (x0 : Option Nat) (x1 : Option Nat) (x2 : Option Nat) (x4 : Option Nat) : ∀ (n : Nat) (x5 : Int) (h : jj_H) (k : Nat), fC_X11_init_l161 (jj_gk X.1) x0 x1 x2 x4 Q E n x5 h k → jj_J X 8 161 [(0, .inr (.inr (.inl x0))), (1, .inr (.inr (.inl x1))), (2, .inr (.inr (.inl x2))), (4, .inr (.inr (.inl x4))), (5, .inl x5)] [] h k := by
  intro n
  induction n with
  | zero =>
    intro x5 h k w
    exact (show False from w).elim
  | succ n ih =>
    intro x5 h k w
    rw [fC_X11_init_l161] at w
    refine jr_iload (pc := 161) F (j := 4) dX11_init_161 rfl ?_
    refine jr_aload_n (pc := 163) F (j := 0) dX11_init_163 rfl ?_
    refine jr_gr (pc := 164) (ci := 5) (f := 0) F rfl in_X11 (Nat.le_of_ble_eq_true rfl) q725 dX11_init_164 w (fun g1 w => ?_)
    refine jr_alenI (pc := 167) F ⟨0, _, fun _ => rfl⟩ dX11_init_167 w (fun g2 w => ?_)
    obtain ⟨hx9, hy9, w1, w2⟩ := w
    refine jr_icmp_ge (pc := 168) (tgt := 185) F hx9 hy9 dX11_init_168 rfl (fun c9 => ?_) (fun c9 => ?_)
    · have w := w1 c9
      refine jr_aload_n (pc := 185) F (j := 0) dX11_init_185 rfl ?_
      refine jr_aload_n (pc := 186) F (j := 1) dX11_init_186 rfl ?_
      refine jr_aload_n (pc := 187) F (j := 2) dX11_init_187 rfl ?_
      refine jr_aload (pc := 188) F (j := 3) dX11_init_188 rfl ?_
      obtain ⟨hi9, w⟩ := w
      refine jr_cV (pc := 190) (As := [_, _, _]) (ci := 5) F M (lw_V q721 q723 qs2 q178 q724) dX11_init_190 hC_X11_walk rfl (Nat.le_of_ble_eq_true rfl) (Nat.le_of_ble_eq_true rfl) (Nat.le_of_ble_eq_true rfl) rfl hi9 (Nat.zero_le _) (cC_X11_walk J w) (fun v9 h5 q9 => ?_) (fun E9 q9 h9 w9 => jr_out F M O (hE _ _ _ w9))
      obtain ⟨rfl, w⟩ := q9
      exact jr_vret (pc := 193) F M dX11_init_193 (hQ _ w)
    · have w := w2 c9
      refine jr_aload_n (pc := 171) F (j := 0) dX11_init_171 rfl ?_
      refine jr_gr (pc := 172) (ci := 5) (f := 0) F rfl in_X11 (Nat.le_of_ble_eq_true rfl) q725 dX11_init_172 w (fun g6 w => ?_)
      refine jr_iload (pc := 175) F (j := 4) dX11_init_175 rfl ?_
      refine jr_iconst (pc := 177) F dX11_init_177 ?_
      refine jr_iast (pc := 178) F dX11_init_178 w (fun h7 w => ?_)
      have w := w _ rfl
      refine jr_iinc (pc := 179) F (j := 4) (vs' := [(5, .inl _), (0, .inr (.inr (.inl _))), (1, .inr (.inr (.inl _))), (2, .inr (.inr (.inl _))), (4, .inr (.inr (.inl _)))]) dX11_init_179 rfl rfl (Nat.le_of_ble_eq_true rfl) rfl ?_
      refine jr_goto (pc := 182) (tgt := 161) F dX11_init_182 rfl ?_
      refine jj_J.sub [1, 2, 3, 4, 0] rfl ?_
      exact ih _ _ _ w

theorem sC_X11_init_l54 {X : jj_X} {N : Option jj_AV → jj_H → Prop} {XN : String → Nat → jj_H → Prop} (F : jj_F X RX11 cX11_init 8) (M : jj_M X (none) 15 666 N XN) (O : jj_no X) (J : jj_GJ X.1 X.2.2.1) (hi : X.2.2.2.2.2.2.2.2.2.1.name = yX11_init.name) {Q : jj_H → Prop} {E : String → Nat → jj_H → Prop} (hQ : ∀ h, Q h → N none h) (hE : ∀ e q h, E e q h → XN e q h) (x0 : Option Nat) (x1 : Option Nat) (x2 : Option Nat) (x3 : Int) (x4 : Option Nat) (x5 : Int) {K41 : Int → jj_H → Nat → Prop} (hK41 : ∀ (z5 : Int) (h : jj_H) (k : Nat), K41 z5 h k → jj_J X 8 41 [(0, .inr (.inr (.inl x0))), (1, .inr (.inr (.inl x1))), (2, .inr (.inr (.inl x2))), (3, .inl x3), (4, .inr (.inr (.inl x4))), (5, .inl z5)] [] h k) : ∀ (n : Nat) (x6 : Int) (h : jj_H) (k : Nat), fC_X11_init_l54 (jj_gk X.1) x0 x1 x2 x3 x4 x5 K41 Q E n x6 h k → jj_J X 8 54 [(0, .inr (.inr (.inl x0))), (1, .inr (.inr (.inl x1))), (2, .inr (.inr (.inl x2))), (3, .inl x3), (4, .inr (.inr (.inl x4))), (5, .inl x5), (6, .inl x6)] [] h k := by
  intro n
  induction n with
  | zero =>
    intro x6 h k w
    exact (show False from w).elim
  | succ n ih =>
    intro x6 h k w
    rw [fC_X11_init_l54] at w
    refine jr_iload (pc := 54) F (j := 6) dX11_init_54 rfl ?_
    obtain ⟨hx9, w1, w2⟩ := w
    refine jr_if_lt (pc := 56) (tgt := 152) F hx9 dX11_init_56 rfl (fun c9 => ?_) (fun c9 => ?_)
    · have w := w1 c9
      have w := w _ rfl
      refine jr_iinc (pc := 152) F (j := 5) (vs' := [(5, .inl _), (0, .inr (.inr (.inl _))), (1, .inr (.inr (.inl _))), (2, .inr (.inr (.inl _))), (3, .inl _), (4, .inr (.inr (.inl _))), (6, .inl _)]) dX11_init_152 rfl rfl (Nat.le_of_ble_eq_true rfl) rfl ?_
      refine jr_goto (pc := 155) (tgt := 41) F dX11_init_155 rfl ?_
      refine jj_J.sub [1, 2, 3, 4, 5, 0] rfl ?_
      exact hK41 _ _ _ w
    · have w := w2 c9
      refine jr_aload_n (pc := 59) F (j := 1) dX11_init_59 rfl ?_
      refine jr_grN (pc := 60) (ci := 3) (f := 0) F rfl in_X5 (Nat.le_of_ble_eq_true rfl) q1862 dX11_init_60 w (fun g10 w => ?_)
      refine jr_iload (pc := 63) F (j := 5) dX11_init_63 rfl ?_
      refine jr_jV (pc := 65) (As := [_]) (ci := 14) F M (lw_V q710 q681 q682 q124 q683) dX11_init_65 hj_J2_get rfl (Nat.le_of_ble_eq_true rfl) (Nat.le_of_ble_eq_true rfl) (Nat.le_of_ble_eq_true rfl) rfl (jK_J2_get J _ _ _ _ _ w) (fun v9 h11 k12 q9 => ?_)
      obtain ⟨r13, rfl, w⟩ := q9
      obtain ⟨hi9, w⟩ := w
      refine jr_cast (pc := 68) (ci := 25) F rfl q711 dX11_init_68 hi9 ?_
      refine jr_aload_n (pc := 71) F (j := 2) dX11_init_71 rfl ?_
      refine jr_grN (pc := 72) (ci := 3) (f := 0) F rfl in_X5 (Nat.le_of_ble_eq_true rfl) q1862 dX11_init_72 w (fun g14 w => ?_)
      refine jr_iload (pc := 75) F (j := 6) dX11_init_75 rfl ?_
      refine jr_jV (pc := 77) (As := [_]) (ci := 14) F M (lw_V q710 q681 q682 q124 q683) dX11_init_77 hj_J2_get rfl (Nat.le_of_ble_eq_true rfl) (Nat.le_of_ble_eq_true rfl) (Nat.le_of_ble_eq_true rfl) rfl (jK_J2_get J _ _ _ _ _ w) (fun v9 h15 k16 q9 => ?_)
      obtain ⟨r17, rfl, w⟩ := q9
      refine jr_jV (pc := 80) (As := [_]) (ci := 25) F M (lw_V q712 q713 q714 q131 q715) dX11_init_80 hj_J9_equals rfl (Nat.le_of_ble_eq_true rfl) (Nat.le_of_ble_eq_true rfl) (Nat.le_of_ble_eq_true rfl) rfl (jK_J9_equals J _ _ _ _ _ w) (fun v9 h18 k19 q9 => ?_)
      obtain ⟨r20, rfl, w⟩ := q9
      refine jr_istore (pc := 83) F (vs' := [(7, .inl _), (0, .inr (.inr (.inl _))), (1, .inr (.inr (.inl _))), (2, .inr (.inr (.inl _))), (3, .inl _), (4, .inr (.inr (.inl _))), (5, .inl _), (6, .inl _)]) dX11_init_83 (Nat.le_of_ble_eq_true rfl) rfl ?_
      refine jr_aload (pc := 85) F (j := 5) dX11_init_85 rfl ?_
      refine jr_iload_n (pc := 87) F (j := 4) dX11_init_87 rfl ?_
      refine jr_iload (pc := 88) F (j := 6) dX11_init_88 rfl ?_
      refine jr_imul (pc := 90) F dX11_init_90 ?_
      refine jr_iload (pc := 91) F (j := 7) dX11_init_91 rfl ?_
      refine jr_iadd (pc := 93) F dX11_init_93 ?_
      refine jr_iload (pc := 94) F (j := 0) dX11_init_94 rfl ?_
      obtain ⟨hx9, w1, w2⟩ := w
      refine jr_if_eq (pc := 96) (tgt := 118) F hx9 dX11_init_96 rfl (fun c9 => ?_) (fun c9 => ?_)
      · have w := w1 c9
        refine jr_aload (pc := 118) F (j := 5) dX11_init_118 rfl ?_
        refine jr_iload_n (pc := 120) F (j := 4) dX11_init_120 rfl ?_
        refine jr_iload (pc := 121) F (j := 6) dX11_init_121 rfl ?_
        refine jr_iconst (pc := 123) F dX11_init_123 ?_
        refine jr_iadd (pc := 124) F dX11_init_124 ?_
        refine jr_imul (pc := 125) F dX11_init_125 ?_
        refine jr_iload (pc := 126) F (j := 7) dX11_init_126 rfl ?_
        refine jr_iadd (pc := 128) F dX11_init_128 ?_
        refine jr_iald (pc := 129) F dX11_init_129 w (fun g21 w => ?_)
        refine jr_aload (pc := 130) F (j := 5) dX11_init_130 rfl ?_
        refine jr_iload_n (pc := 132) F (j := 4) dX11_init_132 rfl ?_
        refine jr_iload (pc := 133) F (j := 6) dX11_init_133 rfl ?_
        refine jr_imul (pc := 135) F dX11_init_135 ?_
        refine jr_iload (pc := 136) F (j := 7) dX11_init_136 rfl ?_
        refine jr_iadd (pc := 138) F dX11_init_138 ?_
        refine jr_iconst (pc := 139) F dX11_init_139 ?_
        refine jr_iadd (pc := 140) F dX11_init_140 ?_
        refine jr_iald (pc := 141) F dX11_init_141 w (fun g22 w => ?_)
        obtain ⟨hx9, hy9, w⟩ := w
        refine jr_mmax (pc := 142) F M hx9 hy9 q720 (Nat.le_of_ble_eq_true rfl) (Nat.le_of_ble_eq_true rfl) (Nat.le_of_ble_eq_true rfl) dX11_init_142 ?_
        refine jr_iast (pc := 145) F dX11_init_145 w (fun h23 w => ?_)
        have w := w _ rfl
        refine jr_iinc (pc := 146) F (j := 7) (vs' := [(6, .inl _), (7, .inl _), (0, .inr (.inr (.inl _))), (1, .inr (.inr (.inl _))), (2, .inr (.inr (.inl _))), (3, .inl _), (4, .inr (.inr (.inl _))), (5, .inl _)]) dX11_init_146 rfl rfl (Nat.le_of_ble_eq_true rfl) rfl ?_
        refine jr_goto (pc := 149) (tgt := 54) F dX11_init_149 rfl ?_
        refine jj_J.sub [2, 3, 4, 5, 6, 7, 0] rfl ?_
        exact ih _ _ _ w
      · have w := w2 c9
        refine jr_iconst (pc := 99) F dX11_init_99 ?_
        refine jr_aload (pc := 100) F (j := 5) dX11_init_100 rfl ?_
        refine jr_iload_n (pc := 102) F (j := 4) dX11_init_102 rfl ?_
        refine jr_iload (pc := 103) F (j := 6) dX11_init_103 rfl ?_
        refine jr_iconst (pc := 105) F dX11_init_105 ?_
        refine jr_iadd (pc := 106) F dX11_init_106 ?_
        refine jr_imul (pc := 107) F dX11_init_107 ?_
        refine jr_iload (pc := 108) F (j := 7) dX11_init_108 rfl ?_
        refine jr_iadd (pc := 110) F dX11_init_110 ?_
        refine jr_iconst (pc := 111) F dX11_init_111 ?_
        refine jr_iadd (pc := 112) F dX11_init_112 ?_
        refine jr_iald (pc := 113) F dX11_init_113 w (fun g25 w => ?_)
        refine jr_iadd (pc := 114) F dX11_init_114 ?_
        refine jr_goto (pc := 115) (tgt := 145) F dX11_init_115 rfl ?_
        refine jr_iast (pc := 145) F dX11_init_145 w (fun h26 w => ?_)
        have w := w _ rfl
        refine jr_iinc (pc := 146) F (j := 7) (vs' := [(6, .inl _), (7, .inl _), (0, .inr (.inr (.inl _))), (1, .inr (.inr (.inl _))), (2, .inr (.inr (.inl _))), (3, .inl _), (4, .inr (.inr (.inl _))), (5, .inl _)]) dX11_init_146 rfl rfl (Nat.le_of_ble_eq_true rfl) rfl ?_
        refine jr_goto (pc := 149) (tgt := 54) F dX11_init_149 rfl ?_
        refine jj_J.sub [2, 3, 4, 5, 6, 7, 0] rfl ?_
        exact ih _ _ _ w

theorem sC_X11_init_l41 {X : jj_X} {N : Option jj_AV → jj_H → Prop} {XN : String → Nat → jj_H → Prop} (F : jj_F X RX11 cX11_init 8) (M : jj_M X (none) 15 666 N XN) (O : jj_no X) (J : jj_GJ X.1 X.2.2.1) (hi : X.2.2.2.2.2.2.2.2.2.1.name = yX11_init.name) {Q : jj_H → Prop} {E : String → Nat → jj_H → Prop} (hQ : ∀ h, Q h → N none h) (hE : ∀ e q h, E e q h → XN e q h) (x0 : Option Nat) (x1 : Option Nat) (x2 : Option Nat) (x3 : Int) (x4 : Option Nat) : ∀ (n : Nat) (x5 : Int) (h : jj_H) (k : Nat), fC_X11_init_l41 (jj_gk X.1) x0 x1 x2 x3 x4 Q E n x5 h k → jj_J X 8 41 [(0, .inr (.inr (.inl x0))), (1, .inr (.inr (.inl x1))), (2, .inr (.inr (.inl x2))), (3, .inl x3), (4, .inr (.inr (.inl x4))), (5, .inl x5)] [] h k := by
  intro n
  induction n with
  | zero =>
    intro x5 h k w
    exact (show False from w).elim
  | succ n ih =>
    intro x5 h k w
    rw [fC_X11_init_l41] at w
    refine jr_iload (pc := 41) F (j := 5) dX11_init_41 rfl ?_
    obtain ⟨hx9, w1, w2⟩ := w
    refine jr_if_lt (pc := 43) (tgt := 158) F hx9 dX11_init_43 rfl (fun c9 => ?_) (fun c9 => ?_)
    · have w := w1 c9
      refine jr_iconst (pc := 158) F dX11_init_158 ?_
      refine jr_istore (pc := 159) F (vs' := [(5, .inl _), (0, .inr (.inr (.inl _))), (1, .inr (.inr (.inl _))), (2, .inr (.inr (.inl _))), (3, .inl _), (4, .inr (.inr (.inl _)))]) dX11_init_159 (Nat.le_of_ble_eq_true rfl) rfl ?_
      refine jj_J.sub [1, 2, 3, 5, 0] rfl ?_
      obtain ⟨n9, w⟩ := w
      exact sC_X11_init_l161 F M O J hi hQ hE _ _ _ _ n9 _ _ _ w
    · have w := w2 c9
      refine jr_aload_n (pc := 46) F (j := 2) dX11_init_46 rfl ?_
      obtain ⟨hi9, w⟩ := w
      refine jr_cV (pc := 47) (As := []) (ci := 3) F M (lw_V q705 q706 q707 q149 q708) dX11_init_47 hC_X5_size rfl (Nat.le_of_ble_eq_true rfl) (Nat.le_of_ble_eq_true rfl) (Nat.le_of_ble_eq_true rfl) rfl hi9 (Nat.zero_le _) (cC_X5_size J w) (fun v9 h30 q9 => ?_) (fun E9 q9 h9 w9 => jr_out F M O (hE _ _ _ w9))
      obtain ⟨r29, rfl, w⟩ := q9
      refine jr_iconst (pc := 50) F dX11_init_50 ?_
      refine jr_isub (pc := 51) F dX11_init_51 ?_
      have w := w _ rfl
      refine jr_istore (pc := 52) F (vs' := [(6, .inl _), (0, .inr (.inr (.inl _))), (1, .inr (.inr (.inl _))), (2, .inr (.inr (.inl _))), (3, .inl _), (4, .inr (.inr (.inl _))), (5, .inl _)]) dX11_init_52 (Nat.le_of_ble_eq_true rfl) rfl ?_
      refine jj_J.sub [1, 2, 3, 4, 5, 6, 0] rfl ?_
      obtain ⟨n9, w⟩ := w
      exact sC_X11_init_l54 F M O J hi hQ hE _ _ _ _ _ _ ih n9 _ _ _ w

theorem sC_X11_init {X : jj_X} {N : Option jj_AV → jj_H → Prop} {XN : String → Nat → jj_H → Prop} (F : jj_F X RX11 cX11_init 8) (M : jj_M X (none) 15 666 N XN) (O : jj_no X) (J : jj_GJ X.1 X.2.2.1) (hi : X.2.2.2.2.2.2.2.2.2.1.name = yX11_init.name) {Q : jj_H → Prop} {E : String → Nat → jj_H → Prop} (hQ : ∀ h, Q h → N none h) (hE : ∀ e q h, E e q h → XN e q h) (x0 : Option Nat) (x1 : Option Nat) (x2 : Option Nat) : ∀ (h : jj_H) (k : Nat), fC_X11_init (jj_gk X.1) x0 x1 x2 Q E h k → jj_J X 8 0 [(0, .inr (.inr (.inl x0))), (1, .inr (.inr (.inl x1))), (2, .inr (.inr (.inl x2)))] [] h k := by
  intro h k w
  unfold fC_X11_init at w
  refine jr_aload_n (pc := 0) F (j := 0) dX11_init_0 rfl ?_
  obtain ⟨ha9, w⟩ := w
  refine jr_objInitO (pc := 1) F M q704 q192 q193 ha9 (Nat.le_of_ble_eq_true rfl) (Nat.le_of_ble_eq_true rfl) (Nat.le_of_ble_eq_true rfl) dX11_init_1 ?_
  refine jr_aload_n (pc := 4) F (j := 0) dX11_init_4 rfl ?_
  refine jr_aload_n (pc := 5) F (j := 1) dX11_init_5 rfl ?_
  obtain ⟨hi9, w⟩ := w
  refine jr_cV (pc := 6) (As := []) (ci := 3) F M (lw_V q705 q706 q707 q149 q708) dX11_init_6 hC_X5_size rfl (Nat.le_of_ble_eq_true rfl) (Nat.le_of_ble_eq_true rfl) (Nat.le_of_ble_eq_true rfl) rfl hi9 (Nat.zero_le _) (cC_X5_size J w) (fun v9 h34 q9 => ?_) (fun E9 q9 h9 w9 => jr_out F M O (hE _ _ _ w9))
  obtain ⟨r33, rfl, w⟩ := q9
  refine jr_newI (pc := 9) F q731 dX11_init_9 w (fun a35 h36 k37 w => ?_)
  refine jr_prF (pc := 11) (ci := 5) (f := 0) F rfl in_X11 tyX11_ok nmX11 (Nat.le_of_ble_eq_true rfl) rfl rfl rfl hi q725 dX11_init_11 w (fun h38 w => ?_)
  refine jr_aload_n (pc := 14) F (j := 2) dX11_init_14 rfl ?_
  obtain ⟨hi9, w⟩ := w
  refine jr_cV (pc := 15) (As := []) (ci := 3) F M (lw_V q705 q706 q707 q149 q708) dX11_init_15 hC_X5_size rfl (Nat.le_of_ble_eq_true rfl) (Nat.le_of_ble_eq_true rfl) (Nat.le_of_ble_eq_true rfl) rfl hi9 (Nat.zero_le _) (cC_X5_size J w) (fun v9 h41 q9 => ?_) (fun E9 q9 h9 w9 => jr_out F M O (hE _ _ _ w9))
  obtain ⟨r40, rfl, w⟩ := q9
  refine jr_iconst (pc := 18) F dX11_init_18 ?_
  refine jr_iadd (pc := 19) F dX11_init_19 ?_
  have w := w _ rfl
  refine jr_istore_n (pc := 20) F (vs' := [(3, .inl _), (0, .inr (.inr (.inl _))), (1, .inr (.inr (.inl _))), (2, .inr (.inr (.inl _)))]) dX11_init_20 (Nat.le_of_ble_eq_true rfl) rfl ?_
  refine jr_aload_n (pc := 21) F (j := 2) dX11_init_21 rfl ?_
  obtain ⟨hi9, w⟩ := w
  refine jr_cV (pc := 22) (As := []) (ci := 3) F M (lw_V q705 q706 q707 q149 q708) dX11_init_22 hC_X5_size rfl (Nat.le_of_ble_eq_true rfl) (Nat.le_of_ble_eq_true rfl) (Nat.le_of_ble_eq_true rfl) rfl hi9 (Nat.zero_le _) (cC_X5_size J w) (fun v9 h45 q9 => ?_) (fun E9 q9 h9 w9 => jr_out F M O (hE _ _ _ w9))
  obtain ⟨r44, rfl, w⟩ := q9
  refine jr_iconst (pc := 25) F dX11_init_25 ?_
  refine jr_iadd (pc := 26) F dX11_init_26 ?_
  refine jr_iload_n (pc := 27) F (j := 0) dX11_init_27 rfl ?_
  refine jr_imul (pc := 28) F dX11_init_28 ?_
  refine jr_newI (pc := 29) F q731 dX11_init_29 w (fun a46 h47 k48 w => ?_)
  refine jr_astore (pc := 31) F (vs' := [(4, .inr (.inr (.inl _))), (3, .inl _), (0, .inr (.inr (.inl _))), (1, .inr (.inr (.inl _))), (2, .inr (.inr (.inl _)))]) dX11_init_31 (Nat.le_of_ble_eq_true rfl) rfl ?_
  refine jr_aload_n (pc := 33) F (j := 3) dX11_init_33 rfl ?_
  obtain ⟨hi9, w⟩ := w
  refine jr_cV (pc := 34) (As := []) (ci := 3) F M (lw_V q705 q706 q707 q149 q708) dX11_init_34 hC_X5_size rfl (Nat.le_of_ble_eq_true rfl) (Nat.le_of_ble_eq_true rfl) (Nat.le_of_ble_eq_true rfl) rfl hi9 (Nat.zero_le _) (cC_X5_size J w) (fun v9 h51 q9 => ?_) (fun E9 q9 h9 w9 => jr_out F M O (hE _ _ _ w9))
  obtain ⟨r50, rfl, w⟩ := q9
  refine jr_iconst (pc := 37) F dX11_init_37 ?_
  refine jr_isub (pc := 38) F dX11_init_38 ?_
  have w := w _ rfl
  refine jr_istore (pc := 39) F (vs' := [(5, .inl _), (4, .inr (.inr (.inl _))), (3, .inl _), (0, .inr (.inr (.inl _))), (1, .inr (.inr (.inl _))), (2, .inr (.inr (.inl _)))]) dX11_init_39 (Nat.le_of_ble_eq_true rfl) rfl ?_
  refine jj_J.sub [3, 4, 5, 2, 1, 0] rfl ?_
  obtain ⟨n9, w⟩ := w
  exact sC_X11_init_l41 F M O J hi hQ hE _ _ _ _ _ n9 _ _ _ w

theorem cC_X11_init {G : jj_G} {l : Launch} (J : jj_GJ G l) {x0 : Option Nat} {x1 : Option Nat} {x2 : Option Nat} {Q : jj_H → Prop} {E : String → Nat → jj_H → Prop} {h : jj_H} {k : Nat} (w : fC_X11_init (jj_gk G) x0 x1 x2 Q E h k) : jj_Ct G l yX11_init (ws_ yX11_init cX11_init 8 (none)) 15 666 [.inr (.inr (.inl x0)), .inr (.inr (.inl x1)), .inr (.inr (.inl x2))] h k (jc_v Q) E := by
  refine jj_Ct.of (jK_gs J).1 (by decide +kernel) (Nat.le_of_ble_eq_true rfl) rfl (fun X hG hl F M O hnm => ?_)
  subst hG; subst hl
  exact sC_X11_init F M O J hnm (fun h q => ⟨rfl, q⟩) (fun _ _ _ q => q) _ _ _ _ _ w
theorem hC_X11_init : yX11_init.cls = RX11 ∧ yX11_init.cls ≠ "java/lang/invoke/MethodHandle" ∧ yX11_init.cls ≠ "java/lang/invoke/VarHandle" ∧ (parseMethodDescriptor yX11_init.desc).map (fun d => d.parameters.length) = some 2 := by decide +kernel
/-! X11_count(II)I -/
def fC_X11_count_l5 (gk : Nat → Nat) (x0 : Option Nat) (x2 : Int) (Q : Int → jj_H → Prop) (E : String → Nat → jj_H → Prop) : Nat → Int → Int → jj_H → Nat → Prop
  | 0, _, _, _, _ => False
  | n + 1, x3, x4, h, k =>
  jj_r x4 ∧ jj_r x2 ∧ (x2 < x4 → (
    Q x3 h)) ∧
  (¬ x2 < x4 → (
    jp_gr h x0 5 0 (fun g1 =>
    jp_al h g1 0 x4 (fun g2 =>
    jj_r g2 ∧ (¬ g2 = (-1) → (
      ∀ v3, v3 = x3 + 1 →
      ∀ v4, v4 = x4 + 1 →
      fC_X11_count_l5 gk x0 x2 Q E n v3 v4 h k)) ∧
    (g2 = (-1) → (
      ∀ v5, v5 = x3 + 0 →
      ∀ v6, v6 = x4 + 1 →
      fC_X11_count_l5 gk x0 x2 Q E n v5 v6 h k))))))
def fC_X11_count (gk : Nat → Nat) (x0 : Option Nat) (x1 : Int) (x2 : Int) (Q : Int → jj_H → Prop) (E : String → Nat → jj_H → Prop) (h : jj_H) (k : Nat) : Prop :=
  ∃ n9, fC_X11_count_l5 gk x0 x2 Q E n9 0 x1 h k
theorem sC_X11_count_l5 {X : jj_X} {N : Option jj_AV → jj_H → Prop} {XN : String → Nat → jj_H → Prop} (F : jj_F X RX11 cX11_count 5) (M : jj_M X (some (.int)) 0 0 N XN) (O : jj_no X) (J : jj_GJ X.1 X.2.2.1) (hi : X.2.2.2.2.2.2.2.2.2.1.name = yX11_count.name) {Q : Int → jj_H → Prop} {E : String → Nat → jj_H → Prop} (hQ : ∀ r h, Q r h → N (some (.inl r)) h) (hE : ∀ e q h, E e q h → XN e q h) (x0 : Option Nat) (x2 : Int) : ∀ (n : Nat) (x3 : Int) (x4 : Int) (h : jj_H) (k : Nat), fC_X11_count_l5 (jj_gk X.1) x0 x2 Q E n x3 x4 h k → jj_J X 5 5 [(0, .inr (.inr (.inl x0))), (2, .inl x2), (3, .inl x3), (4, .inl x4)] [] h k := by
  intro n
  induction n with
  | zero =>
    intro x3 x4 h k w
    exact (show False from w).elim
  | succ n ih =>
    intro x3 x4 h k w
    rw [fC_X11_count_l5] at w
    refine jr_iload (pc := 5) F (j := 3) dX11_count_5 rfl ?_
    refine jr_iload_n (pc := 7) F (j := 1) dX11_count_7 rfl ?_
    obtain ⟨hx9, hy9, w1, w2⟩ := w
    refine jr_icmp_gt (pc := 8) (tgt := 36) F hx9 hy9 dX11_count_8 rfl (fun c9 => ?_) (fun c9 => ?_)
    · have w := w1 c9
      refine jr_iload_n (pc := 36) F (j := 2) dX11_count_36 rfl ?_
      exact jr_iret (pc := 37) F M dX11_count_37 (hQ _ _ w)
    · have w := w2 c9
      refine jr_iload_n (pc := 11) F (j := 2) dX11_count_11 rfl ?_
      refine jr_aload_n (pc := 12) F (j := 0) dX11_count_12 rfl ?_
      refine jr_gr (pc := 13) (ci := 5) (f := 0) F rfl in_X11 (Nat.le_of_ble_eq_true rfl) q725 dX11_count_13 w (fun g1 w => ?_)
      refine jr_iload (pc := 16) F (j := 3) dX11_count_16 rfl ?_
      refine jr_iald (pc := 18) F dX11_count_18 w (fun g2 w => ?_)
      refine jr_iconst (pc := 19) F dX11_count_19 ?_
      obtain ⟨hx9, w1, w2⟩ := w
      refine jr_icmp_ne (pc := 20) (tgt := 27) F hx9 ⟨by decide, by decide⟩ dX11_count_20 rfl (fun c9 => ?_) (fun c9 => ?_)
      · have w := w1 c9
        refine jr_iconst (pc := 27) F dX11_count_27 ?_
        refine jr_iadd (pc := 28) F dX11_count_28 ?_
        have w := w _ rfl
        refine jr_istore_n (pc := 29) F (vs' := [(3, .inl _), (0, .inr (.inr (.inl _))), (2, .inl _), (4, .inl _)]) dX11_count_29 (Nat.le_of_ble_eq_true rfl) rfl ?_
        have w := w _ rfl
        refine jr_iinc (pc := 30) F (j := 3) (vs' := [(4, .inl _), (3, .inl _), (0, .inr (.inr (.inl _))), (2, .inl _)]) dX11_count_30 rfl rfl (Nat.le_of_ble_eq_true rfl) rfl ?_
        refine jr_goto (pc := 33) (tgt := 5) F dX11_count_33 rfl ?_
        refine jj_J.sub [2, 3, 1, 0] rfl ?_
        exact ih _ _ _ _ w
      · have w := w2 c9
        refine jr_iconst (pc := 23) F dX11_count_23 ?_
        refine jr_goto (pc := 24) (tgt := 28) F dX11_count_24 rfl ?_
        refine jr_iadd (pc := 28) F dX11_count_28 ?_
        have w := w _ rfl
        refine jr_istore_n (pc := 29) F (vs' := [(3, .inl _), (0, .inr (.inr (.inl _))), (2, .inl _), (4, .inl _)]) dX11_count_29 (Nat.le_of_ble_eq_true rfl) rfl ?_
        have w := w _ rfl
        refine jr_iinc (pc := 30) F (j := 3) (vs' := [(4, .inl _), (3, .inl _), (0, .inr (.inr (.inl _))), (2, .inl _)]) dX11_count_30 rfl rfl (Nat.le_of_ble_eq_true rfl) rfl ?_
        refine jr_goto (pc := 33) (tgt := 5) F dX11_count_33 rfl ?_
        refine jj_J.sub [2, 3, 1, 0] rfl ?_
        exact ih _ _ _ _ w

theorem sC_X11_count {X : jj_X} {N : Option jj_AV → jj_H → Prop} {XN : String → Nat → jj_H → Prop} (F : jj_F X RX11 cX11_count 5) (M : jj_M X (some (.int)) 0 0 N XN) (O : jj_no X) (J : jj_GJ X.1 X.2.2.1) (hi : X.2.2.2.2.2.2.2.2.2.1.name = yX11_count.name) {Q : Int → jj_H → Prop} {E : String → Nat → jj_H → Prop} (hQ : ∀ r h, Q r h → N (some (.inl r)) h) (hE : ∀ e q h, E e q h → XN e q h) (x0 : Option Nat) (x1 : Int) (x2 : Int) : ∀ (h : jj_H) (k : Nat), fC_X11_count (jj_gk X.1) x0 x1 x2 Q E h k → jj_J X 5 0 [(0, .inr (.inr (.inl x0))), (1, .inl x1), (2, .inl x2)] [] h k := by
  intro h k w
  unfold fC_X11_count at w
  refine jr_iconst (pc := 0) F dX11_count_0 ?_
  refine jr_istore_n (pc := 1) F (vs' := [(3, .inl _), (0, .inr (.inr (.inl _))), (1, .inl _), (2, .inl _)]) dX11_count_1 (Nat.le_of_ble_eq_true rfl) rfl ?_
  refine jr_iload_n (pc := 2) F (j := 2) dX11_count_2 rfl ?_
  refine jr_istore (pc := 3) F (vs' := [(4, .inl _), (3, .inl _), (0, .inr (.inr (.inl _))), (1, .inl _), (2, .inl _)]) dX11_count_3 (Nat.le_of_ble_eq_true rfl) rfl ?_
  refine jj_J.sub [2, 4, 1, 0] rfl ?_
  obtain ⟨n9, w⟩ := w
  exact sC_X11_count_l5 F M O J hi hQ hE _ _ n9 _ _ _ _ w

theorem cC_X11_count {G : jj_G} {l : Launch} (J : jj_GJ G l) {x0 : Option Nat} {x1 : Int} {x2 : Int} {Q : Int → jj_H → Prop} {E : String → Nat → jj_H → Prop} {h : jj_H} {k : Nat} (w : fC_X11_count (jj_gk G) x0 x1 x2 Q E h k) : jj_Ct G l yX11_count (ws_ yX11_count cX11_count 5 (some (.int))) 0 0 [.inr (.inr (.inl x0)), .inl x1, .inl x2] h k (jc_i Q) E := by
  refine jj_Ct.of (jK_gs J).1 (by decide +kernel) (Nat.le_of_ble_eq_true rfl) rfl (fun X hG hl F M O hnm => ?_)
  subst hG; subst hl
  exact sC_X11_count F M O J hnm (fun r h q => ⟨r, rfl, q⟩) (fun _ _ _ q => q) _ _ _ _ _ w
theorem hC_X11_count : yX11_count.cls = RX11 ∧ yX11_count.cls ≠ "java/lang/invoke/MethodHandle" ∧ yX11_count.cls ≠ "java/lang/invoke/VarHandle" ∧ (parseMethodDescriptor yX11_count.desc).map (fun d => d.parameters.length) = some 2 := by decide +kernel
/-! X11_count_2()I -/
def fC_X11_count_2 (gk : Nat → Nat) (x0 : Option Nat) (Q : Int → jj_H → Prop) (E : String → Nat → jj_H → Prop) (h : jj_H) (k : Nat) : Prop :=
  jp_gr h x0 5 0 (fun g1 =>
  jp_ai h g1 0 (fun g2 =>
  jp_is h x0 5 ∧ fC_X11_count gk x0 0 (g2 - 1) (fun r4 h5 =>
  Q r4 h5) E h 0))
theorem sC_X11_count_2 {X : jj_X} {N : Option jj_AV → jj_H → Prop} {XN : String → Nat → jj_H → Prop} (F : jj_F X RX11 cX11_count_2 1) (M : jj_M X (some (.int)) 1 24 N XN) (O : jj_no X) (J : jj_GJ X.1 X.2.2.1) (hi : X.2.2.2.2.2.2.2.2.2.1.name = yX11_count_2.name) {Q : Int → jj_H → Prop} {E : String → Nat → jj_H → Prop} (hQ : ∀ r h, Q r h → N (some (.inl r)) h) (hE : ∀ e q h, E e q h → XN e q h) (x0 : Option Nat) : ∀ (h : jj_H) (k : Nat), fC_X11_count_2 (jj_gk X.1) x0 Q E h k → jj_J X 1 0 [(0, .inr (.inr (.inl x0)))] [] h k := by
  intro h k w
  unfold fC_X11_count_2 at w
  refine jr_aload_n (pc := 0) F (j := 0) dX11_count_2_0 rfl ?_
  refine jr_iconst (pc := 1) F dX11_count_2_1 ?_
  refine jr_aload_n (pc := 2) F (j := 0) dX11_count_2_2 rfl ?_
  refine jr_gr (pc := 3) (ci := 5) (f := 0) F rfl in_X11 (Nat.le_of_ble_eq_true rfl) q725 dX11_count_2_3 w (fun g1 w => ?_)
  refine jr_alenI (pc := 6) F ⟨0, _, fun _ => rfl⟩ dX11_count_2_6 w (fun g2 w => ?_)
  refine jr_iconst (pc := 7) F dX11_count_2_7 ?_
  refine jr_isub (pc := 8) F dX11_count_2_8 ?_
  obtain ⟨hi9, w⟩ := w
  refine jr_cV (pc := 9) (As := [_, _]) (ci := 5) F M (lw_V q750 q739 q740 q178 q741) dX11_count_2_9 hC_X11_count rfl (Nat.le_of_ble_eq_true rfl) (Nat.le_of_ble_eq_true rfl) (Nat.le_of_ble_eq_true rfl) rfl hi9 (Nat.zero_le _) (cC_X11_count J w) (fun v9 h5 q9 => ?_) (fun E9 q9 h9 w9 => jr_out F M O (hE _ _ _ w9))
  obtain ⟨r4, rfl, w⟩ := q9
  exact jr_iret (pc := 12) F M dX11_count_2_12 (hQ _ _ w)

theorem cC_X11_count_2 {G : jj_G} {l : Launch} (J : jj_GJ G l) {x0 : Option Nat} {Q : Int → jj_H → Prop} {E : String → Nat → jj_H → Prop} {h : jj_H} {k : Nat} (w : fC_X11_count_2 (jj_gk G) x0 Q E h k) : jj_Ct G l yX11_count_2 (ws_ yX11_count_2 cX11_count_2 1 (some (.int))) 1 24 [.inr (.inr (.inl x0))] h k (jc_i Q) E := by
  refine jj_Ct.of (jK_gs J).1 (by decide +kernel) (Nat.le_of_ble_eq_true rfl) rfl (fun X hG hl F M O hnm => ?_)
  subst hG; subst hl
  exact sC_X11_count_2 F M O J hnm (fun r h q => ⟨r, rfl, q⟩) (fun _ _ _ q => q) _ _ _ w
theorem hC_X11_count_2 : yX11_count_2.cls = RX11 ∧ yX11_count_2.cls ≠ "java/lang/invoke/MethodHandle" ∧ yX11_count_2.cls ≠ "java/lang/invoke/VarHandle" ∧ (parseMethodDescriptor yX11_count_2.desc).map (fun d => d.parameters.length) = some 0 := by decide +kernel
/-! X12_near(LNoteImporter$Note;LNoteImporter$Alignment;)V -/
def fC_X12_near_j64 (gk : Nat → Nat) (K8 : Int → Int → Int → jj_H → Nat → Prop) (x0 : Option Nat) (x1 : Option Nat) (x2 : Option Nat) (x5 : Int) (x6 : Int) (Q : jj_H → Prop) (E : String → Nat → jj_H → Prop) (h : jj_H) (k : Nat) : Prop :=
  ∀ v1, v1 = x5 + 1 →
  K8 x5 x6 v1 h k
def fC_X12_near_l8 (gk : Nat → Nat) (x0 : Option Nat) (x1 : Option Nat) (x2 : Option Nat) (Q : jj_H → Prop) (E : String → Nat → jj_H → Prop) : Nat → Int → Int → Int → jj_H → Nat → Prop
  | 0, _, _, _, _, _ => False
  | n + 1, x3, x4, x5, h, k =>
  jp_gr h x2 5 0 (fun g2 =>
  jp_ai h g2 0 (fun g3 =>
  jj_r x5 ∧ jj_r g3 ∧ (g3 ≤ x5 → (
    jp_pi h x0 6 0 2 (fun h4 =>
    jp_gr h4 x2 5 0 (fun g5 =>
    jp_al h4 g5 0 x3 (fun g6 =>
    jp_pi h4 x0 6 1 g6 (fun h7 =>
    jp_gi h7 x0 6 1 (fun g8 =>
    jp_pi h7 x0 6 2 g8 (fun h9 =>
    Q h9)))))))) ∧
  (¬ g3 ≤ x5 → (
    jp_gi h x1 4 5 (fun g10 =>
    jp_gi h x1 4 6 (fun g11 =>
    jj_r (g10 - x5) ∧ jj_r (x5 - g11) ∧
    jj_r (max (g10 - x5) (x5 - g11)) ∧
    ∀ v12, v12 = max 0 (max (g10 - x5) (x5 - g11)) →
    jp_gr h x2 5 0 (fun g13 =>
    jp_al h g13 0 x5 (fun g14 =>
    jj_r g14 ∧ (g14 = (-1) → (
      ∀ v15, v15 = x5 + 1 →
      fC_X12_near_l8 gk x0 x1 x2 Q E n x3 x4 v15 h k)) ∧
    (¬ g14 = (-1) → (
      jj_r x3 ∧ (x3 = (-1) → (
        fC_X12_near_j64 gk (fC_X12_near_l8 gk x0 x1 x2 Q E n) x0 x1 x2 x5 v12 Q E h k)) ∧
      (¬ x3 = (-1) → (
        jj_r v12 ∧ jj_r x4 ∧ (x4 ≤ v12 → (
          ∀ v16, v16 = x5 + 1 →
          fC_X12_near_l8 gk x0 x1 x2 Q E n x3 x4 v16 h k)) ∧
        (¬ x4 ≤ v12 → (
          fC_X12_near_j64 gk (fC_X12_near_l8 gk x0 x1 x2 Q E n) x0 x1 x2 x5 v12 Q E h k))))))))))))))
def fC_X12_near (gk : Nat → Nat) (x0 : Option Nat) (x1 : Option Nat) (x2 : Option Nat) (Q : jj_H → Prop) (E : String → Nat → jj_H → Prop) (h : jj_H) (k : Nat) : Prop :=
  ∃ n9, fC_X12_near_l8 gk x0 x1 x2 Q E n9 (-1) 0 0 h k
theorem sC_X12_near_j64 {X : jj_X} {N : Option jj_AV → jj_H → Prop} {XN : String → Nat → jj_H → Prop} (F : jj_F X RX12 cX12_near 7) (M : jj_M X (none) 1 21 N XN) (O : jj_no X) (J : jj_GJ X.1 X.2.2.1) (hi : X.2.2.2.2.2.2.2.2.2.1.name = yX12_near.name) {Q : jj_H → Prop} {E : String → Nat → jj_H → Prop} (hQ : ∀ h, Q h → N none h) (hE : ∀ e q h, E e q h → XN e q h) (x0 : Option Nat) (x1 : Option Nat) (x2 : Option Nat) (x5 : Int) (x6 : Int) {K8 : Int → Int → Int → jj_H → Nat → Prop} (hK8 : ∀ (z3 : Int) (z4 : Int) (z5 : Int) (h : jj_H) (k : Nat), K8 z3 z4 z5 h k → jj_J X 7 8 [(0, .inr (.inr (.inl x0))), (1, .inr (.inr (.inl x1))), (2, .inr (.inr (.inl x2))), (3, .inl z3), (4, .inl z4), (5, .inl z5)] [] h k) : ∀ (h : jj_H) (k : Nat), fC_X12_near_j64 (jj_gk X.1) K8 x0 x1 x2 x5 x6 Q E h k → jj_J X 7 64 [(0, .inr (.inr (.inl x0))), (1, .inr (.inr (.inl x1))), (2, .inr (.inr (.inl x2))), (5, .inl x5), (6, .inl x6)] [] h k := by
  intro h k w
  unfold fC_X12_near_j64 at w
  refine jr_iload (pc := 64) F (j := 3) dX12_near_64 rfl ?_
  refine jr_istore_n (pc := 66) F (vs' := [(3, .inl _), (0, .inr (.inr (.inl _))), (1, .inr (.inr (.inl _))), (2, .inr (.inr (.inl _))), (5, .inl _), (6, .inl _)]) dX12_near_66 (Nat.le_of_ble_eq_true rfl) rfl ?_
  refine jr_iload (pc := 67) F (j := 5) dX12_near_67 rfl ?_
  refine jr_istore (pc := 69) F (vs' := [(4, .inl _), (3, .inl _), (0, .inr (.inr (.inl _))), (1, .inr (.inr (.inl _))), (2, .inr (.inr (.inl _))), (5, .inl _), (6, .inl _)]) dX12_near_69 (Nat.le_of_ble_eq_true rfl) rfl ?_
  have w := w _ rfl
  refine jr_iinc (pc := 71) F (j := 5) (vs' := [(5, .inl _), (4, .inl _), (3, .inl _), (0, .inr (.inr (.inl _))), (1, .inr (.inr (.inl _))), (2, .inr (.inr (.inl _))), (6, .inl _)]) dX12_near_71 rfl rfl (Nat.le_of_ble_eq_true rfl) rfl ?_
  refine jr_goto (pc := 74) (tgt := 8) F dX12_near_74 rfl ?_
  refine jj_J.sub [3, 4, 5, 2, 1, 0] rfl ?_
  exact hK8 _ _ _ _ _ w

theorem sC_X12_near_l8 {X : jj_X} {N : Option jj_AV → jj_H → Prop} {XN : String → Nat → jj_H → Prop} (F : jj_F X RX12 cX12_near 7) (M : jj_M X (none) 1 21 N XN) (O : jj_no X) (J : jj_GJ X.1 X.2.2.1) (hi : X.2.2.2.2.2.2.2.2.2.1.name = yX12_near.name) {Q : jj_H → Prop} {E : String → Nat → jj_H → Prop} (hQ : ∀ h, Q h → N none h) (hE : ∀ e q h, E e q h → XN e q h) (x0 : Option Nat) (x1 : Option Nat) (x2 : Option Nat) : ∀ (n : Nat) (x3 : Int) (x4 : Int) (x5 : Int) (h : jj_H) (k : Nat), fC_X12_near_l8 (jj_gk X.1) x0 x1 x2 Q E n x3 x4 x5 h k → jj_J X 7 8 [(0, .inr (.inr (.inl x0))), (1, .inr (.inr (.inl x1))), (2, .inr (.inr (.inl x2))), (3, .inl x3), (4, .inl x4), (5, .inl x5)] [] h k := by
  intro n
  induction n with
  | zero =>
    intro x3 x4 x5 h k w
    exact (show False from w).elim
  | succ n ih =>
    intro x3 x4 x5 h k w
    rw [fC_X12_near_l8] at w
    refine jr_iload (pc := 8) F (j := 5) dX12_near_8 rfl ?_
    refine jr_aload_n (pc := 10) F (j := 2) dX12_near_10 rfl ?_
    refine jr_grN (pc := 11) (ci := 5) (f := 0) F rfl in_X11 (Nat.le_of_ble_eq_true rfl) q726 dX12_near_11 w (fun g2 w => ?_)
    refine jr_alenI (pc := 14) F ⟨0, _, fun _ => rfl⟩ dX12_near_14 w (fun g3 w => ?_)
    obtain ⟨hx9, hy9, w1, w2⟩ := w
    refine jr_icmp_ge (pc := 15) (tgt := 77) F hx9 hy9 dX12_near_15 rfl (fun c9 => ?_) (fun c9 => ?_)
    · have w := w1 c9
      refine jr_aload_n (pc := 77) F (j := 0) dX12_near_77 rfl ?_
      refine jr_iconst (pc := 78) F dX12_near_78 ?_
      refine jr_pi (pc := 79) (ci := 6) (f := 0) F rfl in_X12 tyX12_ok nmX12 (Nat.le_of_ble_eq_true rfl) rfl rfl q756 dX12_near_79 w (fun h4 w => ?_)
      refine jr_aload_n (pc := 82) F (j := 0) dX12_near_82 rfl ?_
      refine jr_aload_n (pc := 83) F (j := 2) dX12_near_83 rfl ?_
      refine jr_grN (pc := 84) (ci := 5) (f := 0) F rfl in_X11 (Nat.le_of_ble_eq_true rfl) q726 dX12_near_84 w (fun g5 w => ?_)
      refine jr_iload_n (pc := 87) F (j := 3) dX12_near_87 rfl ?_
      refine jr_iald (pc := 88) F dX12_near_88 w (fun g6 w => ?_)
      refine jr_pi (pc := 89) (ci := 6) (f := 1) F rfl in_X12 tyX12_ok nmX12 (Nat.le_of_ble_eq_true rfl) rfl rfl q760 dX12_near_89 w (fun h7 w => ?_)
      refine jr_aload_n (pc := 92) F (j := 0) dX12_near_92 rfl ?_
      refine jr_aload_n (pc := 93) F (j := 0) dX12_near_93 rfl ?_
      refine jr_gi (pc := 94) (ci := 6) (f := 1) F rfl in_X12 (Nat.le_of_ble_eq_true rfl) q760 dX12_near_94 w (fun g8 w => ?_)
      refine jr_pi (pc := 97) (ci := 6) (f := 2) F rfl in_X12 tyX12_ok nmX12 (Nat.le_of_ble_eq_true rfl) rfl rfl q763 dX12_near_97 w (fun h9 w => ?_)
      exact jr_vret (pc := 100) F M dX12_near_100 (hQ _ w)
    · have w := w2 c9
      refine jr_iconst (pc := 18) F dX12_near_18 ?_
      refine jr_aload_n (pc := 19) F (j := 1) dX12_near_19 rfl ?_
      refine jr_giN (pc := 20) (ci := 4) (f := 5) F rfl in_X6 (Nat.le_of_ble_eq_true rfl) q2309 dX12_near_20 w (fun g10 w => ?_)
      refine jr_iload (pc := 23) F (j := 5) dX12_near_23 rfl ?_
      refine jr_isub (pc := 25) F dX12_near_25 ?_
      refine jr_iload (pc := 26) F (j := 5) dX12_near_26 rfl ?_
      refine jr_aload_n (pc := 28) F (j := 1) dX12_near_28 rfl ?_
      refine jr_giN (pc := 29) (ci := 4) (f := 6) F rfl in_X6 (Nat.le_of_ble_eq_true rfl) q2312 dX12_near_29 w (fun g11 w => ?_)
      refine jr_isub (pc := 32) F dX12_near_32 ?_
      obtain ⟨hx9, hy9, w⟩ := w
      refine jr_mmax (pc := 33) F M hx9 hy9 q755 (Nat.le_of_ble_eq_true rfl) (Nat.le_of_ble_eq_true rfl) (Nat.le_of_ble_eq_true rfl) dX12_near_33 ?_
      obtain ⟨hy9, w⟩ := w
      refine jr_mmax (pc := 36) F M ⟨by decide, by decide⟩ hy9 q755 (Nat.le_of_ble_eq_true rfl) (Nat.le_of_ble_eq_true rfl) (Nat.le_of_ble_eq_true rfl) dX12_near_36 ?_
      have w := w _ rfl
      refine jr_istore (pc := 39) F (vs' := [(6, .inl _), (0, .inr (.inr (.inl _))), (1, .inr (.inr (.inl _))), (2, .inr (.inr (.inl _))), (3, .inl _), (4, .inl _), (5, .inl _)]) dX12_near_39 (Nat.le_of_ble_eq_true rfl) rfl ?_
      refine jr_aload_n (pc := 41) F (j := 3) dX12_near_41 rfl ?_
      refine jr_grN (pc := 42) (ci := 5) (f := 0) F rfl in_X11 (Nat.le_of_ble_eq_true rfl) q726 dX12_near_42 w (fun g13 w => ?_)
      refine jr_iload (pc := 45) F (j := 6) dX12_near_45 rfl ?_
      refine jr_iald (pc := 47) F dX12_near_47 w (fun g14 w => ?_)
      refine jr_iconst (pc := 48) F dX12_near_48 ?_
      obtain ⟨hx9, w1, w2⟩ := w
      refine jr_icmp_eq (pc := 49) (tgt := 71) F hx9 ⟨by decide, by decide⟩ dX12_near_49 rfl (fun c9 => ?_) (fun c9 => ?_)
      · have w := w1 c9
        have w := w _ rfl
        refine jr_iinc (pc := 71) F (j := 6) (vs' := [(5, .inl _), (6, .inl _), (0, .inr (.inr (.inl _))), (1, .inr (.inr (.inl _))), (2, .inr (.inr (.inl _))), (3, .inl _), (4, .inl _)]) dX12_near_71 rfl rfl (Nat.le_of_ble_eq_true rfl) rfl ?_
        refine jr_goto (pc := 74) (tgt := 8) F dX12_near_74 rfl ?_
        refine jj_J.sub [2, 3, 4, 5, 6, 0] rfl ?_
        exact ih _ _ _ _ _ w
      · have w := w2 c9
        refine jr_iload_n (pc := 52) F (j := 4) dX12_near_52 rfl ?_
        refine jr_iconst (pc := 53) F dX12_near_53 ?_
        obtain ⟨hx9, w1, w2⟩ := w
        refine jr_icmp_eq (pc := 54) (tgt := 64) F hx9 ⟨by decide, by decide⟩ dX12_near_54 rfl (fun c9 => ?_) (fun c9 => ?_)
        · have w := w1 c9
          refine jj_J.sub [1, 2, 3, 6, 0] rfl ?_
          exact sC_X12_near_j64 F M O J hi hQ hE _ _ _ _ _ ih _ _ w
        · have w := w2 c9
          refine jr_iload (pc := 57) F (j := 0) dX12_near_57 rfl ?_
          refine jr_iload (pc := 59) F (j := 5) dX12_near_59 rfl ?_
          obtain ⟨hx9, hy9, w1, w2⟩ := w
          refine jr_icmp_ge (pc := 61) (tgt := 71) F hx9 hy9 dX12_near_61 rfl (fun c9 => ?_) (fun c9 => ?_)
          · have w := w1 c9
            have w := w _ rfl
            refine jr_iinc (pc := 71) F (j := 6) (vs' := [(5, .inl _), (6, .inl _), (0, .inr (.inr (.inl _))), (1, .inr (.inr (.inl _))), (2, .inr (.inr (.inl _))), (3, .inl _), (4, .inl _)]) dX12_near_71 rfl rfl (Nat.le_of_ble_eq_true rfl) rfl ?_
            refine jr_goto (pc := 74) (tgt := 8) F dX12_near_74 rfl ?_
            refine jj_J.sub [2, 3, 4, 5, 6, 0] rfl ?_
            exact ih _ _ _ _ _ w
          · have w := w2 c9
            refine jj_J.sub [1, 2, 3, 6, 0] rfl ?_
            exact sC_X12_near_j64 F M O J hi hQ hE _ _ _ _ _ ih _ _ w

theorem sC_X12_near {X : jj_X} {N : Option jj_AV → jj_H → Prop} {XN : String → Nat → jj_H → Prop} (F : jj_F X RX12 cX12_near 7) (M : jj_M X (none) 1 21 N XN) (O : jj_no X) (J : jj_GJ X.1 X.2.2.1) (hi : X.2.2.2.2.2.2.2.2.2.1.name = yX12_near.name) {Q : jj_H → Prop} {E : String → Nat → jj_H → Prop} (hQ : ∀ h, Q h → N none h) (hE : ∀ e q h, E e q h → XN e q h) (x0 : Option Nat) (x1 : Option Nat) (x2 : Option Nat) : ∀ (h : jj_H) (k : Nat), fC_X12_near (jj_gk X.1) x0 x1 x2 Q E h k → jj_J X 7 0 [(0, .inr (.inr (.inl x0))), (1, .inr (.inr (.inl x1))), (2, .inr (.inr (.inl x2)))] [] h k := by
  intro h k w
  unfold fC_X12_near at w
  refine jr_iconst (pc := 0) F dX12_near_0 ?_
  refine jr_istore_n (pc := 1) F (vs' := [(3, .inl _), (0, .inr (.inr (.inl _))), (1, .inr (.inr (.inl _))), (2, .inr (.inr (.inl _)))]) dX12_near_1 (Nat.le_of_ble_eq_true rfl) rfl ?_
  refine jr_iconst (pc := 2) F dX12_near_2 ?_
  refine jr_istore (pc := 3) F (vs' := [(4, .inl _), (3, .inl _), (0, .inr (.inr (.inl _))), (1, .inr (.inr (.inl _))), (2, .inr (.inr (.inl _)))]) dX12_near_3 (Nat.le_of_ble_eq_true rfl) rfl ?_
  refine jr_iconst (pc := 5) F dX12_near_5 ?_
  refine jr_istore (pc := 6) F (vs' := [(5, .inl _), (4, .inl _), (3, .inl _), (0, .inr (.inr (.inl _))), (1, .inr (.inr (.inl _))), (2, .inr (.inr (.inl _)))]) dX12_near_6 (Nat.le_of_ble_eq_true rfl) rfl ?_
  refine jj_J.sub [3, 4, 5, 2, 1, 0] rfl ?_
  obtain ⟨n9, w⟩ := w
  exact sC_X12_near_l8 F M O J hi hQ hE _ _ _ n9 _ _ _ _ _ w

theorem cC_X12_near {G : jj_G} {l : Launch} (J : jj_GJ G l) {x0 : Option Nat} {x1 : Option Nat} {x2 : Option Nat} {Q : jj_H → Prop} {E : String → Nat → jj_H → Prop} {h : jj_H} {k : Nat} (w : fC_X12_near (jj_gk G) x0 x1 x2 Q E h k) : jj_Ct G l yX12_near (ws_ yX12_near cX12_near 7 (none)) 1 21 [.inr (.inr (.inl x0)), .inr (.inr (.inl x1)), .inr (.inr (.inl x2))] h k (jc_v Q) E := by
  refine jj_Ct.of (jK_gs J).1 (by decide +kernel) (Nat.le_of_ble_eq_true rfl) rfl (fun X hG hl F M O hnm => ?_)
  subst hG; subst hl
  exact sC_X12_near F M O J hnm (fun h q => ⟨rfl, q⟩) (fun _ _ _ q => q) _ _ _ _ _ w
theorem hC_X12_near : yX12_near.cls = RX12 ∧ yX12_near.cls ≠ "java/lang/invoke/MethodHandle" ∧ yX12_near.cls ≠ "java/lang/invoke/VarHandle" ∧ (parseMethodDescriptor yX12_near.desc).map (fun d => d.parameters.length) = some 2 := by decide +kernel
/-! X12_span(LNoteImporter$Note;LNoteImporter$Alignment;)V -/
def fC_X12_span_j108 (gk : Nat → Nat) (y0 : Option Nat) (y1 : Int) (Q : jj_H → Prop) (E : String → Nat → jj_H → Prop) (h : jj_H) (k : Nat) : Prop :=
  jp_pi h y0 6 0 y1 (fun h1 =>
  Q h1)
def fC_X12_span_j107 (gk : Nat → Nat) (y0 : Option Nat) (Q : jj_H → Prop) (E : String → Nat → jj_H → Prop) (h : jj_H) (k : Nat) : Prop :=
  fC_X12_span_j108 gk y0 1 Q E h k
def fC_X12_span_j58 (gk : Nat → Nat) (K5 : Int → jj_H → Nat → Prop) (x0 : Option Nat) (x1 : Option Nat) (x2 : Option Nat) (x3 : Int) (y0 : Option Nat) (y1 : Int) (Q : jj_H → Prop) (E : String → Nat → jj_H → Prop) (h : jj_H) (k : Nat) : Prop :=
  jp_pi h y0 6 2 y1 (fun h2 =>
  ∀ v3, v3 = x3 + 1 →
  K5 v3 h2 k)
def fC_X12_span_j39 (gk : Nat → Nat) (K5 : Int → jj_H → Nat → Prop) (x0 : Option Nat) (x1 : Option Nat) (x2 : Option Nat) (x3 : Int) (x4 : Int) (y0 : Option Nat) (y1 : Int) (Q : jj_H → Prop) (E : String → Nat → jj_H → Prop) (h : jj_H) (k : Nat) : Prop :=
  jp_pi h y0 6 1 y1 (fun h4 =>
  jj_r x4 ∧ (¬ x4 = (-1) → (
    fC_X12_span_j58 gk K5 x0 x1 x2 x3 x0 x4 Q E h4 k)) ∧
  (x4 = (-1) → (
    jp_gi h4 x0 6 2 (fun g5 =>
    fC_X12_span_j58 gk K5 x0 x1 x2 x3 x0 g5 Q E h4 k))))
def fC_X12_span_l5 (gk : Nat → Nat) (x0 : Option Nat) (x1 : Option Nat) (x2 : Option Nat) (Q : jj_H → Prop) (E : String → Nat → jj_H → Prop) : Nat → Int → jj_H → Nat → Prop
  | 0, _, _, _ => False
  | n + 1, x3, h, k =>
  jp_gi h x1 4 6 (fun g6 =>
  jj_r x3 ∧ jj_r g6 ∧ (g6 < x3 → (
    jp_gi h x1 4 6 (fun g7 =>
    jp_gi h x1 4 5 (fun g8 =>
    ∀ v9, v9 = (g7 - g8) + 1 →
    jp_gi h x0 6 3 (fun g10 =>
    jj_r g10 ∧ jj_r v9 ∧ (¬ g10 = v9 → (
      fC_X12_span_j107 gk x0 Q E h k)) ∧
    (g10 = v9 → (
      jp_gi h x0 6 2 (fun g11 =>
      jp_gi h x0 6 1 (fun g12 =>
      jj_r ((g11 - g12) + 1) ∧ jj_r v9 ∧ (¬ ((g11 - g12) + 1) = v9 → (
        fC_X12_span_j107 gk x0 Q E h k)) ∧
      (((g11 - g12) + 1) = v9 → (
        fC_X12_span_j108 gk x0 0 Q E h k))))))))))) ∧
  (¬ g6 < x3 → (
    jp_gr h x2 5 0 (fun g13 =>
    jp_al h g13 0 x3 (fun g14 =>
    jp_gi h x0 6 1 (fun g15 =>
    jj_r g15 ∧ (¬ g15 = (-1) → (
      jp_gi h x0 6 1 (fun g16 =>
      fC_X12_span_j39 gk (fC_X12_span_l5 gk x0 x1 x2 Q E n) x0 x1 x2 x3 g14 x0 g16 Q E h k))) ∧
    (g15 = (-1) → (
      fC_X12_span_j39 gk (fC_X12_span_l5 gk x0 x1 x2 Q E n) x0 x1 x2 x3 g14 x0 g14 Q E h k))))))))
def fC_X12_span (gk : Nat → Nat) (x0 : Option Nat) (x1 : Option Nat) (x2 : Option Nat) (Q : jj_H → Prop) (E : String → Nat → jj_H → Prop) (h : jj_H) (k : Nat) : Prop :=
  jp_gi h x1 4 5 (fun g17 =>
  ∃ n9, fC_X12_span_l5 gk x0 x1 x2 Q E n9 g17 h k)
theorem sC_X12_span_j108 {X : jj_X} {N : Option jj_AV → jj_H → Prop} {XN : String → Nat → jj_H → Prop} (F : jj_F X RX12 cX12_span 5) (M : jj_M X (none) 0 0 N XN) (O : jj_no X) (J : jj_GJ X.1 X.2.2.1) (hi : X.2.2.2.2.2.2.2.2.2.1.name = yX12_span.name) {Q : jj_H → Prop} {E : String → Nat → jj_H → Prop} (hQ : ∀ h, Q h → N none h) (hE : ∀ e q h, E e q h → XN e q h) (y0 : Option Nat) (y1 : Int) : ∀ (h : jj_H) (k : Nat), fC_X12_span_j108 (jj_gk X.1) y0 y1 Q E h k → jj_J X 5 108 [] [.inl y1, .inr (.inr (.inl y0))] h k := by
  intro h k w
  unfold fC_X12_span_j108 at w
  refine jr_pi (pc := 108) (ci := 6) (f := 0) F rfl in_X12 tyX12_ok nmX12 (Nat.le_of_ble_eq_true rfl) rfl rfl q756 dX12_span_108 w (fun h1 w => ?_)
  exact jr_vret (pc := 111) F M dX12_span_111 (hQ _ w)

theorem sC_X12_span_j107 {X : jj_X} {N : Option jj_AV → jj_H → Prop} {XN : String → Nat → jj_H → Prop} (F : jj_F X RX12 cX12_span 5) (M : jj_M X (none) 0 0 N XN) (O : jj_no X) (J : jj_GJ X.1 X.2.2.1) (hi : X.2.2.2.2.2.2.2.2.2.1.name = yX12_span.name) {Q : jj_H → Prop} {E : String → Nat → jj_H → Prop} (hQ : ∀ h, Q h → N none h) (hE : ∀ e q h, E e q h → XN e q h) (y0 : Option Nat) : ∀ (h : jj_H) (k : Nat), fC_X12_span_j107 (jj_gk X.1) y0 Q E h k → jj_J X 5 107 [] [.inr (.inr (.inl y0))] h k := by
  intro h k w
  unfold fC_X12_span_j107 at w
  refine jr_iconst (pc := 107) F dX12_span_107 ?_
  exact sC_X12_span_j108 F M O J hi hQ hE _ _ _ _ w

theorem sC_X12_span_j58 {X : jj_X} {N : Option jj_AV → jj_H → Prop} {XN : String → Nat → jj_H → Prop} (F : jj_F X RX12 cX12_span 5) (M : jj_M X (none) 0 0 N XN) (O : jj_no X) (J : jj_GJ X.1 X.2.2.1) (hi : X.2.2.2.2.2.2.2.2.2.1.name = yX12_span.name) {Q : jj_H → Prop} {E : String → Nat → jj_H → Prop} (hQ : ∀ h, Q h → N none h) (hE : ∀ e q h, E e q h → XN e q h) (x0 : Option Nat) (x1 : Option Nat) (x2 : Option Nat) (x3 : Int) (y0 : Option Nat) (y1 : Int) {K5 : Int → jj_H → Nat → Prop} (hK5 : ∀ (z3 : Int) (h : jj_H) (k : Nat), K5 z3 h k → jj_J X 5 5 [(0, .inr (.inr (.inl x0))), (1, .inr (.inr (.inl x1))), (2, .inr (.inr (.inl x2))), (3, .inl z3)] [] h k) : ∀ (h : jj_H) (k : Nat), fC_X12_span_j58 (jj_gk X.1) K5 x0 x1 x2 x3 y0 y1 Q E h k → jj_J X 5 58 [(0, .inr (.inr (.inl x0))), (1, .inr (.inr (.inl x1))), (2, .inr (.inr (.inl x2))), (3, .inl x3)] [.inl y1, .inr (.inr (.inl y0))] h k := by
  intro h k w
  unfold fC_X12_span_j58 at w
  refine jr_pi (pc := 58) (ci := 6) (f := 2) F rfl in_X12 tyX12_ok nmX12 (Nat.le_of_ble_eq_true rfl) rfl rfl q763 dX12_span_58 w (fun h2 w => ?_)
  have w := w _ rfl
  refine jr_iinc (pc := 61) F (j := 3) (vs' := [(3, .inl _), (0, .inr (.inr (.inl _))), (1, .inr (.inr (.inl _))), (2, .inr (.inr (.inl _)))]) dX12_span_61 rfl rfl (Nat.le_of_ble_eq_true rfl) rfl ?_
  refine jr_goto (pc := 64) (tgt := 5) F dX12_span_64 rfl ?_
  refine jj_J.sub [1, 2, 3, 0] rfl ?_
  exact hK5 _ _ _ w

theorem sC_X12_span_j39 {X : jj_X} {N : Option jj_AV → jj_H → Prop} {XN : String → Nat → jj_H → Prop} (F : jj_F X RX12 cX12_span 5) (M : jj_M X (none) 0 0 N XN) (O : jj_no X) (J : jj_GJ X.1 X.2.2.1) (hi : X.2.2.2.2.2.2.2.2.2.1.name = yX12_span.name) {Q : jj_H → Prop} {E : String → Nat → jj_H → Prop} (hQ : ∀ h, Q h → N none h) (hE : ∀ e q h, E e q h → XN e q h) (x0 : Option Nat) (x1 : Option Nat) (x2 : Option Nat) (x3 : Int) (x4 : Int) (y0 : Option Nat) (y1 : Int) {K5 : Int → jj_H → Nat → Prop} (hK5 : ∀ (z3 : Int) (h : jj_H) (k : Nat), K5 z3 h k → jj_J X 5 5 [(0, .inr (.inr (.inl x0))), (1, .inr (.inr (.inl x1))), (2, .inr (.inr (.inl x2))), (3, .inl z3)] [] h k) : ∀ (h : jj_H) (k : Nat), fC_X12_span_j39 (jj_gk X.1) K5 x0 x1 x2 x3 x4 y0 y1 Q E h k → jj_J X 5 39 [(0, .inr (.inr (.inl x0))), (1, .inr (.inr (.inl x1))), (2, .inr (.inr (.inl x2))), (3, .inl x3), (4, .inl x4)] [.inl y1, .inr (.inr (.inl y0))] h k := by
  intro h k w
  unfold fC_X12_span_j39 at w
  refine jr_pi (pc := 39) (ci := 6) (f := 1) F rfl in_X12 tyX12_ok nmX12 (Nat.le_of_ble_eq_true rfl) rfl rfl q760 dX12_span_39 w (fun h4 w => ?_)
  refine jr_aload_n (pc := 42) F (j := 0) dX12_span_42 rfl ?_
  refine jr_iload (pc := 43) F (j := 4) dX12_span_43 rfl ?_
  refine jr_iconst (pc := 45) F dX12_span_45 ?_
  obtain ⟨hx9, w1, w2⟩ := w
  refine jr_icmp_ne (pc := 46) (tgt := 56) F hx9 ⟨by decide, by decide⟩ dX12_span_46 rfl (fun c9 => ?_) (fun c9 => ?_)
  · have w := w1 c9
    refine jr_iload (pc := 56) F (j := 4) dX12_span_56 rfl ?_
    refine jj_J.sub [0, 1, 2, 3] rfl ?_
    exact sC_X12_span_j58 F M O J hi hQ hE _ _ _ _ _ _ hK5 _ _ w
  · have w := w2 c9
    refine jr_aload_n (pc := 49) F (j := 0) dX12_span_49 rfl ?_
    refine jr_gi (pc := 50) (ci := 6) (f := 2) F rfl in_X12 (Nat.le_of_ble_eq_true rfl) q763 dX12_span_50 w (fun g5 w => ?_)
    refine jr_goto (pc := 53) (tgt := 58) F dX12_span_53 rfl ?_
    refine jj_J.sub [0, 1, 2, 3] rfl ?_
    exact sC_X12_span_j58 F M O J hi hQ hE _ _ _ _ _ _ hK5 _ _ w

theorem sC_X12_span_l5 {X : jj_X} {N : Option jj_AV → jj_H → Prop} {XN : String → Nat → jj_H → Prop} (F : jj_F X RX12 cX12_span 5) (M : jj_M X (none) 0 0 N XN) (O : jj_no X) (J : jj_GJ X.1 X.2.2.1) (hi : X.2.2.2.2.2.2.2.2.2.1.name = yX12_span.name) {Q : jj_H → Prop} {E : String → Nat → jj_H → Prop} (hQ : ∀ h, Q h → N none h) (hE : ∀ e q h, E e q h → XN e q h) (x0 : Option Nat) (x1 : Option Nat) (x2 : Option Nat) : ∀ (n : Nat) (x3 : Int) (h : jj_H) (k : Nat), fC_X12_span_l5 (jj_gk X.1) x0 x1 x2 Q E n x3 h k → jj_J X 5 5 [(0, .inr (.inr (.inl x0))), (1, .inr (.inr (.inl x1))), (2, .inr (.inr (.inl x2))), (3, .inl x3)] [] h k := by
  intro n
  induction n with
  | zero =>
    intro x3 h k w
    exact (show False from w).elim
  | succ n ih =>
    intro x3 h k w
    rw [fC_X12_span_l5] at w
    refine jr_iload_n (pc := 5) F (j := 3) dX12_span_5 rfl ?_
    refine jr_aload_n (pc := 6) F (j := 1) dX12_span_6 rfl ?_
    refine jr_giN (pc := 7) (ci := 4) (f := 6) F rfl in_X6 (Nat.le_of_ble_eq_true rfl) q2312 dX12_span_7 w (fun g6 w => ?_)
    obtain ⟨hx9, hy9, w1, w2⟩ := w
    refine jr_icmp_gt (pc := 10) (tgt := 67) F hx9 hy9 dX12_span_10 rfl (fun c9 => ?_) (fun c9 => ?_)
    · have w := w1 c9
      refine jr_aload_n (pc := 67) F (j := 1) dX12_span_67 rfl ?_
      refine jr_giN (pc := 68) (ci := 4) (f := 6) F rfl in_X6 (Nat.le_of_ble_eq_true rfl) q2312 dX12_span_68 w (fun g7 w => ?_)
      refine jr_aload_n (pc := 71) F (j := 1) dX12_span_71 rfl ?_
      refine jr_giN (pc := 72) (ci := 4) (f := 5) F rfl in_X6 (Nat.le_of_ble_eq_true rfl) q2309 dX12_span_72 w (fun g8 w => ?_)
      refine jr_isub (pc := 75) F dX12_span_75 ?_
      refine jr_iconst (pc := 76) F dX12_span_76 ?_
      refine jr_iadd (pc := 77) F dX12_span_77 ?_
      have w := w _ rfl
      refine jr_istore_n (pc := 78) F (vs' := [(3, .inl _), (0, .inr (.inr (.inl _))), (1, .inr (.inr (.inl _))), (2, .inr (.inr (.inl _)))]) dX12_span_78 (Nat.le_of_ble_eq_true rfl) rfl ?_
      refine jr_aload_n (pc := 79) F (j := 1) dX12_span_79 rfl ?_
      refine jr_aload_n (pc := 80) F (j := 1) dX12_span_80 rfl ?_
      refine jr_gi (pc := 81) (ci := 6) (f := 3) F rfl in_X12 (Nat.le_of_ble_eq_true rfl) q766 dX12_span_81 w (fun g10 w => ?_)
      refine jr_iload_n (pc := 84) F (j := 0) dX12_span_84 rfl ?_
      obtain ⟨hx9, hy9, w1, w2⟩ := w
      refine jr_icmp_ne (pc := 85) (tgt := 107) F hx9 hy9 dX12_span_85 rfl (fun c9 => ?_) (fun c9 => ?_)
      · have w := w1 c9
        refine jj_J.sub [] rfl ?_
        exact sC_X12_span_j107 F M O J hi hQ hE _ _ _ w
      · have w := w2 c9
        refine jr_aload_n (pc := 88) F (j := 1) dX12_span_88 rfl ?_
        refine jr_gi (pc := 89) (ci := 6) (f := 2) F rfl in_X12 (Nat.le_of_ble_eq_true rfl) q763 dX12_span_89 w (fun g11 w => ?_)
        refine jr_aload_n (pc := 92) F (j := 1) dX12_span_92 rfl ?_
        refine jr_gi (pc := 93) (ci := 6) (f := 1) F rfl in_X12 (Nat.le_of_ble_eq_true rfl) q760 dX12_span_93 w (fun g12 w => ?_)
        refine jr_isub (pc := 96) F dX12_span_96 ?_
        refine jr_iconst (pc := 97) F dX12_span_97 ?_
        refine jr_iadd (pc := 98) F dX12_span_98 ?_
        refine jr_iload_n (pc := 99) F (j := 0) dX12_span_99 rfl ?_
        obtain ⟨hx9, hy9, w1, w2⟩ := w
        refine jr_icmp_ne (pc := 100) (tgt := 107) F hx9 hy9 dX12_span_100 rfl (fun c9 => ?_) (fun c9 => ?_)
        · have w := w1 c9
          refine jj_J.sub [] rfl ?_
          exact sC_X12_span_j107 F M O J hi hQ hE _ _ _ w
        · have w := w2 c9
          refine jr_iconst (pc := 103) F dX12_span_103 ?_
          refine jr_goto (pc := 104) (tgt := 108) F dX12_span_104 rfl ?_
          refine jj_J.sub [] rfl ?_
          exact sC_X12_span_j108 F M O J hi hQ hE _ _ _ _ w
    · have w := w2 c9
      refine jr_aload_n (pc := 13) F (j := 2) dX12_span_13 rfl ?_
      refine jr_grN (pc := 14) (ci := 5) (f := 0) F rfl in_X11 (Nat.le_of_ble_eq_true rfl) q726 dX12_span_14 w (fun g13 w => ?_)
      refine jr_iload_n (pc := 17) F (j := 3) dX12_span_17 rfl ?_
      refine jr_iald (pc := 18) F dX12_span_18 w (fun g14 w => ?_)
      refine jr_istore (pc := 19) F (vs' := [(4, .inl _), (0, .inr (.inr (.inl _))), (1, .inr (.inr (.inl _))), (2, .inr (.inr (.inl _))), (3, .inl _)]) dX12_span_19 (Nat.le_of_ble_eq_true rfl) rfl ?_
      refine jr_aload_n (pc := 21) F (j := 1) dX12_span_21 rfl ?_
      refine jr_aload_n (pc := 22) F (j := 1) dX12_span_22 rfl ?_
      refine jr_gi (pc := 23) (ci := 6) (f := 1) F rfl in_X12 (Nat.le_of_ble_eq_true rfl) q760 dX12_span_23 w (fun g15 w => ?_)
      refine jr_iconst (pc := 26) F dX12_span_26 ?_
      obtain ⟨hx9, w1, w2⟩ := w
      refine jr_icmp_ne (pc := 27) (tgt := 35) F hx9 ⟨by decide, by decide⟩ dX12_span_27 rfl (fun c9 => ?_) (fun c9 => ?_)
      · have w := w1 c9
        refine jr_aload_n (pc := 35) F (j := 1) dX12_span_35 rfl ?_
        refine jr_gi (pc := 36) (ci := 6) (f := 1) F rfl in_X12 (Nat.le_of_ble_eq_true rfl) q760 dX12_span_36 w (fun g16 w => ?_)
        refine jj_J.sub [1, 2, 3, 4, 0] rfl ?_
        exact sC_X12_span_j39 F M O J hi hQ hE _ _ _ _ _ _ _ ih _ _ w
      · have w := w2 c9
        refine jr_iload (pc := 30) F (j := 0) dX12_span_30 rfl ?_
        refine jr_goto (pc := 32) (tgt := 39) F dX12_span_32 rfl ?_
        refine jj_J.sub [1, 2, 3, 4, 0] rfl ?_
        exact sC_X12_span_j39 F M O J hi hQ hE _ _ _ _ _ _ _ ih _ _ w

theorem sC_X12_span {X : jj_X} {N : Option jj_AV → jj_H → Prop} {XN : String → Nat → jj_H → Prop} (F : jj_F X RX12 cX12_span 5) (M : jj_M X (none) 0 0 N XN) (O : jj_no X) (J : jj_GJ X.1 X.2.2.1) (hi : X.2.2.2.2.2.2.2.2.2.1.name = yX12_span.name) {Q : jj_H → Prop} {E : String → Nat → jj_H → Prop} (hQ : ∀ h, Q h → N none h) (hE : ∀ e q h, E e q h → XN e q h) (x0 : Option Nat) (x1 : Option Nat) (x2 : Option Nat) : ∀ (h : jj_H) (k : Nat), fC_X12_span (jj_gk X.1) x0 x1 x2 Q E h k → jj_J X 5 0 [(0, .inr (.inr (.inl x0))), (1, .inr (.inr (.inl x1))), (2, .inr (.inr (.inl x2)))] [] h k := by
  intro h k w
  unfold fC_X12_span at w
  refine jr_aload_n (pc := 0) F (j := 1) dX12_span_0 rfl ?_
  refine jr_giN (pc := 1) (ci := 4) (f := 5) F rfl in_X6 (Nat.le_of_ble_eq_true rfl) q2309 dX12_span_1 w (fun g17 w => ?_)
  refine jr_istore_n (pc := 4) F (vs' := [(3, .inl _), (0, .inr (.inr (.inl _))), (1, .inr (.inr (.inl _))), (2, .inr (.inr (.inl _)))]) dX12_span_4 (Nat.le_of_ble_eq_true rfl) rfl ?_
  refine jj_J.sub [1, 2, 3, 0] rfl ?_
  obtain ⟨n9, w⟩ := w
  exact sC_X12_span_l5 F M O J hi hQ hE _ _ _ n9 _ _ _ w

theorem cC_X12_span {G : jj_G} {l : Launch} (J : jj_GJ G l) {x0 : Option Nat} {x1 : Option Nat} {x2 : Option Nat} {Q : jj_H → Prop} {E : String → Nat → jj_H → Prop} {h : jj_H} {k : Nat} (w : fC_X12_span (jj_gk G) x0 x1 x2 Q E h k) : jj_Ct G l yX12_span (ws_ yX12_span cX12_span 5 (none)) 0 0 [.inr (.inr (.inl x0)), .inr (.inr (.inl x1)), .inr (.inr (.inl x2))] h k (jc_v Q) E := by
  refine jj_Ct.of (jK_gs J).1 (by decide +kernel) (Nat.le_of_ble_eq_true rfl) rfl (fun X hG hl F M O hnm => ?_)
  subst hG; subst hl
  exact sC_X12_span F M O J hnm (fun h q => ⟨rfl, q⟩) (fun _ _ _ q => q) _ _ _ _ _ w
theorem hC_X12_span : yX12_span.cls = RX12 ∧ yX12_span.cls ≠ "java/lang/invoke/MethodHandle" ∧ yX12_span.cls ≠ "java/lang/invoke/VarHandle" ∧ (parseMethodDescriptor yX12_span.desc).map (fun d => d.parameters.length) = some 2 := by decide +kernel
/-! X12_init(LNoteImporter$Note;LNoteImporter$Alignment;)V -/
def fC_X12_init (gk : Nat → Nat) (x0 : Option Nat) (x1 : Option Nat) (x2 : Option Nat) (Q : jj_H → Prop) (E : String → Nat → jj_H → Prop) (h : jj_H) (k : Nat) : Prop :=
  jp_so x0 ∧
  jp_pi h x0 6 0 3 (fun h1 =>
  jp_pi h1 x0 6 1 (-1) (fun h2 =>
  jp_pi h2 x0 6 2 (-1) (fun h3 =>
  jp_gi h3 x1 4 5 (fun g4 =>
  jp_gi h3 x1 4 6 (fun g5 =>
  jp_is h3 x2 5 ∧ fC_X11_count gk x2 g4 g5 (fun r7 h8 =>
  jp_pi h8 x0 6 3 r7 (fun h9 =>
  jp_gi h9 x0 6 3 (fun g10 =>
  jp_gi h9 x1 4 6 (fun g11 =>
  jp_gi h9 x1 4 5 (fun g12 =>
  jj_r (2 * g10) ∧ jj_r ((g11 - g12) + 1) ∧ ((2 * g10) < ((g11 - g12) + 1) → (
    jp_is h9 x2 5 ∧ fC_X11_count_2 gk x2 (fun r14 h15 =>
    jj_r r14 ∧ (r14 ≤ 0 → (
      Q h15)) ∧
    (¬ r14 ≤ 0 → (
      jp_is h15 x0 6 ∧ fC_X12_near gk x0 x1 x2 (fun h18 =>
      Q h18) E h15 0))) E h9 0)) ∧
  (¬ (2 * g10) < ((g11 - g12) + 1) → (
    jp_is h9 x0 6 ∧ fC_X12_span gk x0 x1 x2 (fun h21 =>
    Q h21) E h9 0))))))) E h3 0)))))
theorem sC_X12_init {X : jj_X} {N : Option jj_AV → jj_H → Prop} {XN : String → Nat → jj_H → Prop} (F : jj_F X RX12 cX12_init 3) (M : jj_M X (none) 2 47 N XN) (O : jj_no X) (J : jj_GJ X.1 X.2.2.1) (hi : X.2.2.2.2.2.2.2.2.2.1.name = yX12_init.name) {Q : jj_H → Prop} {E : String → Nat → jj_H → Prop} (hQ : ∀ h, Q h → N none h) (hE : ∀ e q h, E e q h → XN e q h) (x0 : Option Nat) (x1 : Option Nat) (x2 : Option Nat) : ∀ (h : jj_H) (k : Nat), fC_X12_init (jj_gk X.1) x0 x1 x2 Q E h k → jj_J X 3 0 [(0, .inr (.inr (.inl x0))), (1, .inr (.inr (.inl x1))), (2, .inr (.inr (.inl x2)))] [] h k := by
  intro h k w
  unfold fC_X12_init at w
  refine jr_aload_n (pc := 0) F (j := 0) dX12_init_0 rfl ?_
  obtain ⟨ha9, w⟩ := w
  refine jr_objInitO (pc := 1) F M q737 q192 q193 ha9 (Nat.le_of_ble_eq_true rfl) (Nat.le_of_ble_eq_true rfl) (Nat.le_of_ble_eq_true rfl) dX12_init_1 ?_
  refine jr_aload_n (pc := 4) F (j := 0) dX12_init_4 rfl ?_
  refine jr_iconst (pc := 5) F dX12_init_5 ?_
  refine jr_pi (pc := 6) (ci := 6) (f := 0) F rfl in_X12 tyX12_ok nmX12 (Nat.le_of_ble_eq_true rfl) rfl rfl q756 dX12_init_6 w (fun h1 w => ?_)
  refine jr_aload_n (pc := 9) F (j := 0) dX12_init_9 rfl ?_
  refine jr_iconst (pc := 10) F dX12_init_10 ?_
  refine jr_pi (pc := 11) (ci := 6) (f := 1) F rfl in_X12 tyX12_ok nmX12 (Nat.le_of_ble_eq_true rfl) rfl rfl q760 dX12_init_11 w (fun h2 w => ?_)
  refine jr_aload_n (pc := 14) F (j := 0) dX12_init_14 rfl ?_
  refine jr_iconst (pc := 15) F dX12_init_15 ?_
  refine jr_pi (pc := 16) (ci := 6) (f := 2) F rfl in_X12 tyX12_ok nmX12 (Nat.le_of_ble_eq_true rfl) rfl rfl q763 dX12_init_16 w (fun h3 w => ?_)
  refine jr_aload_n (pc := 19) F (j := 0) dX12_init_19 rfl ?_
  refine jr_aload_n (pc := 20) F (j := 2) dX12_init_20 rfl ?_
  refine jr_aload_n (pc := 21) F (j := 1) dX12_init_21 rfl ?_
  refine jr_giN (pc := 22) (ci := 4) (f := 5) F rfl in_X6 (Nat.le_of_ble_eq_true rfl) q2309 dX12_init_22 w (fun g4 w => ?_)
  refine jr_aload_n (pc := 25) F (j := 1) dX12_init_25 rfl ?_
  refine jr_giN (pc := 26) (ci := 4) (f := 6) F rfl in_X6 (Nat.le_of_ble_eq_true rfl) q2312 dX12_init_26 w (fun g5 w => ?_)
  obtain ⟨hi9, w⟩ := w
  refine jr_cV (pc := 29) (As := [_, _]) (ci := 5) F M (lw_V q738 q739 q740 q178 q741) dX12_init_29 hC_X11_count rfl (Nat.le_of_ble_eq_true rfl) (Nat.le_of_ble_eq_true rfl) (Nat.le_of_ble_eq_true rfl) rfl hi9 (Nat.zero_le _) (cC_X11_count J w) (fun v9 h8 q9 => ?_) (fun E9 q9 h9 w9 => jr_out F M O (hE _ _ _ w9))
  obtain ⟨r7, rfl, w⟩ := q9
  refine jr_piF (pc := 32) (ci := 6) (f := 3) F rfl in_X12 tyX12_ok nmX12 (Nat.le_of_ble_eq_true rfl) rfl rfl rfl hi q766 dX12_init_32 w (fun h9 w => ?_)
  refine jr_iconst (pc := 35) F dX12_init_35 ?_
  refine jr_aload_n (pc := 36) F (j := 0) dX12_init_36 rfl ?_
  refine jr_gi (pc := 37) (ci := 6) (f := 3) F rfl in_X12 (Nat.le_of_ble_eq_true rfl) q766 dX12_init_37 w (fun g10 w => ?_)
  refine jr_imul (pc := 40) F dX12_init_40 ?_
  refine jr_aload_n (pc := 41) F (j := 1) dX12_init_41 rfl ?_
  refine jr_giN (pc := 42) (ci := 4) (f := 6) F rfl in_X6 (Nat.le_of_ble_eq_true rfl) q2312 dX12_init_42 w (fun g11 w => ?_)
  refine jr_aload_n (pc := 45) F (j := 1) dX12_init_45 rfl ?_
  refine jr_giN (pc := 46) (ci := 4) (f := 5) F rfl in_X6 (Nat.le_of_ble_eq_true rfl) q2309 dX12_init_46 w (fun g12 w => ?_)
  refine jr_isub (pc := 49) F dX12_init_49 ?_
  refine jr_iconst (pc := 50) F dX12_init_50 ?_
  refine jr_iadd (pc := 51) F dX12_init_51 ?_
  obtain ⟨hx9, hy9, w1, w2⟩ := w
  refine jr_icmp_lt (pc := 52) (tgt := 64) F hx9 hy9 dX12_init_52 rfl (fun c9 => ?_) (fun c9 => ?_)
  · have w := w1 c9
    refine jr_aload_n (pc := 64) F (j := 2) dX12_init_64 rfl ?_
    obtain ⟨hi9, w⟩ := w
    refine jr_cV (pc := 65) (As := []) (ci := 5) F M (lw_V q746 q747 q748 q178 q749) dX12_init_65 hC_X11_count_2 rfl (Nat.le_of_ble_eq_true rfl) (Nat.le_of_ble_eq_true rfl) (Nat.le_of_ble_eq_true rfl) rfl hi9 (Nat.zero_le _) (cC_X11_count_2 J w) (fun v9 h15 q9 => ?_) (fun E9 q9 h9 w9 => jr_out F M O (hE _ _ _ w9))
    obtain ⟨r14, rfl, w⟩ := q9
    obtain ⟨hx9, w1, w2⟩ := w
    refine jr_if_le (pc := 68) (tgt := 77) F hx9 dX12_init_68 rfl (fun c9 => ?_) (fun c9 => ?_)
    · have w := w1 c9
      exact jr_vret (pc := 77) F M dX12_init_77 (hQ _ w)
    · have w := w2 c9
      refine jr_aload_n (pc := 71) F (j := 0) dX12_init_71 rfl ?_
      refine jr_aload_n (pc := 72) F (j := 1) dX12_init_72 rfl ?_
      refine jr_aload_n (pc := 73) F (j := 2) dX12_init_73 rfl ?_
      obtain ⟨hi9, w⟩ := w
      refine jr_cV (pc := 74) (As := [_, _]) (ci := 6) F M (lw_V q751 q753 qs4 q179 q754) dX12_init_74 hC_X12_near rfl (Nat.le_of_ble_eq_true rfl) (Nat.le_of_ble_eq_true rfl) (Nat.le_of_ble_eq_true rfl) rfl hi9 (Nat.zero_le _) (cC_X12_near J w) (fun v9 h18 q9 => ?_) (fun E9 q9 h9 w9 => jr_out F M O (hE _ _ _ w9))
      obtain ⟨rfl, w⟩ := q9
      exact jr_vret (pc := 77) F M dX12_init_77 (hQ _ w)
  · have w := w2 c9
    refine jr_aload_n (pc := 55) F (j := 0) dX12_init_55 rfl ?_
    refine jr_aload_n (pc := 56) F (j := 1) dX12_init_56 rfl ?_
    refine jr_aload_n (pc := 57) F (j := 2) dX12_init_57 rfl ?_
    obtain ⟨hi9, w⟩ := w
    refine jr_cV (pc := 58) (As := [_, _]) (ci := 6) F M (lw_V q742 q744 qs3 q179 q745) dX12_init_58 hC_X12_span rfl (Nat.le_of_ble_eq_true rfl) (Nat.le_of_ble_eq_true rfl) (Nat.le_of_ble_eq_true rfl) rfl hi9 (Nat.zero_le _) (cC_X12_span J w) (fun v9 h21 q9 => ?_) (fun E9 q9 h9 w9 => jr_out F M O (hE _ _ _ w9))
    obtain ⟨rfl, w⟩ := q9
    refine jr_goto (pc := 61) (tgt := 77) F dX12_init_61 rfl ?_
    exact jr_vret (pc := 77) F M dX12_init_77 (hQ _ w)

theorem cC_X12_init {G : jj_G} {l : Launch} (J : jj_GJ G l) {x0 : Option Nat} {x1 : Option Nat} {x2 : Option Nat} {Q : jj_H → Prop} {E : String → Nat → jj_H → Prop} {h : jj_H} {k : Nat} (w : fC_X12_init (jj_gk G) x0 x1 x2 Q E h k) : jj_Ct G l yX12_init (ws_ yX12_init cX12_init 3 (none)) 2 47 [.inr (.inr (.inl x0)), .inr (.inr (.inl x1)), .inr (.inr (.inl x2))] h k (jc_v Q) E := by
  refine jj_Ct.of (jK_gs J).1 (by decide +kernel) (Nat.le_of_ble_eq_true rfl) rfl (fun X hG hl F M O hnm => ?_)
  subst hG; subst hl
  exact sC_X12_init F M O J hnm (fun h q => ⟨rfl, q⟩) (fun _ _ _ q => q) _ _ _ _ _ w
theorem hC_X12_init : yX12_init.cls = RX12 ∧ yX12_init.cls ≠ "java/lang/invoke/MethodHandle" ∧ yX12_init.cls ≠ "java/lang/invoke/VarHandle" ∧ (parseMethodDescriptor yX12_init.desc).map (fun d => d.parameters.length) = some 2 := by decide +kernel
/-! X2_aim()LNoteImporter$Edition; -/
def fC_X2_aim (gk : Nat → Nat) (x0 : Option Nat) (Q : Option Nat → jj_H → Prop) (E : String → Nat → jj_H → Prop) (h : jj_H) (k : Nat) : Prop :=
  jp_gr h x0 2 0 (fun g1 =>
  jp_gi h x0 2 4 (fun g2 =>
  jq_J2_get g1 g2 (fun r5 h3 k4 =>
  jp_is h3 r5 3 ∧
  Q r5 h3) h k))
theorem sC_X2_aim {X : jj_X} {N : Option jj_AV → jj_H → Prop} {XN : String → Nat → jj_H → Prop} (F : jj_F X RX2 cX2_aim 1) (M : jj_M X (some ((.object "NoteImporter$Edition"))) 13 621 N XN) (O : jj_no X) (J : jj_GJ X.1 X.2.2.1) (hi : X.2.2.2.2.2.2.2.2.2.1.name = yX2_aim.name) {Q : Option Nat → jj_H → Prop} {E : String → Nat → jj_H → Prop} (hQ : ∀ r h, Q r h → N (some (.inr (.inr (.inl r)))) h) (hE : ∀ e q h, E e q h → XN e q h) (x0 : Option Nat) : ∀ (h : jj_H) (k : Nat), fC_X2_aim (jj_gk X.1) x0 Q E h k → jj_J X 1 0 [(0, .inr (.inr (.inl x0)))] [] h k := by
  intro h k w
  unfold fC_X2_aim at w
  refine jr_aload_n (pc := 0) F (j := 0) dX2_aim_0 rfl ?_
  refine jr_gr (pc := 1) (ci := 2) (f := 0) F rfl in_X2 (Nat.le_of_ble_eq_true rfl) q589 dX2_aim_1 w (fun g1 w => ?_)
  refine jr_aload_n (pc := 4) F (j := 0) dX2_aim_4 rfl ?_
  refine jr_gi (pc := 5) (ci := 2) (f := 4) F rfl in_X2 (Nat.le_of_ble_eq_true rfl) q603 dX2_aim_5 w (fun g2 w => ?_)
  refine jr_jV (pc := 8) (As := [_]) (ci := 14) F M (lw_V q699 q681 q682 q124 q683) dX2_aim_8 hj_J2_get rfl (Nat.le_of_ble_eq_true rfl) (Nat.le_of_ble_eq_true rfl) (Nat.le_of_ble_eq_true rfl) rfl (jK_J2_get J _ _ _ _ _ w) (fun v9 h3 k4 q9 => ?_)
  obtain ⟨r5, rfl, w⟩ := q9
  obtain ⟨hi9, w⟩ := w
  refine jr_cast (pc := 11) (ci := 3) F rfl q700 dX2_aim_11 hi9 ?_
  exact jr_aret (pc := 14) F M (Or.inl ⟨_, rfl⟩) dX2_aim_14 (hQ _ _ w)

theorem cC_X2_aim {G : jj_G} {l : Launch} (J : jj_GJ G l) {x0 : Option Nat} {Q : Option Nat → jj_H → Prop} {E : String → Nat → jj_H → Prop} {h : jj_H} {k : Nat} (w : fC_X2_aim (jj_gk G) x0 Q E h k) : jj_Ct G l yX2_aim (ws_ yX2_aim cX2_aim 1 (some ((.object "NoteImporter$Edition")))) 13 621 [.inr (.inr (.inl x0))] h k (jc_r Q) E := by
  refine jj_Ct.of (jK_gs J).1 (by decide +kernel) (Nat.le_of_ble_eq_true rfl) rfl (fun X hG hl F M O hnm => ?_)
  subst hG; subst hl
  exact sC_X2_aim F M O J hnm (fun r h q => ⟨r, rfl, q⟩) (fun _ _ _ q => q) _ _ _ w
theorem hC_X2_aim : yX2_aim.cls = RX2 ∧ yX2_aim.cls ≠ "java/lang/invoke/MethodHandle" ∧ yX2_aim.cls ≠ "java/lang/invoke/VarHandle" ∧ (parseMethodDescriptor yX2_aim.desc).map (fun d => d.parameters.length) = some 0 := by decide +kernel
/-! X10_init(LNoteImporter$Library;)V -/
def fC_X10_init_l164 (gk : Nat → Nat) (x0 : Option Nat) (x1 : Option Nat) (Q : jj_H → Prop) (E : String → Nat → jj_H → Prop) : Nat → Int → jj_H → Nat → Prop
  | 0, _, _, _ => False
  | n + 1, x2, h, k =>
  jp_gr h x1 2 1 (fun g1 =>
  jq_J2_size g1 (fun r4 h2 k3 =>
  jj_r x2 ∧ jj_r r4 ∧ (r4 ≤ x2 → (
    jp_is h2 x0 8 ∧ ∃ c5, c5 ≤ k3 ∧ fC_X10_gather gk x0 (fun h7 =>
    Q h7) E h2 c5)) ∧
  (¬ r4 ≤ x2 → (
    jp_gr h2 x0 8 3 (fun g8 =>
    jp_al h2 g8 0 x2 (fun g9 =>
    jj_r g9 ∧ (¬ g9 = (-1) → (
      ∀ v10, v10 = x2 + 1 →
      fC_X10_init_l164 gk x0 x1 Q E n v10 h2 k3)) ∧
    (g9 = (-1) → (
      jp_is h2 x0 8 ∧ ∃ c11, c11 ≤ k3 ∧ fC_X10_spread gk x0 x2 (fun h13 =>
      ∀ v14, v14 = x2 + 1 →
      fC_X10_init_l164 gk x0 x1 Q E n v14 h13 (k3 - c11)) E h2 c11))))))) h k)
def fC_X10_init_l95 (gk : Nat → Nat) (x0 : Option Nat) (x1 : Option Nat) (Q : jj_H → Prop) (E : String → Nat → jj_H → Prop) : Nat → Int → jj_H → Nat → Prop
  | 0, _, _, _ => False
  | n + 1, x2, h, k =>
  jp_gr h x1 2 1 (fun g15 =>
  jq_J2_size g15 (fun r18 h16 k17 =>
  jj_r x2 ∧ jj_r r18 ∧ (r18 ≤ x2 → (
    ∃ n9, fC_X10_init_l164 gk x0 x1 Q E n9 0 h16 k17)) ∧
  (¬ r18 ≤ x2 → (
    jp_gr h16 x0 8 2 (fun g19 =>
    jp_nw h16 k17 6 1 df_X12 (fun a20 h21 k22 =>
    jp_gr h21 x1 2 1 (fun g23 =>
    jq_J2_get g23 x2 (fun r26 h24 k25 =>
    jp_is h24 r26 4 ∧
    jp_gr h24 x0 8 1 (fun g27 =>
    jp_gr h24 x1 2 1 (fun g28 =>
    jq_J2_get g28 x2 (fun r31 h29 k30 =>
    jp_is h29 r31 4 ∧
    jp_gi h29 r31 4 2 (fun g32 =>
    jp_rl h29 g27 2 g32 (fun g33 =>
    jp_so (some a20) ∧ fC_X12_init gk (some a20) r26 g33 (fun h36 =>
    jp_rs h36 g19 3 6 x2 (some a20) (fun h37 =>
    jp_gr h37 x0 8 3 (fun g38 =>
    jp_as h37 g38 0 x2 (-1) (fun h39 =>
    ∀ v40, v40 = x2 + 1 →
    fC_X10_init_l95 gk x0 x1 Q E n v40 h39 k30)))) E h29 0))) h24 k25))) h21 k22)))))) h k)
def fC_X10_init_l48 (gk : Nat → Nat) (x0 : Option Nat) (x1 : Option Nat) (Q : jj_H → Prop) (E : String → Nat → jj_H → Prop) : Nat → Int → jj_H → Nat → Prop
  | 0, _, _, _ => False
  | n + 1, x2, h, k =>
  jp_gr h x1 2 0 (fun g41 =>
  jq_J2_size g41 (fun r44 h42 k43 =>
  jj_r x2 ∧ jj_r r44 ∧ (r44 ≤ x2 → (
    ∃ n9, fC_X10_init_l95 gk x0 x1 Q E n9 0 h42 k43)) ∧
  (¬ r44 ≤ x2 → (
    jp_gr h42 x0 8 1 (fun g45 =>
    jp_nw h42 k43 5 1 df_X11 (fun a46 h47 k48 =>
    jp_gr h47 x1 2 0 (fun g49 =>
    jq_J2_get g49 x2 (fun r52 h50 k51 =>
    jp_is h50 r52 3 ∧
    jp_is h50 x1 2 ∧ fC_X2_aim gk x1 (fun r54 h55 =>
    jp_so (some a46) ∧ ∃ c56, c56 ≤ k51 ∧ fC_X11_init gk (some a46) r52 r54 (fun h58 =>
    jp_rs h58 g45 2 5 x2 (some a46) (fun h59 =>
    ∀ v60, v60 = x2 + 1 →
    fC_X10_init_l48 gk x0 x1 Q E n v60 h59 (k51 - c56))) E h55 c56) E h50 0) h47 k48)))))) h k)
def fC_X10_init (gk : Nat → Nat) (x0 : Option Nat) (x1 : Option Nat) (Q : jj_H → Prop) (E : String → Nat → jj_H → Prop) (h : jj_H) (k : Nat) : Prop :=
  jp_so x0 ∧
  jp_nr h k 2 3 (fun a61 h62 k63 =>
  jp_pr h62 x0 8 1 (some a61) (fun h64 =>
  jp_nr h64 k63 3 40 (fun a65 h66 k67 =>
  jp_pr h66 x0 8 2 (some a65) (fun h68 =>
  jp_ni h68 k67 0 40 (fun a69 h70 k71 =>
  jp_pr h70 x0 8 3 (some a69) (fun h72 =>
  jp_nw h72 k71 14 1 df_J2 (fun a73 h74 k75 =>
  jq_J2_init (some a73) 4 (fun h76 k77 =>
  jp_pr h76 x0 8 4 (some a73) (fun h78 =>
  jp_pr h78 x0 8 0 x1 (fun h79 =>
  ∃ n9, fC_X10_init_l48 gk x0 x1 Q E n9 0 h79 k77))) h74 k75)))))))
theorem sC_X10_init_l164 {X : jj_X} {N : Option jj_AV → jj_H → Prop} {XN : String → Nat → jj_H → Prop} (F : jj_F X RX10 cX10_init 3) (M : jj_M X (none) 16 697 N XN) (O : jj_no X) (J : jj_GJ X.1 X.2.2.1) (hi : X.2.2.2.2.2.2.2.2.2.1.name = yX10_init.name) {Q : jj_H → Prop} {E : String → Nat → jj_H → Prop} (hQ : ∀ h, Q h → N none h) (hE : ∀ e q h, E e q h → XN e q h) (x0 : Option Nat) (x1 : Option Nat) : ∀ (n : Nat) (x2 : Int) (h : jj_H) (k : Nat), fC_X10_init_l164 (jj_gk X.1) x0 x1 Q E n x2 h k → jj_J X 3 164 [(0, .inr (.inr (.inl x0))), (1, .inr (.inr (.inl x1))), (2, .inl x2)] [] h k := by
  intro n
  induction n with
  | zero =>
    intro x2 h k w
    exact (show False from w).elim
  | succ n ih =>
    intro x2 h k w
    rw [fC_X10_init_l164] at w
    refine jr_iload_n (pc := 164) F (j := 2) dX10_init_164 rfl ?_
    refine jr_aload_n (pc := 165) F (j := 1) dX10_init_165 rfl ?_
    refine jr_grN (pc := 166) (ci := 2) (f := 1) F rfl in_X2 (Nat.le_of_ble_eq_true rfl) q594 dX10_init_166 w (fun g1 w => ?_)
    refine jr_jV (pc := 169) (As := []) (ci := 14) F M (lw_V q675 q676 q677 q124 q678) dX10_init_169 hj_J2_size rfl (Nat.le_of_ble_eq_true rfl) (Nat.le_of_ble_eq_true rfl) (Nat.le_of_ble_eq_true rfl) rfl (jK_J2_size J _ _ _ _ w) (fun v9 h2 k3 q9 => ?_)
    obtain ⟨r4, rfl, w⟩ := q9
    obtain ⟨hx9, hy9, w1, w2⟩ := w
    refine jr_icmp_ge (pc := 172) (tgt := 196) F hx9 hy9 dX10_init_172 rfl (fun c9 => ?_) (fun c9 => ?_)
    · have w := w1 c9
      refine jr_aload_n (pc := 196) F (j := 0) dX10_init_196 rfl ?_
      obtain ⟨hi9, c5, hk9, w⟩ := w
      refine jr_cV (pc := 197) (As := []) (ci := 8) F M (lw_V q1580 q1582 qs10 q177 q1583) dX10_init_197 hC_X10_gather rfl (Nat.le_of_ble_eq_true rfl) (Nat.le_of_ble_eq_true rfl) (Nat.le_of_ble_eq_true rfl) rfl hi9 hk9 (cC_X10_gather J w) (fun v9 h7 q9 => ?_) (fun E9 q9 h9 w9 => jr_out F M O (hE _ _ _ w9))
      obtain ⟨rfl, w⟩ := q9
      exact jr_vret (pc := 200) F M dX10_init_200 (hQ _ w)
    · have w := w2 c9
      refine jr_aload_n (pc := 175) F (j := 0) dX10_init_175 rfl ?_
      refine jr_gr (pc := 176) (ci := 8) (f := 3) F rfl in_X10 (Nat.le_of_ble_eq_true rfl) q1598 dX10_init_176 w (fun g8 w => ?_)
      refine jr_iload_n (pc := 179) F (j := 2) dX10_init_179 rfl ?_
      refine jr_iald (pc := 180) F dX10_init_180 w (fun g9 w => ?_)
      refine jr_iconst (pc := 181) F dX10_init_181 ?_
      obtain ⟨hx9, w1, w2⟩ := w
      refine jr_icmp_ne (pc := 182) (tgt := 190) F hx9 ⟨by decide, by decide⟩ dX10_init_182 rfl (fun c9 => ?_) (fun c9 => ?_)
      · have w := w1 c9
        have w := w _ rfl
        refine jr_iinc (pc := 190) F (j := 2) (vs' := [(2, .inl _), (0, .inr (.inr (.inl _))), (1, .inr (.inr (.inl _)))]) dX10_init_190 rfl rfl (Nat.le_of_ble_eq_true rfl) rfl ?_
        refine jr_goto (pc := 193) (tgt := 164) F dX10_init_193 rfl ?_
        refine jj_J.sub [1, 2, 0] rfl ?_
        exact ih _ _ _ w
      · have w := w2 c9
        refine jr_aload_n (pc := 185) F (j := 0) dX10_init_185 rfl ?_
        refine jr_iload_n (pc := 186) F (j := 2) dX10_init_186 rfl ?_
        obtain ⟨hi9, c11, hk9, w⟩ := w
        refine jr_cV (pc := 187) (As := [_]) (ci := 8) F M (lw_V q777 q779 qs5 q177 q780) dX10_init_187 hC_X10_spread rfl (Nat.le_of_ble_eq_true rfl) (Nat.le_of_ble_eq_true rfl) (Nat.le_of_ble_eq_true rfl) rfl hi9 hk9 (cC_X10_spread J w) (fun v9 h13 q9 => ?_) (fun E9 q9 h9 w9 => jr_out F M O (hE _ _ _ w9))
        obtain ⟨rfl, w⟩ := q9
        have w := w _ rfl
        refine jr_iinc (pc := 190) F (j := 2) (vs' := [(2, .inl _), (0, .inr (.inr (.inl _))), (1, .inr (.inr (.inl _)))]) dX10_init_190 rfl rfl (Nat.le_of_ble_eq_true rfl) rfl ?_
        refine jr_goto (pc := 193) (tgt := 164) F dX10_init_193 rfl ?_
        refine jj_J.sub [1, 2, 0] rfl ?_
        exact ih _ _ _ w

theorem sC_X10_init_l95 {X : jj_X} {N : Option jj_AV → jj_H → Prop} {XN : String → Nat → jj_H → Prop} (F : jj_F X RX10 cX10_init 3) (M : jj_M X (none) 16 697 N XN) (O : jj_no X) (J : jj_GJ X.1 X.2.2.1) (hi : X.2.2.2.2.2.2.2.2.2.1.name = yX10_init.name) {Q : jj_H → Prop} {E : String → Nat → jj_H → Prop} (hQ : ∀ h, Q h → N none h) (hE : ∀ e q h, E e q h → XN e q h) (x0 : Option Nat) (x1 : Option Nat) : ∀ (n : Nat) (x2 : Int) (h : jj_H) (k : Nat), fC_X10_init_l95 (jj_gk X.1) x0 x1 Q E n x2 h k → jj_J X 3 95 [(0, .inr (.inr (.inl x0))), (1, .inr (.inr (.inl x1))), (2, .inl x2)] [] h k := by
  intro n
  induction n with
  | zero =>
    intro x2 h k w
    exact (show False from w).elim
  | succ n ih =>
    intro x2 h k w
    rw [fC_X10_init_l95] at w
    refine jr_iload_n (pc := 95) F (j := 2) dX10_init_95 rfl ?_
    refine jr_aload_n (pc := 96) F (j := 1) dX10_init_96 rfl ?_
    refine jr_grN (pc := 97) (ci := 2) (f := 1) F rfl in_X2 (Nat.le_of_ble_eq_true rfl) q594 dX10_init_97 w (fun g15 w => ?_)
    refine jr_jV (pc := 100) (As := []) (ci := 14) F M (lw_V q675 q676 q677 q124 q678) dX10_init_100 hj_J2_size rfl (Nat.le_of_ble_eq_true rfl) (Nat.le_of_ble_eq_true rfl) (Nat.le_of_ble_eq_true rfl) rfl (jK_J2_size J _ _ _ _ w) (fun v9 h16 k17 q9 => ?_)
    obtain ⟨r18, rfl, w⟩ := q9
    obtain ⟨hx9, hy9, w1, w2⟩ := w
    refine jr_icmp_ge (pc := 103) (tgt := 162) F hx9 hy9 dX10_init_103 rfl (fun c9 => ?_) (fun c9 => ?_)
    · have w := w1 c9
      refine jr_iconst (pc := 162) F dX10_init_162 ?_
      refine jr_istore_n (pc := 163) F (vs' := [(2, .inl _), (0, .inr (.inr (.inl _))), (1, .inr (.inr (.inl _)))]) dX10_init_163 (Nat.le_of_ble_eq_true rfl) rfl ?_
      refine jj_J.sub [1, 2, 0] rfl ?_
      obtain ⟨n9, w⟩ := w
      exact sC_X10_init_l164 F M O J hi hQ hE _ _ n9 _ _ _ w
    · have w := w2 c9
      refine jr_aload_n (pc := 106) F (j := 0) dX10_init_106 rfl ?_
      refine jr_gr (pc := 107) (ci := 8) (f := 2) F rfl in_X10 (Nat.le_of_ble_eq_true rfl) q1596 dX10_init_107 w (fun g19 w => ?_)
      refine jr_iload_n (pc := 110) F (j := 2) dX10_init_110 rfl ?_
      refine jr_new (pc := 111) (ci := 6) F rfl in_X12 tyX12_ok q671 q732 q179 dfo_X12 rfl ⟨by decide, by decide⟩ dX10_init_111 w (fun a20 h21 k22 w => ?_)
      refine jr_dup (pc := 114) F dX10_init_114 rfl ?_
      refine jr_aload_n (pc := 115) F (j := 1) dX10_init_115 rfl ?_
      refine jr_grN (pc := 116) (ci := 2) (f := 1) F rfl in_X2 (Nat.le_of_ble_eq_true rfl) q594 dX10_init_116 w (fun g23 w => ?_)
      refine jr_iload_n (pc := 119) F (j := 2) dX10_init_119 rfl ?_
      refine jr_jV (pc := 120) (As := [_]) (ci := 14) F M (lw_V q680 q681 q682 q124 q683) dX10_init_120 hj_J2_get rfl (Nat.le_of_ble_eq_true rfl) (Nat.le_of_ble_eq_true rfl) (Nat.le_of_ble_eq_true rfl) rfl (jK_J2_get J _ _ _ _ _ w) (fun v9 h24 k25 q9 => ?_)
      obtain ⟨r26, rfl, w⟩ := q9
      obtain ⟨hi9, w⟩ := w
      refine jr_cast (pc := 123) (ci := 4) F rfl q733 dX10_init_123 hi9 ?_
      refine jr_aload_n (pc := 126) F (j := 0) dX10_init_126 rfl ?_
      refine jr_gr (pc := 127) (ci := 8) (f := 1) F rfl in_X10 (Nat.le_of_ble_eq_true rfl) q1594 dX10_init_127 w (fun g27 w => ?_)
      refine jr_aload_n (pc := 130) F (j := 1) dX10_init_130 rfl ?_
      refine jr_grN (pc := 131) (ci := 2) (f := 1) F rfl in_X2 (Nat.le_of_ble_eq_true rfl) q594 dX10_init_131 w (fun g28 w => ?_)
      refine jr_iload_n (pc := 134) F (j := 2) dX10_init_134 rfl ?_
      refine jr_jV (pc := 135) (As := [_]) (ci := 14) F M (lw_V q680 q681 q682 q124 q683) dX10_init_135 hj_J2_get rfl (Nat.le_of_ble_eq_true rfl) (Nat.le_of_ble_eq_true rfl) (Nat.le_of_ble_eq_true rfl) rfl (jK_J2_get J _ _ _ _ _ w) (fun v9 h29 k30 q9 => ?_)
      obtain ⟨r31, rfl, w⟩ := q9
      obtain ⟨hi9, w⟩ := w
      refine jr_cast (pc := 138) (ci := 4) F rfl q733 dX10_init_138 hi9 ?_
      refine jr_giN (pc := 141) (ci := 4) (f := 2) F rfl in_X6 (Nat.le_of_ble_eq_true rfl) q2301 dX10_init_141 w (fun g32 w => ?_)
      refine jr_aald (pc := 144) F ⟨6, _, fun _ => rfl⟩ dX10_init_144 w (fun g33 w => ?_)
      obtain ⟨hi9, w⟩ := w
      refine jr_cI (pc := 145) (As := [_, _]) F M q734 q735 q179 q736 dX10_init_145 rfl hC_X12_init.2 rfl (Nat.le_of_ble_eq_true rfl) (Nat.le_of_ble_eq_true rfl) (Nat.le_of_ble_eq_true rfl) hi9 (Nat.zero_le _) (cC_X12_init J w) (fun v9 h36 q9 => ?_) (fun E9 q9 h9 w9 => jr_out F M O (hE _ _ _ w9))
      obtain ⟨rfl, w⟩ := q9
      refine jr_aast (pc := 148) F ⟨7, fun _ => rfl⟩ rfl (Or.inl rfl) dX10_init_148 w (fun h37 w => ?_)
      refine jr_aload_n (pc := 149) F (j := 0) dX10_init_149 rfl ?_
      refine jr_gr (pc := 150) (ci := 8) (f := 3) F rfl in_X10 (Nat.le_of_ble_eq_true rfl) q1598 dX10_init_150 w (fun g38 w => ?_)
      refine jr_iload_n (pc := 153) F (j := 2) dX10_init_153 rfl ?_
      refine jr_iconst (pc := 154) F dX10_init_154 ?_
      refine jr_iast (pc := 155) F dX10_init_155 w (fun h39 w => ?_)
      have w := w _ rfl
      refine jr_iinc (pc := 156) F (j := 2) (vs' := [(2, .inl _), (0, .inr (.inr (.inl _))), (1, .inr (.inr (.inl _)))]) dX10_init_156 rfl rfl (Nat.le_of_ble_eq_true rfl) rfl ?_
      refine jr_goto (pc := 159) (tgt := 95) F dX10_init_159 rfl ?_
      refine jj_J.sub [1, 2, 0] rfl ?_
      exact ih _ _ _ w

theorem sC_X10_init_l48 {X : jj_X} {N : Option jj_AV → jj_H → Prop} {XN : String → Nat → jj_H → Prop} (F : jj_F X RX10 cX10_init 3) (M : jj_M X (none) 16 697 N XN) (O : jj_no X) (J : jj_GJ X.1 X.2.2.1) (hi : X.2.2.2.2.2.2.2.2.2.1.name = yX10_init.name) {Q : jj_H → Prop} {E : String → Nat → jj_H → Prop} (hQ : ∀ h, Q h → N none h) (hE : ∀ e q h, E e q h → XN e q h) (x0 : Option Nat) (x1 : Option Nat) : ∀ (n : Nat) (x2 : Int) (h : jj_H) (k : Nat), fC_X10_init_l48 (jj_gk X.1) x0 x1 Q E n x2 h k → jj_J X 3 48 [(0, .inr (.inr (.inl x0))), (1, .inr (.inr (.inl x1))), (2, .inl x2)] [] h k := by
  intro n
  induction n with
  | zero =>
    intro x2 h k w
    exact (show False from w).elim
  | succ n ih =>
    intro x2 h k w
    rw [fC_X10_init_l48] at w
    refine jr_iload_n (pc := 48) F (j := 2) dX10_init_48 rfl ?_
    refine jr_aload_n (pc := 49) F (j := 1) dX10_init_49 rfl ?_
    refine jr_grN (pc := 50) (ci := 2) (f := 0) F rfl in_X2 (Nat.le_of_ble_eq_true rfl) q590 dX10_init_50 w (fun g41 w => ?_)
    refine jr_jV (pc := 53) (As := []) (ci := 14) F M (lw_V q675 q676 q677 q124 q678) dX10_init_53 hj_J2_size rfl (Nat.le_of_ble_eq_true rfl) (Nat.le_of_ble_eq_true rfl) (Nat.le_of_ble_eq_true rfl) rfl (jK_J2_size J _ _ _ _ w) (fun v9 h42 k43 q9 => ?_)
    obtain ⟨r44, rfl, w⟩ := q9
    obtain ⟨hx9, hy9, w1, w2⟩ := w
    refine jr_icmp_ge (pc := 56) (tgt := 93) F hx9 hy9 dX10_init_56 rfl (fun c9 => ?_) (fun c9 => ?_)
    · have w := w1 c9
      refine jr_iconst (pc := 93) F dX10_init_93 ?_
      refine jr_istore_n (pc := 94) F (vs' := [(2, .inl _), (0, .inr (.inr (.inl _))), (1, .inr (.inr (.inl _)))]) dX10_init_94 (Nat.le_of_ble_eq_true rfl) rfl ?_
      refine jj_J.sub [1, 2, 0] rfl ?_
      obtain ⟨n9, w⟩ := w
      exact sC_X10_init_l95 F M O J hi hQ hE _ _ n9 _ _ _ w
    · have w := w2 c9
      refine jr_aload_n (pc := 59) F (j := 0) dX10_init_59 rfl ?_
      refine jr_gr (pc := 60) (ci := 8) (f := 1) F rfl in_X10 (Nat.le_of_ble_eq_true rfl) q1594 dX10_init_60 w (fun g45 w => ?_)
      refine jr_iload_n (pc := 63) F (j := 2) dX10_init_63 rfl ?_
      refine jr_new (pc := 64) (ci := 5) F rfl in_X11 tyX11_ok q669 q679 q178 dfo_X11 rfl ⟨by decide, by decide⟩ dX10_init_64 w (fun a46 h47 k48 w => ?_)
      refine jr_dup (pc := 67) F dX10_init_67 rfl ?_
      refine jr_aload_n (pc := 68) F (j := 1) dX10_init_68 rfl ?_
      refine jr_grN (pc := 69) (ci := 2) (f := 0) F rfl in_X2 (Nat.le_of_ble_eq_true rfl) q590 dX10_init_69 w (fun g49 w => ?_)
      refine jr_iload_n (pc := 72) F (j := 2) dX10_init_72 rfl ?_
      refine jr_jV (pc := 73) (As := [_]) (ci := 14) F M (lw_V q680 q681 q682 q124 q683) dX10_init_73 hj_J2_get rfl (Nat.le_of_ble_eq_true rfl) (Nat.le_of_ble_eq_true rfl) (Nat.le_of_ble_eq_true rfl) rfl (jK_J2_get J _ _ _ _ _ w) (fun v9 h50 k51 q9 => ?_)
      obtain ⟨r52, rfl, w⟩ := q9
      obtain ⟨hi9, w⟩ := w
      refine jr_cast (pc := 76) (ci := 3) F rfl q694 dX10_init_76 hi9 ?_
      refine jr_aload_n (pc := 79) F (j := 1) dX10_init_79 rfl ?_
      obtain ⟨hi9, w⟩ := w
      refine jr_cV (pc := 80) (As := []) (ci := 2) F M (lw_V q695 q696 q697 q121 q698) dX10_init_80 hC_X2_aim rfl (Nat.le_of_ble_eq_true rfl) (Nat.le_of_ble_eq_true rfl) (Nat.le_of_ble_eq_true rfl) rfl hi9 (Nat.zero_le _) (cC_X2_aim J w) (fun v9 h55 q9 => ?_) (fun E9 q9 h9 w9 => jr_out F M O (hE _ _ _ w9))
      obtain ⟨r54, rfl, w⟩ := q9
      obtain ⟨hi9, c56, hk9, w⟩ := w
      refine jr_cI (pc := 83) (As := [_, _]) F M q701 q702 q178 q703 dX10_init_83 rfl hC_X11_init.2 rfl (Nat.le_of_ble_eq_true rfl) (Nat.le_of_ble_eq_true rfl) (Nat.le_of_ble_eq_true rfl) hi9 hk9 (cC_X11_init J w) (fun v9 h58 q9 => ?_) (fun E9 q9 h9 w9 => jr_out F M O (hE _ _ _ w9))
      obtain ⟨rfl, w⟩ := q9
      refine jr_aast (pc := 86) F ⟨6, fun _ => rfl⟩ rfl (Or.inl rfl) dX10_init_86 w (fun h59 w => ?_)
      have w := w _ rfl
      refine jr_iinc (pc := 87) F (j := 2) (vs' := [(2, .inl _), (0, .inr (.inr (.inl _))), (1, .inr (.inr (.inl _)))]) dX10_init_87 rfl rfl (Nat.le_of_ble_eq_true rfl) rfl ?_
      refine jr_goto (pc := 90) (tgt := 48) F dX10_init_90 rfl ?_
      refine jj_J.sub [1, 2, 0] rfl ?_
      exact ih _ _ _ w

theorem sC_X10_init {X : jj_X} {N : Option jj_AV → jj_H → Prop} {XN : String → Nat → jj_H → Prop} (F : jj_F X RX10 cX10_init 3) (M : jj_M X (none) 16 697 N XN) (O : jj_no X) (J : jj_GJ X.1 X.2.2.1) (hi : X.2.2.2.2.2.2.2.2.2.1.name = yX10_init.name) {Q : jj_H → Prop} {E : String → Nat → jj_H → Prop} (hQ : ∀ h, Q h → N none h) (hE : ∀ e q h, E e q h → XN e q h) (x0 : Option Nat) (x1 : Option Nat) : ∀ (h : jj_H) (k : Nat), fC_X10_init (jj_gk X.1) x0 x1 Q E h k → jj_J X 3 0 [(0, .inr (.inr (.inl x0))), (1, .inr (.inr (.inl x1)))] [] h k := by
  intro h k w
  unfold fC_X10_init at w
  refine jr_aload_n (pc := 0) F (j := 0) dX10_init_0 rfl ?_
  obtain ⟨ha9, w⟩ := w
  refine jr_objInitO (pc := 1) F M q668 q192 q193 ha9 (Nat.le_of_ble_eq_true rfl) (Nat.le_of_ble_eq_true rfl) (Nat.le_of_ble_eq_true rfl) dX10_init_1 ?_
  refine jr_aload_n (pc := 4) F (j := 0) dX10_init_4 rfl ?_
  refine jr_iconst (pc := 5) F dX10_init_5 ?_
  refine jr_newR (pc := 6) F (fun _ => rfl) q669 (jK_ao2 J) dX10_init_6 w (fun a61 h62 k63 w => ?_)
  refine jr_prF (pc := 9) (ci := 8) (f := 1) F rfl in_X10 tyX10_ok nmX10 (Nat.le_of_ble_eq_true rfl) rfl rfl rfl hi q1594 dX10_init_9 w (fun h64 w => ?_)
  refine jr_aload_n (pc := 12) F (j := 0) dX10_init_12 rfl ?_
  refine jr_bipush (pc := 13) F dX10_init_13 (by decide +kernel) ?_
  refine jr_newR (pc := 15) F (fun _ => rfl) q671 (jK_ao3 J) dX10_init_15 w (fun a65 h66 k67 w => ?_)
  refine jr_prF (pc := 18) (ci := 8) (f := 2) F rfl in_X10 tyX10_ok nmX10 (Nat.le_of_ble_eq_true rfl) rfl rfl rfl hi q1596 dX10_init_18 w (fun h68 w => ?_)
  refine jr_aload_n (pc := 21) F (j := 0) dX10_init_21 rfl ?_
  refine jr_bipush (pc := 22) F dX10_init_22 (by decide +kernel) ?_
  refine jr_newI (pc := 24) F q731 dX10_init_24 w (fun a69 h70 k71 w => ?_)
  refine jr_prF (pc := 26) (ci := 8) (f := 3) F rfl in_X10 tyX10_ok nmX10 (Nat.le_of_ble_eq_true rfl) rfl rfl rfl hi q1598 dX10_init_26 w (fun h72 w => ?_)
  refine jr_aload_n (pc := 29) F (j := 0) dX10_init_29 rfl ?_
  refine jr_new (pc := 30) (ci := 14) F rfl in_J2 tyJ2_ok q673 q201 q124 dfo_J2 rfl ⟨by decide, by decide⟩ dX10_init_30 w (fun a73 h74 k75 w => ?_)
  refine jr_dup (pc := 33) F dX10_init_33 rfl ?_
  refine jr_iconst (pc := 34) F dX10_init_34 ?_
  refine jr_jI (pc := 35) (As := [_]) F M q674 q203 q124 q204 dX10_init_35 rfl hj_J2_init.2 rfl (Nat.le_of_ble_eq_true rfl) (Nat.le_of_ble_eq_true rfl) (Nat.le_of_ble_eq_true rfl) (jK_J2_init J _ _ _ _ _ w) (fun v9 h76 k77 q9 => ?_)
  obtain ⟨rfl, w⟩ := q9
  refine jr_prF (pc := 38) (ci := 8) (f := 4) F rfl in_X10 tyX10_ok nmX10 (Nat.le_of_ble_eq_true rfl) rfl rfl rfl hi q1600 dX10_init_38 w (fun h78 w => ?_)
  refine jr_aload_n (pc := 41) F (j := 0) dX10_init_41 rfl ?_
  refine jr_aload_n (pc := 42) F (j := 1) dX10_init_42 rfl ?_
  refine jr_prF (pc := 43) (ci := 8) (f := 0) F rfl in_X10 tyX10_ok nmX10 (Nat.le_of_ble_eq_true rfl) rfl rfl rfl hi q1593 dX10_init_43 w (fun h79 w => ?_)
  refine jr_iconst (pc := 46) F dX10_init_46 ?_
  refine jr_istore_n (pc := 47) F (vs' := [(2, .inl _), (0, .inr (.inr (.inl _))), (1, .inr (.inr (.inl _)))]) dX10_init_47 (Nat.le_of_ble_eq_true rfl) rfl ?_
  refine jj_J.sub [1, 2, 0] rfl ?_
  obtain ⟨n9, w⟩ := w
  exact sC_X10_init_l48 F M O J hi hQ hE _ _ n9 _ _ _ w

theorem cC_X10_init {G : jj_G} {l : Launch} (J : jj_GJ G l) {x0 : Option Nat} {x1 : Option Nat} {Q : jj_H → Prop} {E : String → Nat → jj_H → Prop} {h : jj_H} {k : Nat} (w : fC_X10_init (jj_gk G) x0 x1 Q E h k) : jj_Ct G l yX10_init (ws_ yX10_init cX10_init 3 (none)) 16 697 [.inr (.inr (.inl x0)), .inr (.inr (.inl x1))] h k (jc_v Q) E := by
  refine jj_Ct.of (jK_gs J).1 (by decide +kernel) (Nat.le_of_ble_eq_true rfl) rfl (fun X hG hl F M O hnm => ?_)
  subst hG; subst hl
  exact sC_X10_init F M O J hnm (fun h q => ⟨rfl, q⟩) (fun _ _ _ q => q) _ _ _ _ w
theorem hC_X10_init : yX10_init.cls = RX10 ∧ yX10_init.cls ≠ "java/lang/invoke/MethodHandle" ∧ yX10_init.cls ≠ "java/lang/invoke/VarHandle" ∧ (parseMethodDescriptor yX10_init.desc).map (fun d => d.parameters.length) = some 1 := by decide +kernel
/-! X1_view()LNoteImporter$View; -/
def fC_X1_view_j22 (gk : Nat → Nat) (x0 : Option Nat) (Q : Option Nat → jj_H → Prop) (E : String → Nat → jj_H → Prop) (h : jj_H) (k : Nat) : Prop :=
  jp_gr h x0 1 1 (fun g1 =>
  Q g1 h)
def fC_X1_view (gk : Nat → Nat) (x0 : Option Nat) (Q : Option Nat → jj_H → Prop) (E : String → Nat → jj_H → Prop) (h : jj_H) (k : Nat) : Prop :=
  jp_gr h x0 1 1 (fun g2 =>
  (¬ g2 = none → (
    fC_X1_view_j22 gk x0 Q E h k)) ∧
  (g2 = none → (
    jp_nw h k 8 2 df_X10 (fun a3 h4 k5 =>
    jp_gr h4 x0 1 0 (fun g6 =>
    jp_so (some a3) ∧ ∃ c7, c7 ≤ k5 ∧ fC_X10_init gk (some a3) g6 (fun h9 =>
    jp_pr h9 x0 1 1 (some a3) (fun h10 =>
    fC_X1_view_j22 gk x0 Q E h10 (k5 - c7))) E h4 c7)))))
theorem sC_X1_view_j22 {X : jj_X} {N : Option jj_AV → jj_H → Prop} {XN : String → Nat → jj_H → Prop} (F : jj_F X RX1 cX1_view 1) (M : jj_M X (some ((.object "NoteImporter$View"))) 17 719 N XN) (O : jj_no X) (J : jj_GJ X.1 X.2.2.1) (hi : X.2.2.2.2.2.2.2.2.2.1.name = yX1_view.name) {Q : Option Nat → jj_H → Prop} {E : String → Nat → jj_H → Prop} (hQ : ∀ r h, Q r h → N (some (.inr (.inr (.inl r)))) h) (hE : ∀ e q h, E e q h → XN e q h) (x0 : Option Nat) : ∀ (h : jj_H) (k : Nat), fC_X1_view_j22 (jj_gk X.1) x0 Q E h k → jj_J X 1 22 [(0, .inr (.inr (.inl x0)))] [] h k := by
  intro h k w
  unfold fC_X1_view_j22 at w
  refine jr_aload_n (pc := 22) F (j := 0) dX1_view_22 rfl ?_
  refine jr_gr (pc := 23) (ci := 1) (f := 1) F rfl in_X1 (Nat.le_of_ble_eq_true rfl) q626 dX1_view_23 w (fun g1 w => ?_)
  exact jr_aret (pc := 26) F M (Or.inl ⟨_, rfl⟩) dX1_view_26 (hQ _ _ w)

theorem sC_X1_view {X : jj_X} {N : Option jj_AV → jj_H → Prop} {XN : String → Nat → jj_H → Prop} (F : jj_F X RX1 cX1_view 1) (M : jj_M X (some ((.object "NoteImporter$View"))) 17 719 N XN) (O : jj_no X) (J : jj_GJ X.1 X.2.2.1) (hi : X.2.2.2.2.2.2.2.2.2.1.name = yX1_view.name) {Q : Option Nat → jj_H → Prop} {E : String → Nat → jj_H → Prop} (hQ : ∀ r h, Q r h → N (some (.inr (.inr (.inl r)))) h) (hE : ∀ e q h, E e q h → XN e q h) (x0 : Option Nat) : ∀ (h : jj_H) (k : Nat), fC_X1_view (jj_gk X.1) x0 Q E h k → jj_J X 1 0 [(0, .inr (.inr (.inl x0)))] [] h k := by
  intro h k w
  unfold fC_X1_view at w
  refine jr_aload_n (pc := 0) F (j := 0) dX1_view_0 rfl ?_
  refine jr_gr (pc := 1) (ci := 1) (f := 1) F rfl in_X1 (Nat.le_of_ble_eq_true rfl) q626 dX1_view_1 w (fun g2 w => ?_)
  obtain ⟨w1, w2⟩ := w
  refine jr_ifnonnull (pc := 4) (tgt := 22) F dX1_view_4 rfl (fun c9 => ?_) (fun c9 => ?_)
  · have w := w1 c9
    exact sC_X1_view_j22 F M O J hi hQ hE _ _ _ w
  · have w := w2 c9
    refine jr_aload_n (pc := 7) F (j := 0) dX1_view_7 rfl ?_
    refine jr_new (pc := 8) (ci := 8) F rfl in_X10 tyX10_ok q663 q664 q177 dfo_X10 rfl ⟨by decide, by decide⟩ dX1_view_8 w (fun a3 h4 k5 w => ?_)
    refine jr_dup (pc := 11) F dX1_view_11 rfl ?_
    refine jr_aload_n (pc := 12) F (j := 0) dX1_view_12 rfl ?_
    refine jr_gr (pc := 13) (ci := 1) (f := 0) F rfl in_X1 (Nat.le_of_ble_eq_true rfl) q625 dX1_view_13 w (fun g6 w => ?_)
    obtain ⟨hi9, c7, hk9, w⟩ := w
    refine jr_cI (pc := 16) (As := [_]) F M q665 q666 q177 q667 dX1_view_16 rfl hC_X10_init.2 rfl (Nat.le_of_ble_eq_true rfl) (Nat.le_of_ble_eq_true rfl) (Nat.le_of_ble_eq_true rfl) hi9 hk9 (cC_X10_init J w) (fun v9 h9 q9 => ?_) (fun E9 q9 h9 w9 => jr_out F M O (hE _ _ _ w9))
    obtain ⟨rfl, w⟩ := q9
    refine jr_pr (pc := 19) (ci := 1) (f := 1) F rfl in_X1 tyX1_ok nmX1 (Nat.le_of_ble_eq_true rfl) rfl rfl q626 dX1_view_19 w (fun h10 w => ?_)
    exact sC_X1_view_j22 F M O J hi hQ hE _ _ _ w

theorem cC_X1_view {G : jj_G} {l : Launch} (J : jj_GJ G l) {x0 : Option Nat} {Q : Option Nat → jj_H → Prop} {E : String → Nat → jj_H → Prop} {h : jj_H} {k : Nat} (w : fC_X1_view (jj_gk G) x0 Q E h k) : jj_Ct G l yX1_view (ws_ yX1_view cX1_view 1 (some ((.object "NoteImporter$View")))) 17 719 [.inr (.inr (.inl x0))] h k (jc_r Q) E := by
  refine jj_Ct.of (jK_gs J).1 (by decide +kernel) (Nat.le_of_ble_eq_true rfl) rfl (fun X hG hl F M O hnm => ?_)
  subst hG; subst hl
  exact sC_X1_view F M O J hnm (fun r h q => ⟨r, rfl, q⟩) (fun _ _ _ q => q) _ _ _ w
theorem hC_X1_view : yX1_view.cls = RX1 ∧ yX1_view.cls ≠ "java/lang/invoke/MethodHandle" ∧ yX1_view.cls ≠ "java/lang/invoke/VarHandle" ∧ (parseMethodDescriptor yX1_view.desc).map (fun d => d.parameters.length) = some 0 := by decide +kernel
/-! X13_readerCount()I -/
def fC_X13_readerCount_l7 (gk : Nat → Nat) (Q : Int → jj_H → Prop) (E : String → Nat → jj_H → Prop) : Nat → Int → Int → jj_H → Nat → Prop
  | 0, _, _, _, _ => False
  | n + 1, x1, x2, h, k =>
  jj_r x2 ∧ (x2 = 0 → (
    Q x1 h)) ∧
  (¬ x2 = 0 → (
    ∀ v1, v1 = x1 + 1 →
    ∀ v2, v2 = jj_and x2 (x2 - 1) →
    fC_X13_readerCount_l7 gk Q E n v1 v2 h k))
def fC_X13_readerCount (gk : Nat → Nat) (x0 : Option Nat) (Q : Int → jj_H → Prop) (E : String → Nat → jj_H → Prop) (h : jj_H) (k : Nat) : Prop :=
  jp_gi h x0 7 2 (fun g3 =>
  ∃ n9, fC_X13_readerCount_l7 gk Q E n9 0 g3 h k)
theorem sC_X13_readerCount_l7 {X : jj_X} {N : Option jj_AV → jj_H → Prop} {XN : String → Nat → jj_H → Prop} (F : jj_F X RX13 cX13_readerCount 3) (M : jj_M X (some (.int)) 0 0 N XN) (O : jj_no X) (J : jj_GJ X.1 X.2.2.1) (hi : X.2.2.2.2.2.2.2.2.2.1.name = yX13_readerCount.name) {Q : Int → jj_H → Prop} {E : String → Nat → jj_H → Prop} (hQ : ∀ r h, Q r h → N (some (.inl r)) h) (hE : ∀ e q h, E e q h → XN e q h) : ∀ (n : Nat) (x1 : Int) (x2 : Int) (h : jj_H) (k : Nat), fC_X13_readerCount_l7 (jj_gk X.1) Q E n x1 x2 h k → jj_J X 3 7 [(1, .inl x1), (2, .inl x2)] [] h k := by
  intro n
  induction n with
  | zero =>
    intro x1 x2 h k w
    exact (show False from w).elim
  | succ n ih =>
    intro x1 x2 h k w
    rw [fC_X13_readerCount_l7] at w
    refine jr_iload_n (pc := 7) F (j := 1) dX13_readerCount_7 rfl ?_
    obtain ⟨hx9, w1, w2⟩ := w
    refine jr_if_eq (pc := 8) (tgt := 23) F hx9 dX13_readerCount_8 rfl (fun c9 => ?_) (fun c9 => ?_)
    · have w := w1 c9
      refine jr_iload_n (pc := 23) F (j := 0) dX13_readerCount_23 rfl ?_
      exact jr_iret (pc := 24) F M dX13_readerCount_24 (hQ _ _ w)
    · have w := w2 c9
      have w := w _ rfl
      refine jr_iinc (pc := 11) F (j := 0) (vs' := [(1, .inl _), (2, .inl _)]) dX13_readerCount_11 rfl rfl (Nat.le_of_ble_eq_true rfl) rfl ?_
      refine jr_iload_n (pc := 14) F (j := 1) dX13_readerCount_14 rfl ?_
      refine jr_iload_n (pc := 15) F (j := 1) dX13_readerCount_15 rfl ?_
      refine jr_iconst (pc := 16) F dX13_readerCount_16 ?_
      refine jr_isub (pc := 17) F dX13_readerCount_17 ?_
      refine jr_iand (pc := 18) F dX13_readerCount_18 ?_
      have w := w _ rfl
      refine jr_istore_n (pc := 19) F (vs' := [(2, .inl _), (1, .inl _)]) dX13_readerCount_19 (Nat.le_of_ble_eq_true rfl) rfl ?_
      refine jr_goto (pc := 20) (tgt := 7) F dX13_readerCount_20 rfl ?_
      refine jj_J.sub [1, 0] rfl ?_
      exact ih _ _ _ _ w

theorem sC_X13_readerCount {X : jj_X} {N : Option jj_AV → jj_H → Prop} {XN : String → Nat → jj_H → Prop} (F : jj_F X RX13 cX13_readerCount 3) (M : jj_M X (some (.int)) 0 0 N XN) (O : jj_no X) (J : jj_GJ X.1 X.2.2.1) (hi : X.2.2.2.2.2.2.2.2.2.1.name = yX13_readerCount.name) {Q : Int → jj_H → Prop} {E : String → Nat → jj_H → Prop} (hQ : ∀ r h, Q r h → N (some (.inl r)) h) (hE : ∀ e q h, E e q h → XN e q h) (x0 : Option Nat) : ∀ (h : jj_H) (k : Nat), fC_X13_readerCount (jj_gk X.1) x0 Q E h k → jj_J X 3 0 [(0, .inr (.inr (.inl x0)))] [] h k := by
  intro h k w
  unfold fC_X13_readerCount at w
  refine jr_iconst (pc := 0) F dX13_readerCount_0 ?_
  refine jr_istore_n (pc := 1) F (vs' := [(1, .inl _), (0, .inr (.inr (.inl _)))]) dX13_readerCount_1 (Nat.le_of_ble_eq_true rfl) rfl ?_
  refine jr_aload_n (pc := 2) F (j := 1) dX13_readerCount_2 rfl ?_
  refine jr_gi (pc := 3) (ci := 7) (f := 2) F rfl in_X13 (Nat.le_of_ble_eq_true rfl) q795 dX13_readerCount_3 w (fun g3 w => ?_)
  refine jr_istore_n (pc := 6) F (vs' := [(2, .inl _), (1, .inl _), (0, .inr (.inr (.inl _)))]) dX13_readerCount_6 (Nat.le_of_ble_eq_true rfl) rfl ?_
  refine jj_J.sub [1, 0] rfl ?_
  obtain ⟨n9, w⟩ := w
  exact sC_X13_readerCount_l7 F M O J hi hQ hE n9 _ _ _ _ w

theorem cC_X13_readerCount {G : jj_G} {l : Launch} (J : jj_GJ G l) {x0 : Option Nat} {Q : Int → jj_H → Prop} {E : String → Nat → jj_H → Prop} {h : jj_H} {k : Nat} (w : fC_X13_readerCount (jj_gk G) x0 Q E h k) : jj_Ct G l yX13_readerCount (ws_ yX13_readerCount cX13_readerCount 3 (some (.int))) 0 0 [.inr (.inr (.inl x0))] h k (jc_i Q) E := by
  refine jj_Ct.of (jK_gs J).1 (by decide +kernel) (Nat.le_of_ble_eq_true rfl) rfl (fun X hG hl F M O hnm => ?_)
  subst hG; subst hl
  exact sC_X13_readerCount F M O J hnm (fun r h q => ⟨r, rfl, q⟩) (fun _ _ _ q => q) _ _ _ w
theorem hC_X13_readerCount : yX13_readerCount.cls = RX13 ∧ yX13_readerCount.cls ≠ "java/lang/invoke/MethodHandle" ∧ yX13_readerCount.cls ≠ "java/lang/invoke/VarHandle" ∧ (parseMethodDescriptor yX13_readerCount.desc).map (fun d => d.parameters.length) = some 0 := by decide +kernel
/-! X1_strongestGroup()I -/
def fC_X1_strongestGroup_l41 (gk : Nat → Nat) (x2 : Option Nat) (Q : Int → jj_H → Prop) (E : String → Nat → jj_H → Prop) : Nat → Option Nat → jj_H → Nat → Prop
  | 0, _, _, _ => False
  | n + 1, x1, h, k =>
  jq_J21_hasNext x2 (fun r3 h1 k2 =>
  jj_r r3 ∧ (r3 = 0 → (
    jp_gi h1 x1 7 0 (fun g4 =>
    Q g4 h1))) ∧
  (¬ r3 = 0 → (
    jq_J21_next x2 (fun r7 h5 k6 =>
    jp_is h5 r7 7 ∧
    jp_is h5 r7 7 ∧ fC_X13_readerCount gk r7 (fun r9 h10 =>
    jp_is h10 x1 7 ∧ fC_X13_readerCount gk x1 (fun r12 h13 =>
    ∀ v14, v14 = r9 - r12 →
    jj_r v14 ∧ (0 < v14 → (
      fC_X1_strongestGroup_l41 gk x2 Q E n r7 h13 k6)) ∧
    (¬ 0 < v14 → (
      jj_r v14 ∧ (¬ v14 = 0 → (
        fC_X1_strongestGroup_l41 gk x2 Q E n x1 h13 k6)) ∧
      (v14 = 0 → (
        jp_gr h13 r7 7 1 (fun g15 =>
        jq_J2_size g15 (fun r18 h16 k17 =>
        jp_gr h16 x1 7 1 (fun g19 =>
        jq_J2_size g19 (fun r22 h20 k21 =>
        jj_r r18 ∧ jj_r r22 ∧ (r18 ≤ r22 → (
          fC_X1_strongestGroup_l41 gk x2 Q E n x1 h20 k21)) ∧
        (¬ r18 ≤ r22 → (
          fC_X1_strongestGroup_l41 gk x2 Q E n r7 h20 k21))) h16 k17)) h13 k6)))))) E h10 0) E h5 0) h1 k2))) h k
def fC_X1_strongestGroup (gk : Nat → Nat) (x0 : Option Nat) (Q : Int → jj_H → Prop) (E : String → Nat → jj_H → Prop) (h : jj_H) (k : Nat) : Prop :=
  jp_gr h x0 1 0 (fun g23 =>
  jp_gr h g23 2 1 (fun g24 =>
  jq_J2_isEmpty g24 (fun r27 h25 k26 =>
  jj_r r27 ∧ (r27 = 0 → (
    jp_is h25 x0 1 ∧ ∃ c28, c28 ≤ k26 ∧ fC_X1_view gk x0 (fun r29 h30 =>
    jp_gr h30 r29 8 4 (fun g31 =>
    jq_J2_get g31 0 (fun r34 h32 k33 =>
    jp_is h32 r34 7 ∧
    jp_is h32 x0 1 ∧ ∃ c35, c35 ≤ k33 ∧ fC_X1_view gk x0 (fun r36 h37 =>
    jp_gr h37 r36 8 4 (fun g38 =>
    jq_J2_iterator g38 (fun r41 h39 k40 =>
    ∃ n9, fC_X1_strongestGroup_l41 gk r41 Q E n9 r34 h39 k40) h37 (k33 - c35))) E h32 c35) h30 (k26 - c28))) E h25 c28)) ∧
  (¬ r27 = 0 → (
    Q (-1) h25))) h k))
theorem sC_X1_strongestGroup_l41 {X : jj_X} {N : Option jj_AV → jj_H → Prop} {XN : String → Nat → jj_H → Prop} (F : jj_F X RX1 cX1_strongestGroup 5) (M : jj_M X (some (.int)) 18 739 N XN) (O : jj_no X) (J : jj_GJ X.1 X.2.2.1) (hi : X.2.2.2.2.2.2.2.2.2.1.name = yX1_strongestGroup.name) {Q : Int → jj_H → Prop} {E : String → Nat → jj_H → Prop} (hQ : ∀ r h, Q r h → N (some (.inl r)) h) (hE : ∀ e q h, E e q h → XN e q h) (x2 : Option Nat) : ∀ (n : Nat) (x1 : Option Nat) (h : jj_H) (k : Nat), fC_X1_strongestGroup_l41 (jj_gk X.1) x2 Q E n x1 h k → jj_J X 5 41 [(1, .inr (.inr (.inl x1))), (2, .inr (.inr (.inl x2)))] [] h k := by
  intro n
  induction n with
  | zero =>
    intro x1 h k w
    exact (show False from w).elim
  | succ n ih =>
    intro x1 h k w
    rw [fC_X1_strongestGroup_l41] at w
    refine jr_aload_n (pc := 41) F (j := 1) dX1_strongestGroup_41 rfl ?_
    refine jr_jF (pc := 42) (As := []) (ci := 15) F M (fw_J21_hasNext q1639) (jK_f_J21_hasNext J) dX1_strongestGroup_42 (by decide +kernel) rfl (Nat.le_of_ble_eq_true rfl) (Nat.le_of_ble_eq_true rfl) (Nat.le_of_ble_eq_true rfl) rfl (jK_J21_hasNext J _ _ _ _ w) (fun v9 h1 k2 q9 => ?_)
    obtain ⟨r3, rfl, w⟩ := q9
    obtain ⟨hx9, w1, w2⟩ := w
    refine jr_if_eq (pc := 47) (tgt := 107) F hx9 dX1_strongestGroup_47 rfl (fun c9 => ?_) (fun c9 => ?_)
    · have w := w1 c9
      refine jr_aload_n (pc := 107) F (j := 0) dX1_strongestGroup_107 rfl ?_
      refine jr_giN (pc := 108) (ci := 7) (f := 0) F rfl in_X13 (Nat.le_of_ble_eq_true rfl) q792 dX1_strongestGroup_108 w (fun g4 w => ?_)
      exact jr_iret (pc := 111) F M dX1_strongestGroup_111 (hQ _ _ w)
    · have w := w2 c9
      refine jr_aload_n (pc := 50) F (j := 1) dX1_strongestGroup_50 rfl ?_
      refine jr_jF (pc := 51) (As := []) (ci := 15) F M (fw_J21_next q1641) (jK_f_J21_next J) dX1_strongestGroup_51 (by decide +kernel) rfl (Nat.le_of_ble_eq_true rfl) (Nat.le_of_ble_eq_true rfl) (Nat.le_of_ble_eq_true rfl) rfl (jK_J21_next J _ _ _ _ w) (fun v9 h5 k6 q9 => ?_)
      obtain ⟨r7, rfl, w⟩ := q9
      obtain ⟨hi9, w⟩ := w
      refine jr_cast (pc := 56) (ci := 7) F rfl q1614 dX1_strongestGroup_56 hi9 ?_
      refine jr_astore_n (pc := 59) F (vs' := [(3, .inr (.inr (.inl _))), (1, .inr (.inr (.inl _))), (2, .inr (.inr (.inl _)))]) dX1_strongestGroup_59 (Nat.le_of_ble_eq_true rfl) rfl ?_
      refine jr_aload_n (pc := 60) F (j := 0) dX1_strongestGroup_60 rfl ?_
      obtain ⟨hi9, w⟩ := w
      refine jr_cV (pc := 61) (As := []) (ci := 7) F M (lw_V q1642 q1643 q1644 q180 q1645) dX1_strongestGroup_61 hC_X13_readerCount rfl (Nat.le_of_ble_eq_true rfl) (Nat.le_of_ble_eq_true rfl) (Nat.le_of_ble_eq_true rfl) rfl hi9 (Nat.zero_le _) (cC_X13_readerCount J w) (fun v9 h10 q9 => ?_) (fun E9 q9 h9 w9 => jr_out F M O (hE _ _ _ w9))
      obtain ⟨r9, rfl, w⟩ := q9
      refine jr_aload_n (pc := 64) F (j := 1) dX1_strongestGroup_64 rfl ?_
      obtain ⟨hi9, w⟩ := w
      refine jr_cV (pc := 65) (As := []) (ci := 7) F M (lw_V q1642 q1643 q1644 q180 q1645) dX1_strongestGroup_65 hC_X13_readerCount rfl (Nat.le_of_ble_eq_true rfl) (Nat.le_of_ble_eq_true rfl) (Nat.le_of_ble_eq_true rfl) rfl hi9 (Nat.zero_le _) (cC_X13_readerCount J w) (fun v9 h13 q9 => ?_) (fun E9 q9 h9 w9 => jr_out F M O (hE _ _ _ w9))
      obtain ⟨r12, rfl, w⟩ := q9
      refine jr_isub (pc := 68) F dX1_strongestGroup_68 ?_
      have w := w _ rfl
      refine jr_istore (pc := 69) F (vs' := [(4, .inl _), (3, .inr (.inr (.inl _))), (1, .inr (.inr (.inl _))), (2, .inr (.inr (.inl _)))]) dX1_strongestGroup_69 (Nat.le_of_ble_eq_true rfl) rfl ?_
      refine jr_iload (pc := 71) F (j := 0) dX1_strongestGroup_71 rfl ?_
      obtain ⟨hx9, w1, w2⟩ := w
      refine jr_if_gt (pc := 73) (tgt := 98) F hx9 dX1_strongestGroup_73 rfl (fun c9 => ?_) (fun c9 => ?_)
      · have w := w1 c9
        refine jr_aload_n (pc := 98) F (j := 1) dX1_strongestGroup_98 rfl ?_
        refine jr_goto (pc := 99) (tgt := 103) F dX1_strongestGroup_99 rfl ?_
        refine jr_astore_n (pc := 103) F (vs' := [(1, .inr (.inr (.inl _))), (4, .inl _), (3, .inr (.inr (.inl _))), (2, .inr (.inr (.inl _)))]) dX1_strongestGroup_103 (Nat.le_of_ble_eq_true rfl) rfl ?_
        refine jr_goto (pc := 104) (tgt := 41) F dX1_strongestGroup_104 rfl ?_
        refine jj_J.sub [0, 3] rfl ?_
        exact ih _ _ _ w
      · have w := w2 c9
        refine jr_iload (pc := 76) F (j := 0) dX1_strongestGroup_76 rfl ?_
        obtain ⟨hx9, w1, w2⟩ := w
        refine jr_if_ne (pc := 78) (tgt := 102) F hx9 dX1_strongestGroup_78 rfl (fun c9 => ?_) (fun c9 => ?_)
        · have w := w1 c9
          refine jr_aload_n (pc := 102) F (j := 2) dX1_strongestGroup_102 rfl ?_
          refine jr_astore_n (pc := 103) F (vs' := [(1, .inr (.inr (.inl _))), (4, .inl _), (3, .inr (.inr (.inl _))), (2, .inr (.inr (.inl _)))]) dX1_strongestGroup_103 (Nat.le_of_ble_eq_true rfl) rfl ?_
          refine jr_goto (pc := 104) (tgt := 41) F dX1_strongestGroup_104 rfl ?_
          refine jj_J.sub [0, 3] rfl ?_
          exact ih _ _ _ w
        · have w := w2 c9
          refine jr_aload_n (pc := 81) F (j := 1) dX1_strongestGroup_81 rfl ?_
          refine jr_grN (pc := 82) (ci := 7) (f := 1) F rfl in_X13 (Nat.le_of_ble_eq_true rfl) q794 dX1_strongestGroup_82 w (fun g15 w => ?_)
          refine jr_jV (pc := 85) (As := []) (ci := 14) F M (lw_V q1646 q676 q677 q124 q678) dX1_strongestGroup_85 hj_J2_size rfl (Nat.le_of_ble_eq_true rfl) (Nat.le_of_ble_eq_true rfl) (Nat.le_of_ble_eq_true rfl) rfl (jK_J2_size J _ _ _ _ w) (fun v9 h16 k17 q9 => ?_)
          obtain ⟨r18, rfl, w⟩ := q9
          refine jr_aload_n (pc := 88) F (j := 2) dX1_strongestGroup_88 rfl ?_
          refine jr_grN (pc := 89) (ci := 7) (f := 1) F rfl in_X13 (Nat.le_of_ble_eq_true rfl) q794 dX1_strongestGroup_89 w (fun g19 w => ?_)
          refine jr_jV (pc := 92) (As := []) (ci := 14) F M (lw_V q1646 q676 q677 q124 q678) dX1_strongestGroup_92 hj_J2_size rfl (Nat.le_of_ble_eq_true rfl) (Nat.le_of_ble_eq_true rfl) (Nat.le_of_ble_eq_true rfl) rfl (jK_J2_size J _ _ _ _ w) (fun v9 h20 k21 q9 => ?_)
          obtain ⟨r22, rfl, w⟩ := q9
          obtain ⟨hx9, hy9, w1, w2⟩ := w
          refine jr_icmp_le (pc := 95) (tgt := 102) F hx9 hy9 dX1_strongestGroup_95 rfl (fun c9 => ?_) (fun c9 => ?_)
          · have w := w1 c9
            refine jr_aload_n (pc := 102) F (j := 2) dX1_strongestGroup_102 rfl ?_
            refine jr_astore_n (pc := 103) F (vs' := [(1, .inr (.inr (.inl _))), (4, .inl _), (3, .inr (.inr (.inl _))), (2, .inr (.inr (.inl _)))]) dX1_strongestGroup_103 (Nat.le_of_ble_eq_true rfl) rfl ?_
            refine jr_goto (pc := 104) (tgt := 41) F dX1_strongestGroup_104 rfl ?_
            refine jj_J.sub [0, 3] rfl ?_
            exact ih _ _ _ w
          · have w := w2 c9
            refine jr_aload_n (pc := 98) F (j := 1) dX1_strongestGroup_98 rfl ?_
            refine jr_goto (pc := 99) (tgt := 103) F dX1_strongestGroup_99 rfl ?_
            refine jr_astore_n (pc := 103) F (vs' := [(1, .inr (.inr (.inl _))), (4, .inl _), (3, .inr (.inr (.inl _))), (2, .inr (.inr (.inl _)))]) dX1_strongestGroup_103 (Nat.le_of_ble_eq_true rfl) rfl ?_
            refine jr_goto (pc := 104) (tgt := 41) F dX1_strongestGroup_104 rfl ?_
            refine jj_J.sub [0, 3] rfl ?_
            exact ih _ _ _ w

theorem sC_X1_strongestGroup {X : jj_X} {N : Option jj_AV → jj_H → Prop} {XN : String → Nat → jj_H → Prop} (F : jj_F X RX1 cX1_strongestGroup 5) (M : jj_M X (some (.int)) 18 739 N XN) (O : jj_no X) (J : jj_GJ X.1 X.2.2.1) (hi : X.2.2.2.2.2.2.2.2.2.1.name = yX1_strongestGroup.name) {Q : Int → jj_H → Prop} {E : String → Nat → jj_H → Prop} (hQ : ∀ r h, Q r h → N (some (.inl r)) h) (hE : ∀ e q h, E e q h → XN e q h) (x0 : Option Nat) : ∀ (h : jj_H) (k : Nat), fC_X1_strongestGroup (jj_gk X.1) x0 Q E h k → jj_J X 5 0 [(0, .inr (.inr (.inl x0)))] [] h k := by
  intro h k w
  unfold fC_X1_strongestGroup at w
  refine jr_aload_n (pc := 0) F (j := 0) dX1_strongestGroup_0 rfl ?_
  refine jr_gr (pc := 1) (ci := 1) (f := 0) F rfl in_X1 (Nat.le_of_ble_eq_true rfl) q625 dX1_strongestGroup_1 w (fun g23 w => ?_)
  refine jr_grN (pc := 4) (ci := 2) (f := 1) F rfl in_X2 (Nat.le_of_ble_eq_true rfl) q596 dX1_strongestGroup_4 w (fun g24 w => ?_)
  refine jr_jV (pc := 7) (As := []) (ci := 14) F M (lw_V q655 q656 q657 q124 q658) dX1_strongestGroup_7 hj_J2_isEmpty rfl (Nat.le_of_ble_eq_true rfl) (Nat.le_of_ble_eq_true rfl) (Nat.le_of_ble_eq_true rfl) rfl (jK_J2_isEmpty J _ _ _ _ w) (fun v9 h25 k26 q9 => ?_)
  obtain ⟨r27, rfl, w⟩ := q9
  obtain ⟨hx9, w1, w2⟩ := w
  refine jr_if_eq (pc := 10) (tgt := 15) F hx9 dX1_strongestGroup_10 rfl (fun c9 => ?_) (fun c9 => ?_)
  · have w := w1 c9
    refine jr_aload_n (pc := 15) F (j := 0) dX1_strongestGroup_15 rfl ?_
    obtain ⟨hi9, c28, hk9, w⟩ := w
    refine jr_cV (pc := 16) (As := []) (ci := 1) F M (lw_V q659 q661 qs1 q120 q662) dX1_strongestGroup_16 hC_X1_view rfl (Nat.le_of_ble_eq_true rfl) (Nat.le_of_ble_eq_true rfl) (Nat.le_of_ble_eq_true rfl) rfl hi9 hk9 (cC_X1_view J w) (fun v9 h30 q9 => ?_) (fun E9 q9 h9 w9 => jr_out F M O (hE _ _ _ w9))
    obtain ⟨r29, rfl, w⟩ := q9
    refine jr_grN (pc := 19) (ci := 8) (f := 4) F rfl in_X10 (Nat.le_of_ble_eq_true rfl) q1601 dX1_strongestGroup_19 w (fun g31 w => ?_)
    refine jr_iconst (pc := 22) F dX1_strongestGroup_22 ?_
    refine jr_jV (pc := 23) (As := [_]) (ci := 14) F M (lw_V q1613 q681 q682 q124 q683) dX1_strongestGroup_23 hj_J2_get rfl (Nat.le_of_ble_eq_true rfl) (Nat.le_of_ble_eq_true rfl) (Nat.le_of_ble_eq_true rfl) rfl (jK_J2_get J _ _ _ _ _ w) (fun v9 h32 k33 q9 => ?_)
    obtain ⟨r34, rfl, w⟩ := q9
    obtain ⟨hi9, w⟩ := w
    refine jr_cast (pc := 26) (ci := 7) F rfl q1614 dX1_strongestGroup_26 hi9 ?_
    refine jr_astore_n (pc := 29) F (vs' := [(1, .inr (.inr (.inl _))), (0, .inr (.inr (.inl _)))]) dX1_strongestGroup_29 (Nat.le_of_ble_eq_true rfl) rfl ?_
    refine jr_aload_n (pc := 30) F (j := 1) dX1_strongestGroup_30 rfl ?_
    obtain ⟨hi9, c35, hk9, w⟩ := w
    refine jr_cV (pc := 31) (As := []) (ci := 1) F M (lw_V q659 q661 qs1 q120 q662) dX1_strongestGroup_31 hC_X1_view rfl (Nat.le_of_ble_eq_true rfl) (Nat.le_of_ble_eq_true rfl) (Nat.le_of_ble_eq_true rfl) rfl hi9 hk9 (cC_X1_view J w) (fun v9 h37 q9 => ?_) (fun E9 q9 h9 w9 => jr_out F M O (hE _ _ _ w9))
    obtain ⟨r36, rfl, w⟩ := q9
    refine jr_grN (pc := 34) (ci := 8) (f := 4) F rfl in_X10 (Nat.le_of_ble_eq_true rfl) q1601 dX1_strongestGroup_34 w (fun g38 w => ?_)
    refine jr_jV (pc := 37) (As := []) (ci := 14) F M (lw_V q1615 q1616 q1617 q124 q1618) dX1_strongestGroup_37 hj_J2_iterator rfl (Nat.le_of_ble_eq_true rfl) (Nat.le_of_ble_eq_true rfl) (Nat.le_of_ble_eq_true rfl) rfl (jK_J2_iterator J _ _ _ _ w) (fun v9 h39 k40 q9 => ?_)
    obtain ⟨r41, rfl, w⟩ := q9
    refine jr_astore_n (pc := 40) F (vs' := [(2, .inr (.inr (.inl _))), (1, .inr (.inr (.inl _))), (0, .inr (.inr (.inl _)))]) dX1_strongestGroup_40 (Nat.le_of_ble_eq_true rfl) rfl ?_
    refine jj_J.sub [1, 0] rfl ?_
    obtain ⟨n9, w⟩ := w
    exact sC_X1_strongestGroup_l41 F M O J hi hQ hE _ n9 _ _ _ w
  · have w := w2 c9
    refine jr_iconst (pc := 13) F dX1_strongestGroup_13 ?_
    exact jr_iret (pc := 14) F M dX1_strongestGroup_14 (hQ _ _ w)

theorem cC_X1_strongestGroup {G : jj_G} {l : Launch} (J : jj_GJ G l) {x0 : Option Nat} {Q : Int → jj_H → Prop} {E : String → Nat → jj_H → Prop} {h : jj_H} {k : Nat} (w : fC_X1_strongestGroup (jj_gk G) x0 Q E h k) : jj_Ct G l yX1_strongestGroup (ws_ yX1_strongestGroup cX1_strongestGroup 5 (some (.int))) 18 739 [.inr (.inr (.inl x0))] h k (jc_i Q) E := by
  refine jj_Ct.of (jK_gs J).1 (by decide +kernel) (Nat.le_of_ble_eq_true rfl) rfl (fun X hG hl F M O hnm => ?_)
  subst hG; subst hl
  exact sC_X1_strongestGroup F M O J hnm (fun r h q => ⟨r, rfl, q⟩) (fun _ _ _ q => q) _ _ _ w
theorem hC_X1_strongestGroup : yX1_strongestGroup.cls = RX1 ∧ yX1_strongestGroup.cls ≠ "java/lang/invoke/MethodHandle" ∧ yX1_strongestGroup.cls ≠ "java/lang/invoke/VarHandle" ∧ (parseMethodDescriptor yX1_strongestGroup.desc).map (fun d => d.parameters.length) = some 0 := by decide +kernel
/-! X1_isBetween(JJJ)Z -/
def fC_X1_isBetween (gk : Nat → Nat) (x0 : Int) (x2 : Int) (x4 : Int) (Q : Int → jj_H → Prop) (E : String → Nat → jj_H → Prop) (h : jj_H) (k : Nat) : Prop :=
  jj_rl x0 ∧ jj_rl x2 ∧ (x0 < x2 → (
    Q 0 h)) ∧
  (¬ x0 < x2 → (
    jj_rl x0 ∧ jj_rl x4 ∧ (x4 < x0 → (
      Q 0 h)) ∧
    (¬ x4 < x0 → (
      Q 1 h))))
theorem sC_X1_isBetween {X : jj_X} {N : Option jj_AV → jj_H → Prop} {XN : String → Nat → jj_H → Prop} (F : jj_F X RX1 cX1_isBetween 6) (M : jj_M X (some (.boolean)) 0 0 N XN) (O : jj_no X) (J : jj_GJ X.1 X.2.2.1) (hi : X.2.2.2.2.2.2.2.2.2.1.name = yX1_isBetween.name) {Q : Int → jj_H → Prop} {E : String → Nat → jj_H → Prop} (hQ : ∀ r h, Q r h → N (some (.inl r)) h) (hE : ∀ e q h, E e q h → XN e q h) (x0 : Int) (x2 : Int) (x4 : Int) : ∀ (h : jj_H) (k : Nat), fC_X1_isBetween (jj_gk X.1) x0 x2 x4 Q E h k → jj_J X 6 0 [(0, .inr (.inl x0)), (2, .inr (.inl x2)), (4, .inr (.inl x4))] [] h k := by
  intro h k w
  unfold fC_X1_isBetween at w
  refine jr_lload_n (pc := 0) F (j := 0) dX1_isBetween_0 rfl ?_
  refine jr_lload_n (pc := 1) F (j := 1) dX1_isBetween_1 rfl ?_
  obtain ⟨hx9, hy9, w1, w2⟩ := w
  refine jr_lc_lt (pc := 2) (tgt := 17) F hx9 hy9 dX1_isBetween_2 dX1_isBetween_3 rfl (fun c9 => ?_) (fun c9 => ?_)
  · have w := w1 c9
    refine jr_iconst (pc := 17) F dX1_isBetween_17 ?_
    exact jr_zret (pc := 18) F M dX1_isBetween_18 (by decide) (hQ _ _ w)
  · have w := w2 c9
    refine jr_lload_n (pc := 6) F (j := 0) dX1_isBetween_6 rfl ?_
    refine jr_lload (pc := 7) F (j := 2) dX1_isBetween_7 rfl ?_
    obtain ⟨hx9, hy9, w1, w2⟩ := w
    refine jr_lc_gt (pc := 9) (tgt := 17) F hx9 hy9 dX1_isBetween_9 dX1_isBetween_10 rfl (fun c9 => ?_) (fun c9 => ?_)
    · have w := w1 c9
      refine jr_iconst (pc := 17) F dX1_isBetween_17 ?_
      exact jr_zret (pc := 18) F M dX1_isBetween_18 (by decide) (hQ _ _ w)
    · have w := w2 c9
      refine jr_iconst (pc := 13) F dX1_isBetween_13 ?_
      refine jr_goto (pc := 14) (tgt := 18) F dX1_isBetween_14 rfl ?_
      exact jr_zret (pc := 18) F M dX1_isBetween_18 (by decide) (hQ _ _ w)

theorem cC_X1_isBetween {G : jj_G} {l : Launch} (J : jj_GJ G l) {x0 : Int} {x2 : Int} {x4 : Int} {Q : Int → jj_H → Prop} {E : String → Nat → jj_H → Prop} {h : jj_H} {k : Nat} (w : fC_X1_isBetween (jj_gk G) x0 x2 x4 Q E h k) : jj_Ct G l yX1_isBetween (ws_ yX1_isBetween cX1_isBetween 6 (some (.boolean))) 0 0 [.inr (.inl x0), .inr (.inl x2), .inr (.inl x4)] h k (jc_i Q) E := by
  refine jj_Ct.of (jK_gs J).1 (by decide +kernel) (Nat.le_of_ble_eq_true rfl) rfl (fun X hG hl F M O hnm => ?_)
  subst hG; subst hl
  exact sC_X1_isBetween F M O J hnm (fun r h q => ⟨r, rfl, q⟩) (fun _ _ _ q => q) _ _ _ _ _ w
theorem hC_X1_isBetween : yX1_isBetween.cls = RX1 ∧ yX1_isBetween.cls ≠ "java/lang/invoke/MethodHandle" ∧ yX1_isBetween.cls ≠ "java/lang/invoke/VarHandle" ∧ (parseMethodDescriptor yX1_isBetween.desc).map (fun d => d.parameters.length) = some 3 := by decide +kernel
/-! X12_has(I)Z -/
def fC_X12_has (gk : Nat → Nat) (x0 : Option Nat) (x1 : Int) (Q : Int → jj_H → Prop) (E : String → Nat → jj_H → Prop) (h : jj_H) (k : Nat) : Prop :=
  jp_gi h x0 6 0 (fun g1 =>
  jj_r g1 ∧ (g1 = 3 → (
    Q 0 h)) ∧
  (¬ g1 = 3 → (
    jp_gi h x0 6 1 (fun g2 =>
    jp_gi h x0 6 2 (fun g3 =>
    fC_X1_isBetween gk (jj_i2l x1) (jj_i2l g2) (jj_i2l g3) (fun r5 h6 =>
    jj_r r5 ∧ (r5 = 0 → (
      Q 0 h6)) ∧
    (¬ r5 = 0 → (
      Q 1 h6))) E h 0)))))
theorem sC_X12_has {X : jj_X} {N : Option jj_AV → jj_H → Prop} {XN : String → Nat → jj_H → Prop} (F : jj_F X RX12 cX12_has 2) (M : jj_M X (some (.boolean)) 1 25 N XN) (O : jj_no X) (J : jj_GJ X.1 X.2.2.1) (hi : X.2.2.2.2.2.2.2.2.2.1.name = yX12_has.name) {Q : Int → jj_H → Prop} {E : String → Nat → jj_H → Prop} (hQ : ∀ r h, Q r h → N (some (.inl r)) h) (hE : ∀ e q h, E e q h → XN e q h) (x0 : Option Nat) (x1 : Int) : ∀ (h : jj_H) (k : Nat), fC_X12_has (jj_gk X.1) x0 x1 Q E h k → jj_J X 2 0 [(0, .inr (.inr (.inl x0))), (1, .inl x1)] [] h k := by
  intro h k w
  unfold fC_X12_has at w
  refine jr_aload_n (pc := 0) F (j := 0) dX12_has_0 rfl ?_
  refine jr_gi (pc := 1) (ci := 6) (f := 0) F rfl in_X12 (Nat.le_of_ble_eq_true rfl) q756 dX12_has_1 w (fun g1 w => ?_)
  refine jr_iconst (pc := 4) F dX12_has_4 ?_
  obtain ⟨hx9, w1, w2⟩ := w
  refine jr_icmp_eq (pc := 5) (tgt := 30) F hx9 ⟨by decide, by decide⟩ dX12_has_5 rfl (fun c9 => ?_) (fun c9 => ?_)
  · have w := w1 c9
    refine jr_iconst (pc := 30) F dX12_has_30 ?_
    exact jr_zret (pc := 31) F M dX12_has_31 (by decide) (hQ _ _ w)
  · have w := w2 c9
    refine jr_iload_n (pc := 8) F (j := 1) dX12_has_8 rfl ?_
    refine jr_i2l (pc := 9) F dX12_has_9 ?_
    refine jr_aload_n (pc := 10) F (j := 0) dX12_has_10 rfl ?_
    refine jr_gi (pc := 11) (ci := 6) (f := 1) F rfl in_X12 (Nat.le_of_ble_eq_true rfl) q760 dX12_has_11 w (fun g2 w => ?_)
    refine jr_i2l (pc := 14) F dX12_has_14 ?_
    refine jr_aload_n (pc := 15) F (j := 0) dX12_has_15 rfl ?_
    refine jr_gi (pc := 16) (ci := 6) (f := 2) F rfl in_X12 (Nat.le_of_ble_eq_true rfl) q763 dX12_has_16 w (fun g3 w => ?_)
    refine jr_i2l (pc := 19) F dX12_has_19 ?_
    refine jr_callSN (pc := 20) (As := [_, _, _]) F M q1677 q1678 q120 q1679 dX12_has_20 hC_X1_isBetween.2 rfl (Nat.le_of_ble_eq_true rfl) (Nat.le_of_ble_eq_true rfl) (Nat.le_of_ble_eq_true rfl) (Nat.zero_le _) (cC_X1_isBetween J w) (fun v9 h6 q9 => ?_) (fun E9 q9 h9 w9 => jr_out F M O (hE _ _ _ w9))
    obtain ⟨r5, rfl, w⟩ := q9
    obtain ⟨hx9, w1, w2⟩ := w
    refine jr_if_eq (pc := 23) (tgt := 30) F hx9 dX12_has_23 rfl (fun c9 => ?_) (fun c9 => ?_)
    · have w := w1 c9
      refine jr_iconst (pc := 30) F dX12_has_30 ?_
      exact jr_zret (pc := 31) F M dX12_has_31 (by decide) (hQ _ _ w)
    · have w := w2 c9
      refine jr_iconst (pc := 26) F dX12_has_26 ?_
      refine jr_goto (pc := 27) (tgt := 31) F dX12_has_27 rfl ?_
      exact jr_zret (pc := 31) F M dX12_has_31 (by decide) (hQ _ _ w)

theorem cC_X12_has {G : jj_G} {l : Launch} (J : jj_GJ G l) {x0 : Option Nat} {x1 : Int} {Q : Int → jj_H → Prop} {E : String → Nat → jj_H → Prop} {h : jj_H} {k : Nat} (w : fC_X12_has (jj_gk G) x0 x1 Q E h k) : jj_Ct G l yX12_has (ws_ yX12_has cX12_has 2 (some (.boolean))) 1 25 [.inr (.inr (.inl x0)), .inl x1] h k (jc_i Q) E := by
  refine jj_Ct.of (jK_gs J).1 (by decide +kernel) (Nat.le_of_ble_eq_true rfl) rfl (fun X hG hl F M O hnm => ?_)
  subst hG; subst hl
  exact sC_X12_has F M O J hnm (fun r h q => ⟨r, rfl, q⟩) (fun _ _ _ q => q) _ _ _ _ w
theorem hC_X12_has : yX12_has.cls = RX12 ∧ yX12_has.cls ≠ "java/lang/invoke/MethodHandle" ∧ yX12_has.cls ≠ "java/lang/invoke/VarHandle" ∧ (parseMethodDescriptor yX12_has.desc).map (fun d => d.parameters.length) = some 1 := by decide +kernel
/-! X10_heat(I)I -/
def fC_X10_heat_l68 (gk : Nat → Nat) (Q : Int → jj_H → Prop) (E : String → Nat → jj_H → Prop) : Nat → Int → Int → jj_H → Nat → Prop
  | 0, _, _, _, _ => False
  | n + 1, x3, x4, h, k =>
  jj_r x4 ∧ (x4 = 0 → (
    Q x3 h)) ∧
  (¬ x4 = 0 → (
    ∀ v1, v1 = x3 + 1 →
    ∀ v2, v2 = jj_and x4 (x4 - 1) →
    fC_X10_heat_l68 gk Q E n v1 v2 h k))
def fC_X10_heat_l4 (gk : Nat → Nat) (x0 : Option Nat) (x1 : Int) (Q : Int → jj_H → Prop) (E : String → Nat → jj_H → Prop) : Nat → Int → Int → jj_H → Nat → Prop
  | 0, _, _, _, _ => False
  | n + 1, x2, x3, h, k =>
  jp_gr h x0 8 0 (fun g3 =>
  jp_gr h g3 2 1 (fun g4 =>
  jq_J2_size g4 (fun r7 h5 k6 =>
  jj_r x3 ∧ jj_r r7 ∧ (r7 ≤ x3 → (
    ∃ n9, fC_X10_heat_l68 gk Q E n9 0 x2 h5 k6)) ∧
  (¬ r7 ≤ x3 → (
    jp_gr h5 x0 8 2 (fun g8 =>
    jp_rl h5 g8 3 x3 (fun g9 =>
    jp_is h5 g9 6 ∧ fC_X12_has gk g9 x1 (fun r11 h12 =>
    jj_r r11 ∧ (r11 = 0 → (
      ∀ v13, v13 = jj_or x2 0 →
      ∀ v14, v14 = x3 + 1 →
      fC_X10_heat_l4 gk x0 x1 Q E n v13 v14 h12 k6)) ∧
    (¬ r11 = 0 → (
      jp_gr h12 x0 8 0 (fun g15 =>
      jp_gr h12 g15 2 1 (fun g16 =>
      jq_J2_get g16 x3 (fun r19 h17 k18 =>
      jp_is h17 r19 4 ∧
      jp_gi h17 r19 4 0 (fun g20 =>
      ∀ v21, v21 = jj_or x2 (jj_shl 1 g20) →
      ∀ v22, v22 = x3 + 1 →
      fC_X10_heat_l4 gk x0 x1 Q E n v21 v22 h17 k18)) h12 k6))))) E h5 0))))) h k))
def fC_X10_heat (gk : Nat → Nat) (x0 : Option Nat) (x1 : Int) (Q : Int → jj_H → Prop) (E : String → Nat → jj_H → Prop) (h : jj_H) (k : Nat) : Prop :=
  ∃ n9, fC_X10_heat_l4 gk x0 x1 Q E n9 0 0 h k
theorem sC_X10_heat_l68 {X : jj_X} {N : Option jj_AV → jj_H → Prop} {XN : String → Nat → jj_H → Prop} (F : jj_F X RX10 cX10_heat 5) (M : jj_M X (some (.int)) 13 621 N XN) (O : jj_no X) (J : jj_GJ X.1 X.2.2.1) (hi : X.2.2.2.2.2.2.2.2.2.1.name = yX10_heat.name) {Q : Int → jj_H → Prop} {E : String → Nat → jj_H → Prop} (hQ : ∀ r h, Q r h → N (some (.inl r)) h) (hE : ∀ e q h, E e q h → XN e q h) : ∀ (n : Nat) (x3 : Int) (x4 : Int) (h : jj_H) (k : Nat), fC_X10_heat_l68 (jj_gk X.1) Q E n x3 x4 h k → jj_J X 5 68 [(3, .inl x3), (4, .inl x4)] [] h k := by
  intro n
  induction n with
  | zero =>
    intro x3 x4 h k w
    exact (show False from w).elim
  | succ n ih =>
    intro x3 x4 h k w
    rw [fC_X10_heat_l68] at w
    refine jr_iload (pc := 68) F (j := 1) dX10_heat_68 rfl ?_
    obtain ⟨hx9, w1, w2⟩ := w
    refine jr_if_eq (pc := 70) (tgt := 88) F hx9 dX10_heat_70 rfl (fun c9 => ?_) (fun c9 => ?_)
    · have w := w1 c9
      refine jr_iload_n (pc := 88) F (j := 0) dX10_heat_88 rfl ?_
      exact jr_iret (pc := 89) F M dX10_heat_89 (hQ _ _ w)
    · have w := w2 c9
      have w := w _ rfl
      refine jr_iinc (pc := 73) F (j := 0) (vs' := [(3, .inl _), (4, .inl _)]) dX10_heat_73 rfl rfl (Nat.le_of_ble_eq_true rfl) rfl ?_
      refine jr_iload (pc := 76) F (j := 1) dX10_heat_76 rfl ?_
      refine jr_iload (pc := 78) F (j := 1) dX10_heat_78 rfl ?_
      refine jr_iconst (pc := 80) F dX10_heat_80 ?_
      refine jr_isub (pc := 81) F dX10_heat_81 ?_
      refine jr_iand (pc := 82) F dX10_heat_82 ?_
      have w := w _ rfl
      refine jr_istore (pc := 83) F (vs' := [(4, .inl _), (3, .inl _)]) dX10_heat_83 (Nat.le_of_ble_eq_true rfl) rfl ?_
      refine jr_goto (pc := 85) (tgt := 68) F dX10_heat_85 rfl ?_
      refine jj_J.sub [1, 0] rfl ?_
      exact ih _ _ _ _ w

theorem sC_X10_heat_l4 {X : jj_X} {N : Option jj_AV → jj_H → Prop} {XN : String → Nat → jj_H → Prop} (F : jj_F X RX10 cX10_heat 5) (M : jj_M X (some (.int)) 13 621 N XN) (O : jj_no X) (J : jj_GJ X.1 X.2.2.1) (hi : X.2.2.2.2.2.2.2.2.2.1.name = yX10_heat.name) {Q : Int → jj_H → Prop} {E : String → Nat → jj_H → Prop} (hQ : ∀ r h, Q r h → N (some (.inl r)) h) (hE : ∀ e q h, E e q h → XN e q h) (x0 : Option Nat) (x1 : Int) : ∀ (n : Nat) (x2 : Int) (x3 : Int) (h : jj_H) (k : Nat), fC_X10_heat_l4 (jj_gk X.1) x0 x1 Q E n x2 x3 h k → jj_J X 5 4 [(0, .inr (.inr (.inl x0))), (1, .inl x1), (2, .inl x2), (3, .inl x3)] [] h k := by
  intro n
  induction n with
  | zero =>
    intro x2 x3 h k w
    exact (show False from w).elim
  | succ n ih =>
    intro x2 x3 h k w
    rw [fC_X10_heat_l4] at w
    refine jr_iload_n (pc := 4) F (j := 3) dX10_heat_4 rfl ?_
    refine jr_aload_n (pc := 5) F (j := 0) dX10_heat_5 rfl ?_
    refine jr_gr (pc := 6) (ci := 8) (f := 0) F rfl in_X10 (Nat.le_of_ble_eq_true rfl) q1593 dX10_heat_6 w (fun g3 w => ?_)
    refine jr_grN (pc := 9) (ci := 2) (f := 1) F rfl in_X2 (Nat.le_of_ble_eq_true rfl) q594 dX10_heat_9 w (fun g4 w => ?_)
    refine jr_jV (pc := 12) (As := []) (ci := 14) F M (lw_V q675 q676 q677 q124 q678) dX10_heat_12 hj_J2_size rfl (Nat.le_of_ble_eq_true rfl) (Nat.le_of_ble_eq_true rfl) (Nat.le_of_ble_eq_true rfl) rfl (jK_J2_size J _ _ _ _ w) (fun v9 h5 k6 q9 => ?_)
    obtain ⟨r7, rfl, w⟩ := q9
    obtain ⟨hx9, hy9, w1, w2⟩ := w
    refine jr_icmp_ge (pc := 15) (tgt := 63) F hx9 hy9 dX10_heat_15 rfl (fun c9 => ?_) (fun c9 => ?_)
    · have w := w1 c9
      refine jr_iconst (pc := 63) F dX10_heat_63 ?_
      refine jr_istore_n (pc := 64) F (vs' := [(3, .inl _), (0, .inr (.inr (.inl _))), (1, .inl _), (2, .inl _)]) dX10_heat_64 (Nat.le_of_ble_eq_true rfl) rfl ?_
      refine jr_iload_n (pc := 65) F (j := 3) dX10_heat_65 rfl ?_
      refine jr_istore (pc := 66) F (vs' := [(4, .inl _), (3, .inl _), (0, .inr (.inr (.inl _))), (1, .inl _), (2, .inl _)]) dX10_heat_66 (Nat.le_of_ble_eq_true rfl) rfl ?_
      refine jj_J.sub [1, 0] rfl ?_
      obtain ⟨n9, w⟩ := w
      exact sC_X10_heat_l68 F M O J hi hQ hE n9 _ _ _ _ w
    · have w := w2 c9
      refine jr_iload_n (pc := 18) F (j := 2) dX10_heat_18 rfl ?_
      refine jr_aload_n (pc := 19) F (j := 0) dX10_heat_19 rfl ?_
      refine jr_gr (pc := 20) (ci := 8) (f := 2) F rfl in_X10 (Nat.le_of_ble_eq_true rfl) q1596 dX10_heat_20 w (fun g8 w => ?_)
      refine jr_iload_n (pc := 23) F (j := 3) dX10_heat_23 rfl ?_
      refine jr_aald (pc := 24) F ⟨7, _, fun _ => rfl⟩ dX10_heat_24 w (fun g9 w => ?_)
      refine jr_iload_n (pc := 25) F (j := 1) dX10_heat_25 rfl ?_
      obtain ⟨hi9, w⟩ := w
      refine jr_cV (pc := 26) (As := [_]) (ci := 6) F M (lw_V q1673 q1674 q1675 q179 q1676) dX10_heat_26 hC_X12_has rfl (Nat.le_of_ble_eq_true rfl) (Nat.le_of_ble_eq_true rfl) (Nat.le_of_ble_eq_true rfl) rfl hi9 (Nat.zero_le _) (cC_X12_has J w) (fun v9 h12 q9 => ?_) (fun E9 q9 h9 w9 => jr_out F M O (hE _ _ _ w9))
      obtain ⟨r11, rfl, w⟩ := q9
      obtain ⟨hx9, w1, w2⟩ := w
      refine jr_if_eq (pc := 29) (tgt := 54) F hx9 dX10_heat_29 rfl (fun c9 => ?_) (fun c9 => ?_)
      · have w := w1 c9
        refine jr_iconst (pc := 54) F dX10_heat_54 ?_
        refine jr_ior (pc := 55) F dX10_heat_55 ?_
        have w := w _ rfl
        refine jr_istore_n (pc := 56) F (vs' := [(2, .inl _), (0, .inr (.inr (.inl _))), (1, .inl _), (3, .inl _)]) dX10_heat_56 (Nat.le_of_ble_eq_true rfl) rfl ?_
        have w := w _ rfl
        refine jr_iinc (pc := 57) F (j := 3) (vs' := [(3, .inl _), (2, .inl _), (0, .inr (.inr (.inl _))), (1, .inl _)]) dX10_heat_57 rfl rfl (Nat.le_of_ble_eq_true rfl) rfl ?_
        refine jr_goto (pc := 60) (tgt := 4) F dX10_heat_60 rfl ?_
        refine jj_J.sub [2, 3, 1, 0] rfl ?_
        exact ih _ _ _ _ w
      · have w := w2 c9
        refine jr_iconst (pc := 32) F dX10_heat_32 ?_
        refine jr_aload_n (pc := 33) F (j := 0) dX10_heat_33 rfl ?_
        refine jr_gr (pc := 34) (ci := 8) (f := 0) F rfl in_X10 (Nat.le_of_ble_eq_true rfl) q1593 dX10_heat_34 w (fun g15 w => ?_)
        refine jr_grN (pc := 37) (ci := 2) (f := 1) F rfl in_X2 (Nat.le_of_ble_eq_true rfl) q594 dX10_heat_37 w (fun g16 w => ?_)
        refine jr_iload_n (pc := 40) F (j := 3) dX10_heat_40 rfl ?_
        refine jr_jV (pc := 41) (As := [_]) (ci := 14) F M (lw_V q680 q681 q682 q124 q683) dX10_heat_41 hj_J2_get rfl (Nat.le_of_ble_eq_true rfl) (Nat.le_of_ble_eq_true rfl) (Nat.le_of_ble_eq_true rfl) rfl (jK_J2_get J _ _ _ _ _ w) (fun v9 h17 k18 q9 => ?_)
        obtain ⟨r19, rfl, w⟩ := q9
        obtain ⟨hi9, w⟩ := w
        refine jr_cast (pc := 44) (ci := 4) F rfl q733 dX10_heat_44 hi9 ?_
        refine jr_giN (pc := 47) (ci := 4) (f := 0) F rfl in_X6 (Nat.le_of_ble_eq_true rfl) q2295 dX10_heat_47 w (fun g20 w => ?_)
        refine jr_ishl (pc := 50) F dX10_heat_50 ?_
        refine jr_goto (pc := 51) (tgt := 55) F dX10_heat_51 rfl ?_
        refine jr_ior (pc := 55) F dX10_heat_55 ?_
        have w := w _ rfl
        refine jr_istore_n (pc := 56) F (vs' := [(2, .inl _), (0, .inr (.inr (.inl _))), (1, .inl _), (3, .inl _)]) dX10_heat_56 (Nat.le_of_ble_eq_true rfl) rfl ?_
        have w := w _ rfl
        refine jr_iinc (pc := 57) F (j := 3) (vs' := [(3, .inl _), (2, .inl _), (0, .inr (.inr (.inl _))), (1, .inl _)]) dX10_heat_57 rfl rfl (Nat.le_of_ble_eq_true rfl) rfl ?_
        refine jr_goto (pc := 60) (tgt := 4) F dX10_heat_60 rfl ?_
        refine jj_J.sub [2, 3, 1, 0] rfl ?_
        exact ih _ _ _ _ w

theorem sC_X10_heat {X : jj_X} {N : Option jj_AV → jj_H → Prop} {XN : String → Nat → jj_H → Prop} (F : jj_F X RX10 cX10_heat 5) (M : jj_M X (some (.int)) 13 621 N XN) (O : jj_no X) (J : jj_GJ X.1 X.2.2.1) (hi : X.2.2.2.2.2.2.2.2.2.1.name = yX10_heat.name) {Q : Int → jj_H → Prop} {E : String → Nat → jj_H → Prop} (hQ : ∀ r h, Q r h → N (some (.inl r)) h) (hE : ∀ e q h, E e q h → XN e q h) (x0 : Option Nat) (x1 : Int) : ∀ (h : jj_H) (k : Nat), fC_X10_heat (jj_gk X.1) x0 x1 Q E h k → jj_J X 5 0 [(0, .inr (.inr (.inl x0))), (1, .inl x1)] [] h k := by
  intro h k w
  unfold fC_X10_heat at w
  refine jr_iconst (pc := 0) F dX10_heat_0 ?_
  refine jr_istore_n (pc := 1) F (vs' := [(2, .inl _), (0, .inr (.inr (.inl _))), (1, .inl _)]) dX10_heat_1 (Nat.le_of_ble_eq_true rfl) rfl ?_
  refine jr_iconst (pc := 2) F dX10_heat_2 ?_
  refine jr_istore_n (pc := 3) F (vs' := [(3, .inl _), (2, .inl _), (0, .inr (.inr (.inl _))), (1, .inl _)]) dX10_heat_3 (Nat.le_of_ble_eq_true rfl) rfl ?_
  refine jj_J.sub [2, 3, 1, 0] rfl ?_
  obtain ⟨n9, w⟩ := w
  exact sC_X10_heat_l4 F M O J hi hQ hE _ _ n9 _ _ _ _ w

theorem cC_X10_heat {G : jj_G} {l : Launch} (J : jj_GJ G l) {x0 : Option Nat} {x1 : Int} {Q : Int → jj_H → Prop} {E : String → Nat → jj_H → Prop} {h : jj_H} {k : Nat} (w : fC_X10_heat (jj_gk G) x0 x1 Q E h k) : jj_Ct G l yX10_heat (ws_ yX10_heat cX10_heat 5 (some (.int))) 13 621 [.inr (.inr (.inl x0)), .inl x1] h k (jc_i Q) E := by
  refine jj_Ct.of (jK_gs J).1 (by decide +kernel) (Nat.le_of_ble_eq_true rfl) rfl (fun X hG hl F M O hnm => ?_)
  subst hG; subst hl
  exact sC_X10_heat F M O J hnm (fun r h q => ⟨r, rfl, q⟩) (fun _ _ _ q => q) _ _ _ _ w
theorem hC_X10_heat : yX10_heat.cls = RX10 ∧ yX10_heat.cls ≠ "java/lang/invoke/MethodHandle" ∧ yX10_heat.cls ≠ "java/lang/invoke/VarHandle" ∧ (parseMethodDescriptor yX10_heat.desc).map (fun d => d.parameters.length) = some 1 := by decide +kernel
/-! X5_page(I)I -/
def fC_X5_page (gk : Nat → Nat) (x0 : Option Nat) (x1 : Int) (Q : Int → jj_H → Prop) (E : String → Nat → jj_H → Prop) (h : jj_H) (k : Nat) : Prop :=
  jp_gr h x0 3 4 (fun g1 =>
  jp_al h g1 0 x1 (fun g2 =>
  jp_gi h x0 3 3 (fun g3 =>
  (jj_r g3 ∧ g3 ≠ 0) ∧
  Q (jj_div g2 g3) h)))
theorem sC_X5_page {X : jj_X} {N : Option jj_AV → jj_H → Prop} {XN : String → Nat → jj_H → Prop} (F : jj_F X RX5 cX5_page 2) (M : jj_M X (some (.int)) 0 0 N XN) (O : jj_no X) (J : jj_GJ X.1 X.2.2.1) (hi : X.2.2.2.2.2.2.2.2.2.1.name = yX5_page.name) {Q : Int → jj_H → Prop} {E : String → Nat → jj_H → Prop} (hQ : ∀ r h, Q r h → N (some (.inl r)) h) (hE : ∀ e q h, E e q h → XN e q h) (x0 : Option Nat) (x1 : Int) : ∀ (h : jj_H) (k : Nat), fC_X5_page (jj_gk X.1) x0 x1 Q E h k → jj_J X 2 0 [(0, .inr (.inr (.inl x0))), (1, .inl x1)] [] h k := by
  intro h k w
  unfold fC_X5_page at w
  refine jr_aload_n (pc := 0) F (j := 0) dX5_page_0 rfl ?_
  refine jr_gr (pc := 1) (ci := 3) (f := 4) F rfl in_X5 (Nat.le_of_ble_eq_true rfl) q1871 dX5_page_1 w (fun g1 w => ?_)
  refine jr_iload_n (pc := 4) F (j := 1) dX5_page_4 rfl ?_
  refine jr_iald (pc := 5) F dX5_page_5 w (fun g2 w => ?_)
  refine jr_aload_n (pc := 6) F (j := 0) dX5_page_6 rfl ?_
  refine jr_gi (pc := 7) (ci := 3) (f := 3) F rfl in_X5 (Nat.le_of_ble_eq_true rfl) q1868 dX5_page_7 w (fun g3 w => ?_)
  obtain ⟨hd9, w⟩ := w
  refine jr_idiv (pc := 10) F dX5_page_10 hd9 ?_
  exact jr_iret (pc := 11) F M dX5_page_11 (hQ _ _ w)

theorem cC_X5_page {G : jj_G} {l : Launch} (J : jj_GJ G l) {x0 : Option Nat} {x1 : Int} {Q : Int → jj_H → Prop} {E : String → Nat → jj_H → Prop} {h : jj_H} {k : Nat} (w : fC_X5_page (jj_gk G) x0 x1 Q E h k) : jj_Ct G l yX5_page (ws_ yX5_page cX5_page 2 (some (.int))) 0 0 [.inr (.inr (.inl x0)), .inl x1] h k (jc_i Q) E := by
  refine jj_Ct.of (jK_gs J).1 (by decide +kernel) (Nat.le_of_ble_eq_true rfl) rfl (fun X hG hl F M O hnm => ?_)
  subst hG; subst hl
  exact sC_X5_page F M O J hnm (fun r h q => ⟨r, rfl, q⟩) (fun _ _ _ q => q) _ _ _ _ w
theorem hC_X5_page : yX5_page.cls = RX5 ∧ yX5_page.cls ≠ "java/lang/invoke/MethodHandle" ∧ yX5_page.cls ≠ "java/lang/invoke/VarHandle" ∧ (parseMethodDescriptor yX5_page.desc).map (fun d => d.parameters.length) = some 1 := by decide +kernel
/-! X5_last()I -/
def fC_X5_last (gk : Nat → Nat) (x0 : Option Nat) (Q : Int → jj_H → Prop) (E : String → Nat → jj_H → Prop) (h : jj_H) (k : Nat) : Prop :=
  jp_gr h x0 3 0 (fun g1 =>
  jq_J2_size g1 (fun r4 h2 k3 =>
  Q (r4 - 1) h2) h k)
theorem sC_X5_last {X : jj_X} {N : Option jj_AV → jj_H → Prop} {XN : String → Nat → jj_H → Prop} (F : jj_F X RX5 cX5_last 1) (M : jj_M X (some (.int)) 13 620 N XN) (O : jj_no X) (J : jj_GJ X.1 X.2.2.1) (hi : X.2.2.2.2.2.2.2.2.2.1.name = yX5_last.name) {Q : Int → jj_H → Prop} {E : String → Nat → jj_H → Prop} (hQ : ∀ r h, Q r h → N (some (.inl r)) h) (hE : ∀ e q h, E e q h → XN e q h) (x0 : Option Nat) : ∀ (h : jj_H) (k : Nat), fC_X5_last (jj_gk X.1) x0 Q E h k → jj_J X 1 0 [(0, .inr (.inr (.inl x0)))] [] h k := by
  intro h k w
  unfold fC_X5_last at w
  refine jr_aload_n (pc := 0) F (j := 0) dX5_last_0 rfl ?_
  refine jr_gr (pc := 1) (ci := 3) (f := 0) F rfl in_X5 (Nat.le_of_ble_eq_true rfl) q1861 dX5_last_1 w (fun g1 w => ?_)
  refine jr_jV (pc := 4) (As := []) (ci := 14) F M (lw_V q709 q676 q677 q124 q678) dX5_last_4 hj_J2_size rfl (Nat.le_of_ble_eq_true rfl) (Nat.le_of_ble_eq_true rfl) (Nat.le_of_ble_eq_true rfl) rfl (jK_J2_size J _ _ _ _ w) (fun v9 h2 k3 q9 => ?_)
  obtain ⟨r4, rfl, w⟩ := q9
  refine jr_iconst (pc := 7) F dX5_last_7 ?_
  refine jr_isub (pc := 8) F dX5_last_8 ?_
  exact jr_iret (pc := 9) F M dX5_last_9 (hQ _ _ w)

theorem cC_X5_last {G : jj_G} {l : Launch} (J : jj_GJ G l) {x0 : Option Nat} {Q : Int → jj_H → Prop} {E : String → Nat → jj_H → Prop} {h : jj_H} {k : Nat} (w : fC_X5_last (jj_gk G) x0 Q E h k) : jj_Ct G l yX5_last (ws_ yX5_last cX5_last 1 (some (.int))) 13 620 [.inr (.inr (.inl x0))] h k (jc_i Q) E := by
  refine jj_Ct.of (jK_gs J).1 (by decide +kernel) (Nat.le_of_ble_eq_true rfl) rfl (fun X hG hl F M O hnm => ?_)
  subst hG; subst hl
  exact sC_X5_last F M O J hnm (fun r h q => ⟨r, rfl, q⟩) (fun _ _ _ q => q) _ _ _ w
theorem hC_X5_last : yX5_last.cls = RX5 ∧ yX5_last.cls ≠ "java/lang/invoke/MethodHandle" ∧ yX5_last.cls ≠ "java/lang/invoke/VarHandle" ∧ (parseMethodDescriptor yX5_last.desc).map (fun d => d.parameters.length) = some 0 := by decide +kernel
/-! X5_lineCount()I -/
def fC_X5_lineCount (gk : Nat → Nat) (x0 : Option Nat) (Q : Int → jj_H → Prop) (E : String → Nat → jj_H → Prop) (h : jj_H) (k : Nat) : Prop :=
  jp_gr h x0 3 4 (fun g1 =>
  jp_is h x0 3 ∧ fC_X5_last gk x0 (fun r3 h4 =>
  jp_al h4 g1 0 r3 (fun g5 =>
  Q (g5 + 1) h4)) E h 0)
theorem sC_X5_lineCount {X : jj_X} {N : Option jj_AV → jj_H → Prop} {XN : String → Nat → jj_H → Prop} (F : jj_F X RX5 cX5_lineCount 1) (M : jj_M X (some (.int)) 14 640 N XN) (O : jj_no X) (J : jj_GJ X.1 X.2.2.1) (hi : X.2.2.2.2.2.2.2.2.2.1.name = yX5_lineCount.name) {Q : Int → jj_H → Prop} {E : String → Nat → jj_H → Prop} (hQ : ∀ r h, Q r h → N (some (.inl r)) h) (hE : ∀ e q h, E e q h → XN e q h) (x0 : Option Nat) : ∀ (h : jj_H) (k : Nat), fC_X5_lineCount (jj_gk X.1) x0 Q E h k → jj_J X 1 0 [(0, .inr (.inr (.inl x0)))] [] h k := by
  intro h k w
  unfold fC_X5_lineCount at w
  refine jr_aload_n (pc := 0) F (j := 0) dX5_lineCount_0 rfl ?_
  refine jr_gr (pc := 1) (ci := 3) (f := 4) F rfl in_X5 (Nat.le_of_ble_eq_true rfl) q1871 dX5_lineCount_1 w (fun g1 w => ?_)
  refine jr_aload_n (pc := 4) F (j := 0) dX5_lineCount_4 rfl ?_
  obtain ⟨hi9, w⟩ := w
  refine jr_cV (pc := 5) (As := []) (ci := 3) F M (lw_V q1660 q1661 q1662 q149 q1663) dX5_lineCount_5 hC_X5_last rfl (Nat.le_of_ble_eq_true rfl) (Nat.le_of_ble_eq_true rfl) (Nat.le_of_ble_eq_true rfl) rfl hi9 (Nat.zero_le _) (cC_X5_last J w) (fun v9 h4 q9 => ?_) (fun E9 q9 h9 w9 => jr_out F M O (hE _ _ _ w9))
  obtain ⟨r3, rfl, w⟩ := q9
  refine jr_iald (pc := 8) F dX5_lineCount_8 w (fun g5 w => ?_)
  refine jr_iconst (pc := 9) F dX5_lineCount_9 ?_
  refine jr_iadd (pc := 10) F dX5_lineCount_10 ?_
  exact jr_iret (pc := 11) F M dX5_lineCount_11 (hQ _ _ w)

theorem cC_X5_lineCount {G : jj_G} {l : Launch} (J : jj_GJ G l) {x0 : Option Nat} {Q : Int → jj_H → Prop} {E : String → Nat → jj_H → Prop} {h : jj_H} {k : Nat} (w : fC_X5_lineCount (jj_gk G) x0 Q E h k) : jj_Ct G l yX5_lineCount (ws_ yX5_lineCount cX5_lineCount 1 (some (.int))) 14 640 [.inr (.inr (.inl x0))] h k (jc_i Q) E := by
  refine jj_Ct.of (jK_gs J).1 (by decide +kernel) (Nat.le_of_ble_eq_true rfl) rfl (fun X hG hl F M O hnm => ?_)
  subst hG; subst hl
  exact sC_X5_lineCount F M O J hnm (fun r h q => ⟨r, rfl, q⟩) (fun _ _ _ q => q) _ _ _ w
theorem hC_X5_lineCount : yX5_lineCount.cls = RX5 ∧ yX5_lineCount.cls ≠ "java/lang/invoke/MethodHandle" ∧ yX5_lineCount.cls ≠ "java/lang/invoke/VarHandle" ∧ (parseMethodDescriptor yX5_lineCount.desc).map (fun d => d.parameters.length) = some 0 := by decide +kernel
/-! X5_pageCount()I -/
def fC_X5_pageCount (gk : Nat → Nat) (x0 : Option Nat) (Q : Int → jj_H → Prop) (E : String → Nat → jj_H → Prop) (h : jj_H) (k : Nat) : Prop :=
  jp_is h x0 3 ∧ fC_X5_lineCount gk x0 (fun r2 h3 =>
  jp_gi h3 x0 3 3 (fun g4 =>
  jp_gi h3 x0 3 3 (fun g5 =>
  (jj_r g5 ∧ g5 ≠ 0) ∧
  Q (jj_div ((r2 + g4) - 1) g5) h3))) E h 0
theorem sC_X5_pageCount {X : jj_X} {N : Option jj_AV → jj_H → Prop} {XN : String → Nat → jj_H → Prop} (F : jj_F X RX5 cX5_pageCount 1) (M : jj_M X (some (.int)) 15 660 N XN) (O : jj_no X) (J : jj_GJ X.1 X.2.2.1) (hi : X.2.2.2.2.2.2.2.2.2.1.name = yX5_pageCount.name) {Q : Int → jj_H → Prop} {E : String → Nat → jj_H → Prop} (hQ : ∀ r h, Q r h → N (some (.inl r)) h) (hE : ∀ e q h, E e q h → XN e q h) (x0 : Option Nat) : ∀ (h : jj_H) (k : Nat), fC_X5_pageCount (jj_gk X.1) x0 Q E h k → jj_J X 1 0 [(0, .inr (.inr (.inl x0)))] [] h k := by
  intro h k w
  unfold fC_X5_pageCount at w
  refine jr_aload_n (pc := 0) F (j := 0) dX5_pageCount_0 rfl ?_
  obtain ⟨hi9, w⟩ := w
  refine jr_cV (pc := 1) (As := []) (ci := 3) F M (lw_V q1656 q1657 q1658 q149 q1659) dX5_pageCount_1 hC_X5_lineCount rfl (Nat.le_of_ble_eq_true rfl) (Nat.le_of_ble_eq_true rfl) (Nat.le_of_ble_eq_true rfl) rfl hi9 (Nat.zero_le _) (cC_X5_lineCount J w) (fun v9 h3 q9 => ?_) (fun E9 q9 h9 w9 => jr_out F M O (hE _ _ _ w9))
  obtain ⟨r2, rfl, w⟩ := q9
  refine jr_aload_n (pc := 4) F (j := 0) dX5_pageCount_4 rfl ?_
  refine jr_gi (pc := 5) (ci := 3) (f := 3) F rfl in_X5 (Nat.le_of_ble_eq_true rfl) q1868 dX5_pageCount_5 w (fun g4 w => ?_)
  refine jr_iadd (pc := 8) F dX5_pageCount_8 ?_
  refine jr_iconst (pc := 9) F dX5_pageCount_9 ?_
  refine jr_isub (pc := 10) F dX5_pageCount_10 ?_
  refine jr_aload_n (pc := 11) F (j := 0) dX5_pageCount_11 rfl ?_
  refine jr_gi (pc := 12) (ci := 3) (f := 3) F rfl in_X5 (Nat.le_of_ble_eq_true rfl) q1868 dX5_pageCount_12 w (fun g5 w => ?_)
  obtain ⟨hd9, w⟩ := w
  refine jr_idiv (pc := 15) F dX5_pageCount_15 hd9 ?_
  exact jr_iret (pc := 16) F M dX5_pageCount_16 (hQ _ _ w)

theorem cC_X5_pageCount {G : jj_G} {l : Launch} (J : jj_GJ G l) {x0 : Option Nat} {Q : Int → jj_H → Prop} {E : String → Nat → jj_H → Prop} {h : jj_H} {k : Nat} (w : fC_X5_pageCount (jj_gk G) x0 Q E h k) : jj_Ct G l yX5_pageCount (ws_ yX5_pageCount cX5_pageCount 1 (some (.int))) 15 660 [.inr (.inr (.inl x0))] h k (jc_i Q) E := by
  refine jj_Ct.of (jK_gs J).1 (by decide +kernel) (Nat.le_of_ble_eq_true rfl) rfl (fun X hG hl F M O hnm => ?_)
  subst hG; subst hl
  exact sC_X5_pageCount F M O J hnm (fun r h q => ⟨r, rfl, q⟩) (fun _ _ _ q => q) _ _ _ w
theorem hC_X5_pageCount : yX5_pageCount.cls = RX5 ∧ yX5_pageCount.cls ≠ "java/lang/invoke/MethodHandle" ∧ yX5_pageCount.cls ≠ "java/lang/invoke/VarHandle" ∧ (parseMethodDescriptor yX5_pageCount.desc).map (fun d => d.parameters.length) = some 0 := by decide +kernel
/-! X1_hottestPage()I -/
def fC_X1_hottestPage_l69 (gk : Nat → Nat) (x2 : Option Nat) (Q : Int → jj_H → Prop) (E : String → Nat → jj_H → Prop) : Nat → Int → Int → jj_H → Nat → Prop
  | 0, _, _, _, _ => False
  | n + 1, x3, x4, h, k =>
  jp_ai h x2 0 (fun g1 =>
  jj_r x4 ∧ jj_r g1 ∧ (g1 ≤ x4 → (
    Q x3 h)) ∧
  (¬ g1 ≤ x4 → (
    jp_al h x2 0 x4 (fun g2 =>
    jp_al h x2 0 x3 (fun g3 =>
    jj_r g2 ∧ jj_r g3 ∧ (g2 ≤ g3 → (
      ∀ v4, v4 = x4 + 1 →
      fC_X1_hottestPage_l69 gk x2 Q E n x3 v4 h k)) ∧
    (¬ g2 ≤ g3 → (
      ∀ v5, v5 = x4 + 1 →
      fC_X1_hottestPage_l69 gk x2 Q E n x4 v5 h k)))))))
def fC_X1_hottestPage_l32 (gk : Nat → Nat) (x0 : Option Nat) (x1 : Option Nat) (x2 : Option Nat) (Q : Int → jj_H → Prop) (E : String → Nat → jj_H → Prop) : Nat → Int → jj_H → Nat → Prop
  | 0, _, _, _ => False
  | n + 1, x3, h, k =>
  jp_is h x1 3 ∧ fC_X5_size gk x1 (fun r7 h8 =>
  jj_r x3 ∧ jj_r r7 ∧ (r7 ≤ x3 → (
    ∃ n9, fC_X1_hottestPage_l69 gk x2 Q E n9 0 1 h8 k)) ∧
  (¬ r7 ≤ x3 → (
    jp_is h8 x1 3 ∧ fC_X5_page gk x1 x3 (fun r10 h11 =>
    jp_al h11 x2 0 r10 (fun g12 =>
    jp_is h11 x0 1 ∧ ∃ c13, c13 ≤ k ∧ fC_X1_view gk x0 (fun r14 h15 =>
    jp_is h15 r14 8 ∧ fC_X10_heat gk r14 x3 (fun r17 h18 =>
    jp_as h18 x2 0 r10 (g12 + r17) (fun h19 =>
    ∀ v20, v20 = x3 + 1 →
    fC_X1_hottestPage_l32 gk x0 x1 x2 Q E n v20 h19 (k - c13))) E h15 0) E h11 c13)) E h8 0))) E h 0
def fC_X1_hottestPage (gk : Nat → Nat) (x0 : Option Nat) (Q : Int → jj_H → Prop) (E : String → Nat → jj_H → Prop) (h : jj_H) (k : Nat) : Prop :=
  jp_gr h x0 1 0 (fun g21 =>
  jp_gr h g21 2 0 (fun g22 =>
  jq_J2_isEmpty g22 (fun r25 h23 k24 =>
  jj_r r25 ∧ (r25 = 0 → (
    jp_gr h23 x0 1 0 (fun g26 =>
    jp_is h23 g26 2 ∧ fC_X2_aim gk g26 (fun r28 h29 =>
    jp_is h29 r28 3 ∧ fC_X5_pageCount gk r28 (fun r31 h32 =>
    jp_ni h32 k24 0 r31 (fun a33 h34 k35 =>
    ∃ n9, fC_X1_hottestPage_l32 gk x0 r28 (some a33) Q E n9 0 h34 k35)) E h29 0) E h23 0))) ∧
  (¬ r25 = 0 → (
    Q (-1) h23))) h k))
theorem sC_X1_hottestPage_l69 {X : jj_X} {N : Option jj_AV → jj_H → Prop} {XN : String → Nat → jj_H → Prop} (F : jj_F X RX1 cX1_hottestPage 5) (M : jj_M X (some (.int)) 18 739 N XN) (O : jj_no X) (J : jj_GJ X.1 X.2.2.1) (hi : X.2.2.2.2.2.2.2.2.2.1.name = yX1_hottestPage.name) {Q : Int → jj_H → Prop} {E : String → Nat → jj_H → Prop} (hQ : ∀ r h, Q r h → N (some (.inl r)) h) (hE : ∀ e q h, E e q h → XN e q h) (x2 : Option Nat) : ∀ (n : Nat) (x3 : Int) (x4 : Int) (h : jj_H) (k : Nat), fC_X1_hottestPage_l69 (jj_gk X.1) x2 Q E n x3 x4 h k → jj_J X 5 69 [(2, .inr (.inr (.inl x2))), (3, .inl x3), (4, .inl x4)] [] h k := by
  intro n
  induction n with
  | zero =>
    intro x3 x4 h k w
    exact (show False from w).elim
  | succ n ih =>
    intro x3 x4 h k w
    rw [fC_X1_hottestPage_l69] at w
    refine jr_iload (pc := 69) F (j := 2) dX1_hottestPage_69 rfl ?_
    refine jr_aload_n (pc := 71) F (j := 0) dX1_hottestPage_71 rfl ?_
    refine jr_alenI (pc := 72) F ⟨0, _, fun _ => rfl⟩ dX1_hottestPage_72 w (fun g1 w => ?_)
    obtain ⟨hx9, hy9, w1, w2⟩ := w
    refine jr_icmp_ge (pc := 73) (tgt := 99) F hx9 hy9 dX1_hottestPage_73 rfl (fun c9 => ?_) (fun c9 => ?_)
    · have w := w1 c9
      refine jr_iload_n (pc := 99) F (j := 1) dX1_hottestPage_99 rfl ?_
      exact jr_iret (pc := 100) F M dX1_hottestPage_100 (hQ _ _ w)
    · have w := w2 c9
      refine jr_aload_n (pc := 76) F (j := 0) dX1_hottestPage_76 rfl ?_
      refine jr_iload (pc := 77) F (j := 2) dX1_hottestPage_77 rfl ?_
      refine jr_iald (pc := 79) F dX1_hottestPage_79 w (fun g2 w => ?_)
      refine jr_aload_n (pc := 80) F (j := 0) dX1_hottestPage_80 rfl ?_
      refine jr_iload_n (pc := 81) F (j := 1) dX1_hottestPage_81 rfl ?_
      refine jr_iald (pc := 82) F dX1_hottestPage_82 w (fun g3 w => ?_)
      obtain ⟨hx9, hy9, w1, w2⟩ := w
      refine jr_icmp_le (pc := 83) (tgt := 91) F hx9 hy9 dX1_hottestPage_83 rfl (fun c9 => ?_) (fun c9 => ?_)
      · have w := w1 c9
        refine jr_iload_n (pc := 91) F (j := 1) dX1_hottestPage_91 rfl ?_
        refine jr_istore_n (pc := 92) F (vs' := [(3, .inl _), (2, .inr (.inr (.inl _))), (4, .inl _)]) dX1_hottestPage_92 (Nat.le_of_ble_eq_true rfl) rfl ?_
        have w := w _ rfl
        refine jr_iinc (pc := 93) F (j := 2) (vs' := [(4, .inl _), (3, .inl _), (2, .inr (.inr (.inl _)))]) dX1_hottestPage_93 rfl rfl (Nat.le_of_ble_eq_true rfl) rfl ?_
        refine jr_goto (pc := 96) (tgt := 69) F dX1_hottestPage_96 rfl ?_
        refine jj_J.sub [2, 1, 0] rfl ?_
        exact ih _ _ _ _ w
      · have w := w2 c9
        refine jr_iload (pc := 86) F (j := 2) dX1_hottestPage_86 rfl ?_
        refine jr_goto (pc := 88) (tgt := 92) F dX1_hottestPage_88 rfl ?_
        refine jr_istore_n (pc := 92) F (vs' := [(3, .inl _), (2, .inr (.inr (.inl _))), (4, .inl _)]) dX1_hottestPage_92 (Nat.le_of_ble_eq_true rfl) rfl ?_
        have w := w _ rfl
        refine jr_iinc (pc := 93) F (j := 2) (vs' := [(4, .inl _), (3, .inl _), (2, .inr (.inr (.inl _)))]) dX1_hottestPage_93 rfl rfl (Nat.le_of_ble_eq_true rfl) rfl ?_
        refine jr_goto (pc := 96) (tgt := 69) F dX1_hottestPage_96 rfl ?_
        refine jj_J.sub [2, 1, 0] rfl ?_
        exact ih _ _ _ _ w

theorem sC_X1_hottestPage_l32 {X : jj_X} {N : Option jj_AV → jj_H → Prop} {XN : String → Nat → jj_H → Prop} (F : jj_F X RX1 cX1_hottestPage 5) (M : jj_M X (some (.int)) 18 739 N XN) (O : jj_no X) (J : jj_GJ X.1 X.2.2.1) (hi : X.2.2.2.2.2.2.2.2.2.1.name = yX1_hottestPage.name) {Q : Int → jj_H → Prop} {E : String → Nat → jj_H → Prop} (hQ : ∀ r h, Q r h → N (some (.inl r)) h) (hE : ∀ e q h, E e q h → XN e q h) (x0 : Option Nat) (x1 : Option Nat) (x2 : Option Nat) : ∀ (n : Nat) (x3 : Int) (h : jj_H) (k : Nat), fC_X1_hottestPage_l32 (jj_gk X.1) x0 x1 x2 Q E n x3 h k → jj_J X 5 32 [(0, .inr (.inr (.inl x0))), (1, .inr (.inr (.inl x1))), (2, .inr (.inr (.inl x2))), (3, .inl x3)] [] h k := by
  intro n
  induction n with
  | zero =>
    intro x3 h k w
    exact (show False from w).elim
  | succ n ih =>
    intro x3 h k w
    rw [fC_X1_hottestPage_l32] at w
    refine jr_iload_n (pc := 32) F (j := 3) dX1_hottestPage_32 rfl ?_
    refine jr_aload_n (pc := 33) F (j := 1) dX1_hottestPage_33 rfl ?_
    obtain ⟨hi9, w⟩ := w
    refine jr_cV (pc := 34) (As := []) (ci := 3) F M (lw_V q1664 q706 q707 q149 q708) dX1_hottestPage_34 hC_X5_size rfl (Nat.le_of_ble_eq_true rfl) (Nat.le_of_ble_eq_true rfl) (Nat.le_of_ble_eq_true rfl) rfl hi9 (Nat.zero_le _) (cC_X5_size J w) (fun v9 h8 q9 => ?_) (fun E9 q9 h9 w9 => jr_out F M O (hE _ _ _ w9))
    obtain ⟨r7, rfl, w⟩ := q9
    obtain ⟨hx9, hy9, w1, w2⟩ := w
    refine jr_icmp_ge (pc := 37) (tgt := 64) F hx9 hy9 dX1_hottestPage_37 rfl (fun c9 => ?_) (fun c9 => ?_)
    · have w := w1 c9
      refine jr_iconst (pc := 64) F dX1_hottestPage_64 ?_
      refine jr_istore_n (pc := 65) F (vs' := [(3, .inl _), (0, .inr (.inr (.inl _))), (1, .inr (.inr (.inl _))), (2, .inr (.inr (.inl _)))]) dX1_hottestPage_65 (Nat.le_of_ble_eq_true rfl) rfl ?_
      refine jr_iconst (pc := 66) F dX1_hottestPage_66 ?_
      refine jr_istore (pc := 67) F (vs' := [(4, .inl _), (3, .inl _), (0, .inr (.inr (.inl _))), (1, .inr (.inr (.inl _))), (2, .inr (.inr (.inl _)))]) dX1_hottestPage_67 (Nat.le_of_ble_eq_true rfl) rfl ?_
      refine jj_J.sub [4, 1, 0] rfl ?_
      obtain ⟨n9, w⟩ := w
      exact sC_X1_hottestPage_l69 F M O J hi hQ hE _ n9 _ _ _ _ w
    · have w := w2 c9
      refine jr_aload_n (pc := 40) F (j := 2) dX1_hottestPage_40 rfl ?_
      refine jr_aload_n (pc := 41) F (j := 1) dX1_hottestPage_41 rfl ?_
      refine jr_iload_n (pc := 42) F (j := 3) dX1_hottestPage_42 rfl ?_
      obtain ⟨hi9, w⟩ := w
      refine jr_cV (pc := 43) (As := [_]) (ci := 3) F M (lw_V q1665 q1666 q1667 q149 q1668) dX1_hottestPage_43 hC_X5_page rfl (Nat.le_of_ble_eq_true rfl) (Nat.le_of_ble_eq_true rfl) (Nat.le_of_ble_eq_true rfl) rfl hi9 (Nat.zero_le _) (cC_X5_page J w) (fun v9 h11 q9 => ?_) (fun E9 q9 h9 w9 => jr_out F M O (hE _ _ _ w9))
      obtain ⟨r10, rfl, w⟩ := q9
      refine jr_dup2 (pc := 46) F dX1_hottestPage_46 rfl rfl ?_
      refine jr_iald (pc := 47) F dX1_hottestPage_47 w (fun g12 w => ?_)
      refine jr_aload_n (pc := 48) F (j := 0) dX1_hottestPage_48 rfl ?_
      obtain ⟨hi9, c13, hk9, w⟩ := w
      refine jr_cV (pc := 49) (As := []) (ci := 1) F M (lw_V q659 q661 qs1 q120 q662) dX1_hottestPage_49 hC_X1_view rfl (Nat.le_of_ble_eq_true rfl) (Nat.le_of_ble_eq_true rfl) (Nat.le_of_ble_eq_true rfl) rfl hi9 hk9 (cC_X1_view J w) (fun v9 h15 q9 => ?_) (fun E9 q9 h9 w9 => jr_out F M O (hE _ _ _ w9))
      obtain ⟨r14, rfl, w⟩ := q9
      refine jr_iload_n (pc := 52) F (j := 3) dX1_hottestPage_52 rfl ?_
      obtain ⟨hi9, w⟩ := w
      refine jr_cV (pc := 53) (As := [_]) (ci := 8) F M (lw_V q1669 q1670 q1671 q177 q1672) dX1_hottestPage_53 hC_X10_heat rfl (Nat.le_of_ble_eq_true rfl) (Nat.le_of_ble_eq_true rfl) (Nat.le_of_ble_eq_true rfl) rfl hi9 (Nat.zero_le _) (cC_X10_heat J w) (fun v9 h18 q9 => ?_) (fun E9 q9 h9 w9 => jr_out F M O (hE _ _ _ w9))
      obtain ⟨r17, rfl, w⟩ := q9
      refine jr_iadd (pc := 56) F dX1_hottestPage_56 ?_
      refine jr_iast (pc := 57) F dX1_hottestPage_57 w (fun h19 w => ?_)
      have w := w _ rfl
      refine jr_iinc (pc := 58) F (j := 3) (vs' := [(3, .inl _), (0, .inr (.inr (.inl _))), (1, .inr (.inr (.inl _))), (2, .inr (.inr (.inl _)))]) dX1_hottestPage_58 rfl rfl (Nat.le_of_ble_eq_true rfl) rfl ?_
      refine jr_goto (pc := 61) (tgt := 32) F dX1_hottestPage_61 rfl ?_
      refine jj_J.sub [1, 2, 3, 0] rfl ?_
      exact ih _ _ _ w

theorem sC_X1_hottestPage {X : jj_X} {N : Option jj_AV → jj_H → Prop} {XN : String → Nat → jj_H → Prop} (F : jj_F X RX1 cX1_hottestPage 5) (M : jj_M X (some (.int)) 18 739 N XN) (O : jj_no X) (J : jj_GJ X.1 X.2.2.1) (hi : X.2.2.2.2.2.2.2.2.2.1.name = yX1_hottestPage.name) {Q : Int → jj_H → Prop} {E : String → Nat → jj_H → Prop} (hQ : ∀ r h, Q r h → N (some (.inl r)) h) (hE : ∀ e q h, E e q h → XN e q h) (x0 : Option Nat) : ∀ (h : jj_H) (k : Nat), fC_X1_hottestPage (jj_gk X.1) x0 Q E h k → jj_J X 5 0 [(0, .inr (.inr (.inl x0)))] [] h k := by
  intro h k w
  unfold fC_X1_hottestPage at w
  refine jr_aload_n (pc := 0) F (j := 0) dX1_hottestPage_0 rfl ?_
  refine jr_gr (pc := 1) (ci := 1) (f := 0) F rfl in_X1 (Nat.le_of_ble_eq_true rfl) q625 dX1_hottestPage_1 w (fun g21 w => ?_)
  refine jr_grN (pc := 4) (ci := 2) (f := 0) F rfl in_X2 (Nat.le_of_ble_eq_true rfl) q591 dX1_hottestPage_4 w (fun g22 w => ?_)
  refine jr_jV (pc := 7) (As := []) (ci := 14) F M (lw_V q655 q656 q657 q124 q658) dX1_hottestPage_7 hj_J2_isEmpty rfl (Nat.le_of_ble_eq_true rfl) (Nat.le_of_ble_eq_true rfl) (Nat.le_of_ble_eq_true rfl) rfl (jK_J2_isEmpty J _ _ _ _ w) (fun v9 h23 k24 q9 => ?_)
  obtain ⟨r25, rfl, w⟩ := q9
  obtain ⟨hx9, w1, w2⟩ := w
  refine jr_if_eq (pc := 10) (tgt := 15) F hx9 dX1_hottestPage_10 rfl (fun c9 => ?_) (fun c9 => ?_)
  · have w := w1 c9
    refine jr_aload_n (pc := 15) F (j := 0) dX1_hottestPage_15 rfl ?_
    refine jr_gr (pc := 16) (ci := 1) (f := 0) F rfl in_X1 (Nat.le_of_ble_eq_true rfl) q625 dX1_hottestPage_16 w (fun g26 w => ?_)
    obtain ⟨hi9, w⟩ := w
    refine jr_cV (pc := 19) (As := []) (ci := 2) F M (lw_V q1651 q696 q697 q121 q698) dX1_hottestPage_19 hC_X2_aim rfl (Nat.le_of_ble_eq_true rfl) (Nat.le_of_ble_eq_true rfl) (Nat.le_of_ble_eq_true rfl) rfl hi9 (Nat.zero_le _) (cC_X2_aim J w) (fun v9 h29 q9 => ?_) (fun E9 q9 h9 w9 => jr_out F M O (hE _ _ _ w9))
    obtain ⟨r28, rfl, w⟩ := q9
    refine jr_astore_n (pc := 22) F (vs' := [(1, .inr (.inr (.inl _))), (0, .inr (.inr (.inl _)))]) dX1_hottestPage_22 (Nat.le_of_ble_eq_true rfl) rfl ?_
    refine jr_aload_n (pc := 23) F (j := 0) dX1_hottestPage_23 rfl ?_
    obtain ⟨hi9, w⟩ := w
    refine jr_cV (pc := 24) (As := []) (ci := 3) F M (lw_V q1652 q1653 q1654 q149 q1655) dX1_hottestPage_24 hC_X5_pageCount rfl (Nat.le_of_ble_eq_true rfl) (Nat.le_of_ble_eq_true rfl) (Nat.le_of_ble_eq_true rfl) rfl hi9 (Nat.zero_le _) (cC_X5_pageCount J w) (fun v9 h32 q9 => ?_) (fun E9 q9 h9 w9 => jr_out F M O (hE _ _ _ w9))
    obtain ⟨r31, rfl, w⟩ := q9
    refine jr_newI (pc := 27) F q731 dX1_hottestPage_27 w (fun a33 h34 k35 w => ?_)
    refine jr_astore_n (pc := 29) F (vs' := [(2, .inr (.inr (.inl _))), (1, .inr (.inr (.inl _))), (0, .inr (.inr (.inl _)))]) dX1_hottestPage_29 (Nat.le_of_ble_eq_true rfl) rfl ?_
    refine jr_iconst (pc := 30) F dX1_hottestPage_30 ?_
    refine jr_istore_n (pc := 31) F (vs' := [(3, .inl _), (2, .inr (.inr (.inl _))), (1, .inr (.inr (.inl _))), (0, .inr (.inr (.inl _)))]) dX1_hottestPage_31 (Nat.le_of_ble_eq_true rfl) rfl ?_
    refine jj_J.sub [3, 2, 1, 0] rfl ?_
    obtain ⟨n9, w⟩ := w
    exact sC_X1_hottestPage_l32 F M O J hi hQ hE _ _ _ n9 _ _ _ w
  · have w := w2 c9
    refine jr_iconst (pc := 13) F dX1_hottestPage_13 ?_
    exact jr_iret (pc := 14) F M dX1_hottestPage_14 (hQ _ _ w)

theorem cC_X1_hottestPage {G : jj_G} {l : Launch} (J : jj_GJ G l) {x0 : Option Nat} {Q : Int → jj_H → Prop} {E : String → Nat → jj_H → Prop} {h : jj_H} {k : Nat} (w : fC_X1_hottestPage (jj_gk G) x0 Q E h k) : jj_Ct G l yX1_hottestPage (ws_ yX1_hottestPage cX1_hottestPage 5 (some (.int))) 18 739 [.inr (.inr (.inl x0))] h k (jc_i Q) E := by
  refine jj_Ct.of (jK_gs J).1 (by decide +kernel) (Nat.le_of_ble_eq_true rfl) rfl (fun X hG hl F M O hnm => ?_)
  subst hG; subst hl
  exact sC_X1_hottestPage F M O J hnm (fun r h q => ⟨r, rfl, q⟩) (fun _ _ _ q => q) _ _ _ w
theorem hC_X1_hottestPage : yX1_hottestPage.cls = RX1 ∧ yX1_hottestPage.cls ≠ "java/lang/invoke/MethodHandle" ∧ yX1_hottestPage.cls ≠ "java/lang/invoke/VarHandle" ∧ (parseMethodDescriptor yX1_hottestPage.desc).map (fun d => d.parameters.length) = some 0 := by decide +kernel
/-! X10_free([IIII)I -/
def fC_X10_free_l17 (gk : Nat → Nat) (x0 : Option Nat) (x2 : Int) (x3 : Int) (x4 : Int) (K3 : Int → jj_H → Nat → Prop) (Q : Int → jj_H → Prop) (E : String → Nat → jj_H → Prop) : Nat → Int → Int → jj_H → Nat → Prop
  | 0, _, _, _, _ => False
  | n + 1, x5, x6, h, k =>
  jj_r x6 ∧ jj_r x2 ∧ (x2 ≤ x6 → (
    jj_r x5 ∧ (x5 = 0 → (
      ∀ v1, v1 = x4 + 1 →
      K3 v1 h k)) ∧
    (¬ x5 = 0 → (
      Q x4 h)))) ∧
  (¬ x2 ≤ x6 → (
    jp_al h x0 0 (x4 + x6) (fun g2 =>
    jj_r g2 ∧ (¬ g2 = (-1) → (
      ∀ v3, v3 = jj_and x5 0 →
      ∀ v4, v4 = x6 + 1 →
      fC_X10_free_l17 gk x0 x2 x3 x4 K3 Q E n v3 v4 h k)) ∧
    (g2 = (-1) → (
      ∀ v5, v5 = jj_and x5 1 →
      ∀ v6, v6 = x6 + 1 →
      fC_X10_free_l17 gk x0 x2 x3 x4 K3 Q E n v5 v6 h k)))))
def fC_X10_free_l3 (gk : Nat → Nat) (x0 : Option Nat) (x2 : Int) (x3 : Int) (Q : Int → jj_H → Prop) (E : String → Nat → jj_H → Prop) : Nat → Int → jj_H → Nat → Prop
  | 0, _, _, _ => False
  | n + 1, x4, h, k =>
  jj_r (x4 + x2) ∧ jj_r x3 ∧ (x3 < (x4 + x2) → (
    Q (-1) h)) ∧
  (¬ x3 < (x4 + x2) → (
    ∃ n9, fC_X10_free_l17 gk x0 x2 x3 x4 (fC_X10_free_l3 gk x0 x2 x3 Q E n) Q E n9 1 0 h k))
def fC_X10_free (gk : Nat → Nat) (x0 : Option Nat) (x1 : Int) (x2 : Int) (x3 : Int) (Q : Int → jj_H → Prop) (E : String → Nat → jj_H → Prop) (h : jj_H) (k : Nat) : Prop :=
  ∃ n9, fC_X10_free_l3 gk x0 x2 x3 Q E n9 x1 h k
theorem sC_X10_free_l17 {X : jj_X} {N : Option jj_AV → jj_H → Prop} {XN : String → Nat → jj_H → Prop} (F : jj_F X RX10 cX10_free 7) (M : jj_M X (some (.int)) 0 0 N XN) (O : jj_no X) (J : jj_GJ X.1 X.2.2.1) (hi : X.2.2.2.2.2.2.2.2.2.1.name = yX10_free.name) {Q : Int → jj_H → Prop} {E : String → Nat → jj_H → Prop} (hQ : ∀ r h, Q r h → N (some (.inl r)) h) (hE : ∀ e q h, E e q h → XN e q h) (x0 : Option Nat) (x2 : Int) (x3 : Int) (x4 : Int) {K3 : Int → jj_H → Nat → Prop} (hK3 : ∀ (z4 : Int) (h : jj_H) (k : Nat), K3 z4 h k → jj_J X 7 3 [(0, .inr (.inr (.inl x0))), (2, .inl x2), (3, .inl x3), (4, .inl z4)] [] h k) : ∀ (n : Nat) (x5 : Int) (x6 : Int) (h : jj_H) (k : Nat), fC_X10_free_l17 (jj_gk X.1) x0 x2 x3 x4 K3 Q E n x5 x6 h k → jj_J X 7 17 [(0, .inr (.inr (.inl x0))), (2, .inl x2), (3, .inl x3), (4, .inl x4), (5, .inl x5), (6, .inl x6)] [] h k := by
  intro n
  induction n with
  | zero =>
    intro x5 x6 h k w
    exact (show False from w).elim
  | succ n ih =>
    intro x5 x6 h k w
    rw [fC_X10_free_l17] at w
    refine jr_iload (pc := 17) F (j := 5) dX10_free_17 rfl ?_
    refine jr_iload_n (pc := 19) F (j := 1) dX10_free_19 rfl ?_
    obtain ⟨hx9, hy9, w1, w2⟩ := w
    refine jr_icmp_ge (pc := 20) (tgt := 50) F hx9 hy9 dX10_free_20 rfl (fun c9 => ?_) (fun c9 => ?_)
    · have w := w1 c9
      refine jr_iload (pc := 50) F (j := 4) dX10_free_50 rfl ?_
      obtain ⟨hx9, w1, w2⟩ := w
      refine jr_if_eq (pc := 52) (tgt := 58) F hx9 dX10_free_52 rfl (fun c9 => ?_) (fun c9 => ?_)
      · have w := w1 c9
        have w := w _ rfl
        refine jr_iinc (pc := 58) F (j := 3) (vs' := [(4, .inl _), (0, .inr (.inr (.inl _))), (2, .inl _), (3, .inl _), (5, .inl _), (6, .inl _)]) dX10_free_58 rfl rfl (Nat.le_of_ble_eq_true rfl) rfl ?_
        refine jr_goto (pc := 61) (tgt := 3) F dX10_free_61 rfl ?_
        refine jj_J.sub [1, 2, 3, 0] rfl ?_
        exact hK3 _ _ _ w
      · have w := w2 c9
        refine jr_iload (pc := 55) F (j := 3) dX10_free_55 rfl ?_
        exact jr_iret (pc := 57) F M dX10_free_57 (hQ _ _ w)
    · have w := w2 c9
      refine jr_iload (pc := 23) F (j := 4) dX10_free_23 rfl ?_
      refine jr_aload_n (pc := 25) F (j := 0) dX10_free_25 rfl ?_
      refine jr_iload (pc := 26) F (j := 3) dX10_free_26 rfl ?_
      refine jr_iload (pc := 28) F (j := 5) dX10_free_28 rfl ?_
      refine jr_iadd (pc := 30) F dX10_free_30 ?_
      refine jr_iald (pc := 31) F dX10_free_31 w (fun g2 w => ?_)
      refine jr_iconst (pc := 32) F dX10_free_32 ?_
      obtain ⟨hx9, w1, w2⟩ := w
      refine jr_icmp_ne (pc := 33) (tgt := 40) F hx9 ⟨by decide, by decide⟩ dX10_free_33 rfl (fun c9 => ?_) (fun c9 => ?_)
      · have w := w1 c9
        refine jr_iconst (pc := 40) F dX10_free_40 ?_
        refine jr_iand (pc := 41) F dX10_free_41 ?_
        have w := w _ rfl
        refine jr_istore (pc := 42) F (vs' := [(5, .inl _), (0, .inr (.inr (.inl _))), (2, .inl _), (3, .inl _), (4, .inl _), (6, .inl _)]) dX10_free_42 (Nat.le_of_ble_eq_true rfl) rfl ?_
        have w := w _ rfl
        refine jr_iinc (pc := 44) F (j := 5) (vs' := [(6, .inl _), (5, .inl _), (0, .inr (.inr (.inl _))), (2, .inl _), (3, .inl _), (4, .inl _)]) dX10_free_44 rfl rfl (Nat.le_of_ble_eq_true rfl) rfl ?_
        refine jr_goto (pc := 47) (tgt := 17) F dX10_free_47 rfl ?_
        refine jj_J.sub [2, 3, 4, 5, 1, 0] rfl ?_
        exact ih _ _ _ _ w
      · have w := w2 c9
        refine jr_iconst (pc := 36) F dX10_free_36 ?_
        refine jr_goto (pc := 37) (tgt := 41) F dX10_free_37 rfl ?_
        refine jr_iand (pc := 41) F dX10_free_41 ?_
        have w := w _ rfl
        refine jr_istore (pc := 42) F (vs' := [(5, .inl _), (0, .inr (.inr (.inl _))), (2, .inl _), (3, .inl _), (4, .inl _), (6, .inl _)]) dX10_free_42 (Nat.le_of_ble_eq_true rfl) rfl ?_
        have w := w _ rfl
        refine jr_iinc (pc := 44) F (j := 5) (vs' := [(6, .inl _), (5, .inl _), (0, .inr (.inr (.inl _))), (2, .inl _), (3, .inl _), (4, .inl _)]) dX10_free_44 rfl rfl (Nat.le_of_ble_eq_true rfl) rfl ?_
        refine jr_goto (pc := 47) (tgt := 17) F dX10_free_47 rfl ?_
        refine jj_J.sub [2, 3, 4, 5, 1, 0] rfl ?_
        exact ih _ _ _ _ w

theorem sC_X10_free_l3 {X : jj_X} {N : Option jj_AV → jj_H → Prop} {XN : String → Nat → jj_H → Prop} (F : jj_F X RX10 cX10_free 7) (M : jj_M X (some (.int)) 0 0 N XN) (O : jj_no X) (J : jj_GJ X.1 X.2.2.1) (hi : X.2.2.2.2.2.2.2.2.2.1.name = yX10_free.name) {Q : Int → jj_H → Prop} {E : String → Nat → jj_H → Prop} (hQ : ∀ r h, Q r h → N (some (.inl r)) h) (hE : ∀ e q h, E e q h → XN e q h) (x0 : Option Nat) (x2 : Int) (x3 : Int) : ∀ (n : Nat) (x4 : Int) (h : jj_H) (k : Nat), fC_X10_free_l3 (jj_gk X.1) x0 x2 x3 Q E n x4 h k → jj_J X 7 3 [(0, .inr (.inr (.inl x0))), (2, .inl x2), (3, .inl x3), (4, .inl x4)] [] h k := by
  intro n
  induction n with
  | zero =>
    intro x4 h k w
    exact (show False from w).elim
  | succ n ih =>
    intro x4 h k w
    rw [fC_X10_free_l3] at w
    refine jr_iload (pc := 3) F (j := 3) dX10_free_3 rfl ?_
    refine jr_iload_n (pc := 5) F (j := 1) dX10_free_5 rfl ?_
    refine jr_iadd (pc := 6) F dX10_free_6 ?_
    refine jr_iload_n (pc := 7) F (j := 2) dX10_free_7 rfl ?_
    obtain ⟨hx9, hy9, w1, w2⟩ := w
    refine jr_icmp_gt (pc := 8) (tgt := 64) F hx9 hy9 dX10_free_8 rfl (fun c9 => ?_) (fun c9 => ?_)
    · have w := w1 c9
      refine jr_iconst (pc := 64) F dX10_free_64 ?_
      exact jr_iret (pc := 65) F M dX10_free_65 (hQ _ _ w)
    · have w := w2 c9
      refine jr_iconst (pc := 11) F dX10_free_11 ?_
      refine jr_istore (pc := 12) F (vs' := [(5, .inl _), (0, .inr (.inr (.inl _))), (2, .inl _), (3, .inl _), (4, .inl _)]) dX10_free_12 (Nat.le_of_ble_eq_true rfl) rfl ?_
      refine jr_iconst (pc := 14) F dX10_free_14 ?_
      refine jr_istore (pc := 15) F (vs' := [(6, .inl _), (5, .inl _), (0, .inr (.inr (.inl _))), (2, .inl _), (3, .inl _), (4, .inl _)]) dX10_free_15 (Nat.le_of_ble_eq_true rfl) rfl ?_
      refine jj_J.sub [2, 3, 4, 5, 1, 0] rfl ?_
      obtain ⟨n9, w⟩ := w
      exact sC_X10_free_l17 F M O J hi hQ hE _ _ _ _ ih n9 _ _ _ _ w

theorem sC_X10_free {X : jj_X} {N : Option jj_AV → jj_H → Prop} {XN : String → Nat → jj_H → Prop} (F : jj_F X RX10 cX10_free 7) (M : jj_M X (some (.int)) 0 0 N XN) (O : jj_no X) (J : jj_GJ X.1 X.2.2.1) (hi : X.2.2.2.2.2.2.2.2.2.1.name = yX10_free.name) {Q : Int → jj_H → Prop} {E : String → Nat → jj_H → Prop} (hQ : ∀ r h, Q r h → N (some (.inl r)) h) (hE : ∀ e q h, E e q h → XN e q h) (x0 : Option Nat) (x1 : Int) (x2 : Int) (x3 : Int) : ∀ (h : jj_H) (k : Nat), fC_X10_free (jj_gk X.1) x0 x1 x2 x3 Q E h k → jj_J X 7 0 [(0, .inr (.inr (.inl x0))), (1, .inl x1), (2, .inl x2), (3, .inl x3)] [] h k := by
  intro h k w
  unfold fC_X10_free at w
  refine jr_iload_n (pc := 0) F (j := 1) dX10_free_0 rfl ?_
  refine jr_istore (pc := 1) F (vs' := [(4, .inl _), (0, .inr (.inr (.inl _))), (1, .inl _), (2, .inl _), (3, .inl _)]) dX10_free_1 (Nat.le_of_ble_eq_true rfl) rfl ?_
  refine jj_J.sub [1, 3, 4, 0] rfl ?_
  obtain ⟨n9, w⟩ := w
  exact sC_X10_free_l3 F M O J hi hQ hE _ _ _ n9 _ _ _ w

theorem cC_X10_free {G : jj_G} {l : Launch} (J : jj_GJ G l) {x0 : Option Nat} {x1 : Int} {x2 : Int} {x3 : Int} {Q : Int → jj_H → Prop} {E : String → Nat → jj_H → Prop} {h : jj_H} {k : Nat} (w : fC_X10_free (jj_gk G) x0 x1 x2 x3 Q E h k) : jj_Ct G l yX10_free (ws_ yX10_free cX10_free 7 (some (.int))) 0 0 [.inr (.inr (.inl x0)), .inl x1, .inl x2, .inl x3] h k (jc_i Q) E := by
  refine jj_Ct.of (jK_gs J).1 (by decide +kernel) (Nat.le_of_ble_eq_true rfl) rfl (fun X hG hl F M O hnm => ?_)
  subst hG; subst hl
  exact sC_X10_free F M O J hnm (fun r h q => ⟨r, rfl, q⟩) (fun _ _ _ q => q) _ _ _ _ _ _ w
theorem hC_X10_free : yX10_free.cls = RX10 ∧ yX10_free.cls ≠ "java/lang/invoke/MethodHandle" ∧ yX10_free.cls ≠ "java/lang/invoke/VarHandle" ∧ (parseMethodDescriptor yX10_free.desc).map (fun d => d.parameters.length) = some 4 := by decide +kernel
/-! X10_rowsOf(LNoteImporter$Group;)I -/
def fC_X10_rowsOf (gk : Nat → Nat) (x0 : Option Nat) (x1 : Option Nat) (Q : Int → jj_H → Prop) (E : String → Nat → jj_H → Prop) (h : jj_H) (k : Nat) : Prop :=
  jp_gr h x0 8 0 (fun g1 =>
  jp_gr h g1 2 1 (fun g2 =>
  jp_gi h x1 7 5 (fun g3 =>
  jq_J2_get g2 g3 (fun r6 h4 k5 =>
  jp_is h4 r6 4 ∧
  jp_gr h4 r6 4 3 (fun g7 =>
  jq_J2_size g7 (fun r10 h8 k9 =>
  jj_r r10 ∧ (r10 ≤ 3 → (
    Q 1 h8)) ∧
  (¬ r10 ≤ 3 → (
    Q 2 h8))) h4 k5)) h k)))
theorem sC_X10_rowsOf {X : jj_X} {N : Option jj_AV → jj_H → Prop} {XN : String → Nat → jj_H → Prop} (F : jj_F X RX10 cX10_rowsOf 2) (M : jj_M X (some (.int)) 13 621 N XN) (O : jj_no X) (J : jj_GJ X.1 X.2.2.1) (hi : X.2.2.2.2.2.2.2.2.2.1.name = yX10_rowsOf.name) {Q : Int → jj_H → Prop} {E : String → Nat → jj_H → Prop} (hQ : ∀ r h, Q r h → N (some (.inl r)) h) (hE : ∀ e q h, E e q h → XN e q h) (x0 : Option Nat) (x1 : Option Nat) : ∀ (h : jj_H) (k : Nat), fC_X10_rowsOf (jj_gk X.1) x0 x1 Q E h k → jj_J X 2 0 [(0, .inr (.inr (.inl x0))), (1, .inr (.inr (.inl x1)))] [] h k := by
  intro h k w
  unfold fC_X10_rowsOf at w
  refine jr_aload_n (pc := 0) F (j := 0) dX10_rowsOf_0 rfl ?_
  refine jr_gr (pc := 1) (ci := 8) (f := 0) F rfl in_X10 (Nat.le_of_ble_eq_true rfl) q1593 dX10_rowsOf_1 w (fun g1 w => ?_)
  refine jr_grN (pc := 4) (ci := 2) (f := 1) F rfl in_X2 (Nat.le_of_ble_eq_true rfl) q594 dX10_rowsOf_4 w (fun g2 w => ?_)
  refine jr_aload_n (pc := 7) F (j := 1) dX10_rowsOf_7 rfl ?_
  refine jr_giN (pc := 8) (ci := 7) (f := 5) F rfl in_X13 (Nat.le_of_ble_eq_true rfl) q804 dX10_rowsOf_8 w (fun g3 w => ?_)
  refine jr_jV (pc := 11) (As := [_]) (ci := 14) F M (lw_V q680 q681 q682 q124 q683) dX10_rowsOf_11 hj_J2_get rfl (Nat.le_of_ble_eq_true rfl) (Nat.le_of_ble_eq_true rfl) (Nat.le_of_ble_eq_true rfl) rfl (jK_J2_get J _ _ _ _ _ w) (fun v9 h4 k5 q9 => ?_)
  obtain ⟨r6, rfl, w⟩ := q9
  obtain ⟨hi9, w⟩ := w
  refine jr_cast (pc := 14) (ci := 4) F rfl q733 dX10_rowsOf_14 hi9 ?_
  refine jr_grN (pc := 17) (ci := 4) (f := 3) F rfl in_X6 (Nat.le_of_ble_eq_true rfl) q2305 dX10_rowsOf_17 w (fun g7 w => ?_)
  refine jr_jV (pc := 20) (As := []) (ci := 14) F M (lw_V q675 q676 q677 q124 q678) dX10_rowsOf_20 hj_J2_size rfl (Nat.le_of_ble_eq_true rfl) (Nat.le_of_ble_eq_true rfl) (Nat.le_of_ble_eq_true rfl) rfl (jK_J2_size J _ _ _ _ w) (fun v9 h8 k9 q9 => ?_)
  obtain ⟨r10, rfl, w⟩ := q9
  refine jr_iconst (pc := 23) F dX10_rowsOf_23 ?_
  obtain ⟨hx9, w1, w2⟩ := w
  refine jr_icmp_le (pc := 24) (tgt := 31) F hx9 ⟨by decide, by decide⟩ dX10_rowsOf_24 rfl (fun c9 => ?_) (fun c9 => ?_)
  · have w := w1 c9
    refine jr_iconst (pc := 31) F dX10_rowsOf_31 ?_
    exact jr_iret (pc := 32) F M dX10_rowsOf_32 (hQ _ _ w)
  · have w := w2 c9
    refine jr_iconst (pc := 27) F dX10_rowsOf_27 ?_
    refine jr_goto (pc := 28) (tgt := 32) F dX10_rowsOf_28 rfl ?_
    exact jr_iret (pc := 32) F M dX10_rowsOf_32 (hQ _ _ w)

theorem cC_X10_rowsOf {G : jj_G} {l : Launch} (J : jj_GJ G l) {x0 : Option Nat} {x1 : Option Nat} {Q : Int → jj_H → Prop} {E : String → Nat → jj_H → Prop} {h : jj_H} {k : Nat} (w : fC_X10_rowsOf (jj_gk G) x0 x1 Q E h k) : jj_Ct G l yX10_rowsOf (ws_ yX10_rowsOf cX10_rowsOf 2 (some (.int))) 13 621 [.inr (.inr (.inl x0)), .inr (.inr (.inl x1))] h k (jc_i Q) E := by
  refine jj_Ct.of (jK_gs J).1 (by decide +kernel) (Nat.le_of_ble_eq_true rfl) rfl (fun X hG hl F M O hnm => ?_)
  subst hG; subst hl
  exact sC_X10_rowsOf F M O J hnm (fun r h q => ⟨r, rfl, q⟩) (fun _ _ _ q => q) _ _ _ _ w
theorem hC_X10_rowsOf : yX10_rowsOf.cls = RX10 ∧ yX10_rowsOf.cls ≠ "java/lang/invoke/MethodHandle" ∧ yX10_rowsOf.cls ≠ "java/lang/invoke/VarHandle" ∧ (parseMethodDescriptor yX10_rowsOf.desc).map (fun d => d.parameters.length) = some 1 := by decide +kernel
/-! X15_init(LNoteImporter$Edition;)V -/
def fC_X15_init (gk : Nat → Nat) (x0 : Option Nat) (x1 : Option Nat) (Q : jj_H → Prop) (E : String → Nat → jj_H → Prop) (h : jj_H) (k : Nat) : Prop :=
  jp_so x0 ∧
  jp_pr h x0 9 0 x1 (fun h1 =>
  Q h1)
theorem sC_X15_init {X : jj_X} {N : Option jj_AV → jj_H → Prop} {XN : String → Nat → jj_H → Prop} (F : jj_F X RX15 cX15_init 2) (M : jj_M X (none) 1 20 N XN) (O : jj_no X) (J : jj_GJ X.1 X.2.2.1) (hi : X.2.2.2.2.2.2.2.2.2.1.name = yX15_init.name) {Q : jj_H → Prop} {E : String → Nat → jj_H → Prop} (hQ : ∀ h, Q h → N none h) (hE : ∀ e q h, E e q h → XN e q h) (x0 : Option Nat) (x1 : Option Nat) : ∀ (h : jj_H) (k : Nat), fC_X15_init (jj_gk X.1) x0 x1 Q E h k → jj_J X 2 0 [(0, .inr (.inr (.inl x0))), (1, .inr (.inr (.inl x1)))] [] h k := by
  intro h k w
  unfold fC_X15_init at w
  refine jr_aload_n (pc := 0) F (j := 0) dX15_init_0 rfl ?_
  obtain ⟨ha9, w⟩ := w
  refine jr_objInitO (pc := 1) F M q1695 q192 q193 ha9 (Nat.le_of_ble_eq_true rfl) (Nat.le_of_ble_eq_true rfl) (Nat.le_of_ble_eq_true rfl) dX15_init_1 ?_
  refine jr_aload_n (pc := 4) F (j := 0) dX15_init_4 rfl ?_
  refine jr_aload_n (pc := 5) F (j := 1) dX15_init_5 rfl ?_
  refine jr_prF (pc := 6) (ci := 9) (f := 0) F rfl in_X15 tyX15_ok nmX15 (Nat.le_of_ble_eq_true rfl) rfl rfl rfl hi q1696 dX15_init_6 w (fun h1 w => ?_)
  exact jr_vret (pc := 9) F M dX15_init_9 (hQ _ w)

theorem cC_X15_init {G : jj_G} {l : Launch} (J : jj_GJ G l) {x0 : Option Nat} {x1 : Option Nat} {Q : jj_H → Prop} {E : String → Nat → jj_H → Prop} {h : jj_H} {k : Nat} (w : fC_X15_init (jj_gk G) x0 x1 Q E h k) : jj_Ct G l yX15_init (ws_ yX15_init cX15_init 2 (none)) 1 20 [.inr (.inr (.inl x0)), .inr (.inr (.inl x1))] h k (jc_v Q) E := by
  refine jj_Ct.of (jK_gs J).1 (by decide +kernel) (Nat.le_of_ble_eq_true rfl) rfl (fun X hG hl F M O hnm => ?_)
  subst hG; subst hl
  exact sC_X15_init F M O J hnm (fun h q => ⟨rfl, q⟩) (fun _ _ _ q => q) _ _ _ _ w
theorem hC_X15_init : yX15_init.cls = RX15 ∧ yX15_init.cls ≠ "java/lang/invoke/MethodHandle" ∧ yX15_init.cls ≠ "java/lang/invoke/VarHandle" ∧ (parseMethodDescriptor yX15_init.desc).map (fun d => d.parameters.length) = some 1 := by decide +kernel
/-! X10_margin(I)[I -/
def fC_X10_margin_l189 (gk : Nat → Nat) (x0 : Option Nat) (x2 : Option Nat) (x3 : Option Nat) (x4 : Option Nat) (x5 : Option Nat) (x6 : Int) (K121 : jj_H → Nat → Prop) (Q : Option Nat → jj_H → Prop) (E : String → Nat → jj_H → Prop) : Nat → Int → jj_H → Nat → Prop
  | 0, _, _, _ => False
  | n + 1, x7, h, k =>
  jp_is h x0 8 ∧ fC_X10_rowsOf gk x0 x5 (fun r2 h3 =>
  jj_r x7 ∧ jj_r r2 ∧ (r2 ≤ x7 → (
    K121 h3 k)) ∧
  (¬ r2 ≤ x7 → (
    jj_r x6 ∧ (x6 = (-1) → (
      K121 h3 k)) ∧
    (¬ x6 = (-1) → (
      jp_gi h3 x5 7 0 (fun g4 =>
      jp_as h3 x3 0 (x6 + x7) g4 (fun h5 =>
      ∀ v6, v6 = x7 + 1 →
      fC_X10_margin_l189 gk x0 x2 x3 x4 x5 x6 K121 Q E n v6 h5 k))))))) E h 0
def fC_X10_margin_l121 (gk : Nat → Nat) (x0 : Option Nat) (x2 : Option Nat) (x3 : Option Nat) (x4 : Option Nat) (Q : Option Nat → jj_H → Prop) (E : String → Nat → jj_H → Prop) : Nat → jj_H → Nat → Prop
  | 0, _, _ => False
  | n + 1, h, k =>
  jq_J0_isEmpty x4 (fun r9 h7 k8 =>
  jj_r r9 ∧ (¬ r9 = 0 → (
    Q x3 h7)) ∧
  (r9 = 0 → (
    jq_J41_poll x4 (fun r12 h10 k11 =>
    jp_is h10 r12 7 ∧
    jp_gr h10 x2 3 4 (fun g13 =>
    jp_gi h10 r12 7 3 (fun g14 =>
    jp_al h10 g13 0 g14 (fun g15 =>
    jp_gi h10 x2 3 3 (fun g16 =>
    (jj_r g16 ∧ g16 ≠ 0) ∧
    jp_is h10 x0 8 ∧ fC_X10_rowsOf gk x0 r12 (fun r18 h19 =>
    jp_gi h19 x2 3 3 (fun g20 =>
    fC_X10_free gk x3 (jj_rem g15 g16) r18 g20 (fun r22 h23 =>
    jj_r r22 ∧ (¬ r22 = (-1) → (
      ∃ n9, fC_X10_margin_l189 gk x0 x2 x3 x4 r12 r22 (fC_X10_margin_l121 gk x0 x2 x3 x4 Q E n) Q E n9 0 h23 k11)) ∧
    (r22 = (-1) → (
      jp_gi h23 x2 3 3 (fun g24 =>
      jp_al h23 x3 0 g24 (fun g25 =>
      jp_as h23 x3 0 g24 (g25 + 1) (fun h26 =>
      ∃ n9, fC_X10_margin_l189 gk x0 x2 x3 x4 r12 r22 (fC_X10_margin_l121 gk x0 x2 x3 x4 Q E n) Q E n9 0 h26 k11)))))) E h19 0)) E h10 0))))) h7 k8))) h k
def fC_X10_margin_l66 (gk : Nat → Nat) (x0 : Option Nat) (x1 : Int) (x2 : Option Nat) (x3 : Option Nat) (x4 : Option Nat) (x5 : Option Nat) (Q : Option Nat → jj_H → Prop) (E : String → Nat → jj_H → Prop) : Nat → jj_H → Nat → Prop
  | 0, _, _ => False
  | n + 1, h, k =>
  jq_J21_hasNext x5 (fun r29 h27 k28 =>
  jj_r r29 ∧ (r29 = 0 → (
    ∃ n9, fC_X10_margin_l121 gk x0 x2 x3 x4 Q E n9 h27 k28)) ∧
  (¬ r29 = 0 → (
    jq_J21_next x5 (fun r32 h30 k31 =>
    jp_is h30 r32 7 ∧
    jp_gi h30 r32 7 3 (fun g33 =>
    jj_r g33 ∧ (g33 = (-1) → (
      fC_X10_margin_l66 gk x0 x1 x2 x3 x4 x5 Q E n h30 k31)) ∧
    (¬ g33 = (-1) → (
      jp_gi h30 r32 7 3 (fun g34 =>
      jp_is h30 x2 3 ∧ fC_X5_page gk x2 g34 (fun r36 h37 =>
      jj_r r36 ∧ jj_r x1 ∧ (¬ r36 = x1 → (
        fC_X10_margin_l66 gk x0 x1 x2 x3 x4 x5 Q E n h37 k31)) ∧
      (r36 = x1 → (
        jq_J41_add x4 r32 (fun r40 h38 k39 =>
        fC_X10_margin_l66 gk x0 x1 x2 x3 x4 x5 Q E n h38 k39) h37 k31))) E h30 0))))) h27 k28))) h k
def fC_X10_margin_l20 (gk : Nat → Nat) (x0 : Option Nat) (x1 : Int) (x2 : Option Nat) (x3 : Option Nat) (Q : Option Nat → jj_H → Prop) (E : String → Nat → jj_H → Prop) : Nat → Int → jj_H → Nat → Prop
  | 0, _, _, _ => False
  | n + 1, x4, h, k =>
  jp_gi h x2 3 3 (fun g41 =>
  jj_r x4 ∧ jj_r g41 ∧ (g41 ≤ x4 → (
    jp_nw h k 21 1 df_J41 (fun a42 h43 k44 =>
    jp_nw h43 k44 9 1 df_X15 (fun a45 h46 k47 =>
    jp_so (some a45) ∧ fC_X15_init gk (some a45) x2 (fun h50 =>
    jq_J41_init (some a42) (some a45) (fun h51 k52 =>
    jp_gr h51 x0 8 4 (fun g53 =>
    jq_J2_iterator g53 (fun r56 h54 k55 =>
    ∃ n9, fC_X10_margin_l66 gk x0 x1 x2 x3 (some a42) r56 Q E n9 h54 k55) h51 k52)) h50 k47) E h46 0)))) ∧
  (¬ g41 ≤ x4 → (
    jp_as h x3 0 x4 (-1) (fun h57 =>
    ∀ v58, v58 = x4 + 1 →
    fC_X10_margin_l20 gk x0 x1 x2 x3 Q E n v58 h57 k))))
def fC_X10_margin (gk : Nat → Nat) (x0 : Option Nat) (x1 : Int) (Q : Option Nat → jj_H → Prop) (E : String → Nat → jj_H → Prop) (h : jj_H) (k : Nat) : Prop :=
  jp_gr h x0 8 0 (fun g59 =>
  jp_is h g59 2 ∧ fC_X2_aim gk g59 (fun r61 h62 =>
  jp_gi h62 r61 3 3 (fun g63 =>
  jp_ni h62 k 0 (g63 + 1) (fun a64 h65 k66 =>
  ∃ n9, fC_X10_margin_l20 gk x0 x1 r61 (some a64) Q E n9 0 h65 k66))) E h 0)
theorem sC_X10_margin_l189 {X : jj_X} {N : Option jj_AV → jj_H → Prop} {XN : String → Nat → jj_H → Prop} (F : jj_F X RX10 cX10_margin 8) (M : jj_M X (some ((.array .int))) 14 642 N XN) (O : jj_no X) (J : jj_GJ X.1 X.2.2.1) (hi : X.2.2.2.2.2.2.2.2.2.1.name = yX10_margin.name) {Q : Option Nat → jj_H → Prop} {E : String → Nat → jj_H → Prop} (hQ : ∀ r h, Q r h → N (some (.inr (.inr (.inl r)))) h) (hE : ∀ e q h, E e q h → XN e q h) (x0 : Option Nat) (x2 : Option Nat) (x3 : Option Nat) (x4 : Option Nat) (x5 : Option Nat) (x6 : Int) {K121 : jj_H → Nat → Prop} (hK121 : ∀ (h : jj_H) (k : Nat), K121 h k → jj_J X 8 121 [(0, .inr (.inr (.inl x0))), (2, .inr (.inr (.inl x2))), (3, .inr (.inr (.inl x3))), (4, .inr (.inr (.inl x4)))] [] h k) : ∀ (n : Nat) (x7 : Int) (h : jj_H) (k : Nat), fC_X10_margin_l189 (jj_gk X.1) x0 x2 x3 x4 x5 x6 K121 Q E n x7 h k → jj_J X 8 189 [(0, .inr (.inr (.inl x0))), (2, .inr (.inr (.inl x2))), (3, .inr (.inr (.inl x3))), (4, .inr (.inr (.inl x4))), (5, .inr (.inr (.inl x5))), (6, .inl x6), (7, .inl x7)] [] h k := by
  intro n
  induction n with
  | zero =>
    intro x7 h k w
    exact (show False from w).elim
  | succ n ih =>
    intro x7 h k w
    rw [fC_X10_margin_l189] at w
    refine jr_iload (pc := 189) F (j := 6) dX10_margin_189 rfl ?_
    refine jr_aload_n (pc := 191) F (j := 0) dX10_margin_191 rfl ?_
    refine jr_aload (pc := 192) F (j := 4) dX10_margin_192 rfl ?_
    obtain ⟨hi9, w⟩ := w
    refine jr_cV (pc := 194) (As := [_]) (ci := 8) F M (lw_V q1824 q1826 qs13 q177 q1827) dX10_margin_194 hC_X10_rowsOf rfl (Nat.le_of_ble_eq_true rfl) (Nat.le_of_ble_eq_true rfl) (Nat.le_of_ble_eq_true rfl) rfl hi9 (Nat.zero_le _) (cC_X10_rowsOf J w) (fun v9 h3 q9 => ?_) (fun E9 q9 h9 w9 => jr_out F M O (hE _ _ _ w9))
    obtain ⟨r2, rfl, w⟩ := q9
    obtain ⟨hx9, hy9, w1, w2⟩ := w
    refine jr_icmp_ge (pc := 197) (tgt := 224) F hx9 hy9 dX10_margin_197 rfl (fun c9 => ?_) (fun c9 => ?_)
    · have w := w1 c9
      refine jr_goto (pc := 224) (tgt := 121) F dX10_margin_224 rfl ?_
      refine jj_J.sub [0, 1, 2, 3] rfl ?_
      exact hK121 _ _ w
    · have w := w2 c9
      refine jr_iload (pc := 200) F (j := 5) dX10_margin_200 rfl ?_
      refine jr_iconst (pc := 202) F dX10_margin_202 ?_
      obtain ⟨hx9, w1, w2⟩ := w
      refine jr_icmp_eq (pc := 203) (tgt := 224) F hx9 ⟨by decide, by decide⟩ dX10_margin_203 rfl (fun c9 => ?_) (fun c9 => ?_)
      · have w := w1 c9
        refine jr_goto (pc := 224) (tgt := 121) F dX10_margin_224 rfl ?_
        refine jj_J.sub [0, 1, 2, 3] rfl ?_
        exact hK121 _ _ w
      · have w := w2 c9
        refine jr_aload_n (pc := 206) F (j := 2) dX10_margin_206 rfl ?_
        refine jr_iload (pc := 207) F (j := 5) dX10_margin_207 rfl ?_
        refine jr_iload (pc := 209) F (j := 6) dX10_margin_209 rfl ?_
        refine jr_iadd (pc := 211) F dX10_margin_211 ?_
        refine jr_aload (pc := 212) F (j := 4) dX10_margin_212 rfl ?_
        refine jr_giN (pc := 214) (ci := 7) (f := 0) F rfl in_X13 (Nat.le_of_ble_eq_true rfl) q791 dX10_margin_214 w (fun g4 w => ?_)
        refine jr_iast (pc := 217) F dX10_margin_217 w (fun h5 w => ?_)
        have w := w _ rfl
        refine jr_iinc (pc := 218) F (j := 6) (vs' := [(7, .inl _), (0, .inr (.inr (.inl _))), (2, .inr (.inr (.inl _))), (3, .inr (.inr (.inl _))), (4, .inr (.inr (.inl _))), (5, .inr (.inr (.inl _))), (6, .inl _)]) dX10_margin_218 rfl rfl (Nat.le_of_ble_eq_true rfl) rfl ?_
        refine jr_goto (pc := 221) (tgt := 189) F dX10_margin_221 rfl ?_
        refine jj_J.sub [1, 2, 3, 4, 5, 6, 0] rfl ?_
        exact ih _ _ _ w

theorem sC_X10_margin_l121 {X : jj_X} {N : Option jj_AV → jj_H → Prop} {XN : String → Nat → jj_H → Prop} (F : jj_F X RX10 cX10_margin 8) (M : jj_M X (some ((.array .int))) 14 642 N XN) (O : jj_no X) (J : jj_GJ X.1 X.2.2.1) (hi : X.2.2.2.2.2.2.2.2.2.1.name = yX10_margin.name) {Q : Option Nat → jj_H → Prop} {E : String → Nat → jj_H → Prop} (hQ : ∀ r h, Q r h → N (some (.inr (.inr (.inl r)))) h) (hE : ∀ e q h, E e q h → XN e q h) (x0 : Option Nat) (x2 : Option Nat) (x3 : Option Nat) (x4 : Option Nat) : ∀ (n : Nat) (h : jj_H) (k : Nat), fC_X10_margin_l121 (jj_gk X.1) x0 x2 x3 x4 Q E n h k → jj_J X 8 121 [(0, .inr (.inr (.inl x0))), (2, .inr (.inr (.inl x2))), (3, .inr (.inr (.inl x3))), (4, .inr (.inr (.inl x4)))] [] h k := by
  intro n
  induction n with
  | zero =>
    intro  h k w
    exact (show False from w).elim
  | succ n ih =>
    intro  h k w
    rw [fC_X10_margin_l121] at w
    refine jr_aload (pc := 121) F (j := 3) dX10_margin_121 rfl ?_
    refine jr_jU (pc := 123) (As := []) (ci := 21) F M (uw_J0_isEmpty q1782) q1787 dX10_margin_123 hj_J0_isEmpty.2 rfl (Nat.le_of_ble_eq_true rfl) (Nat.le_of_ble_eq_true rfl) (Nat.le_of_ble_eq_true rfl) rfl (jK_J0_isEmpty J _ _ _ _ w) (fun v9 h7 k8 q9 => ?_)
    obtain ⟨r9, rfl, w⟩ := q9
    obtain ⟨hx9, w1, w2⟩ := w
    refine jr_if_ne (pc := 126) (tgt := 227) F hx9 dX10_margin_126 rfl (fun c9 => ?_) (fun c9 => ?_)
    · have w := w1 c9
      refine jr_aload_n (pc := 227) F (j := 2) dX10_margin_227 rfl ?_
      exact jr_aret (pc := 228) F M (Or.inr ⟨_, rfl⟩) dX10_margin_228 (hQ _ _ w)
    · have w := w2 c9
      refine jr_aload (pc := 129) F (j := 3) dX10_margin_129 rfl ?_
      refine jr_jV (pc := 131) (As := []) (ci := 21) F M (lw_V q1814 q1815 q1816 q169 q1817) dX10_margin_131 hj_J41_poll rfl (Nat.le_of_ble_eq_true rfl) (Nat.le_of_ble_eq_true rfl) (Nat.le_of_ble_eq_true rfl) rfl (jK_J41_poll J _ _ _ _ w) (fun v9 h10 k11 q9 => ?_)
      obtain ⟨r12, rfl, w⟩ := q9
      obtain ⟨hi9, w⟩ := w
      refine jr_cast (pc := 134) (ci := 7) F rfl q781 dX10_margin_134 hi9 ?_
      refine jr_astore (pc := 137) F (vs' := [(5, .inr (.inr (.inl _))), (0, .inr (.inr (.inl _))), (2, .inr (.inr (.inl _))), (3, .inr (.inr (.inl _))), (4, .inr (.inr (.inl _)))]) dX10_margin_137 (Nat.le_of_ble_eq_true rfl) rfl ?_
      refine jr_aload_n (pc := 139) F (j := 3) dX10_margin_139 rfl ?_
      refine jr_aload_n (pc := 140) F (j := 2) dX10_margin_140 rfl ?_
      refine jr_grN (pc := 141) (ci := 3) (f := 4) F rfl in_X5 (Nat.le_of_ble_eq_true rfl) q1873 dX10_margin_141 w (fun g13 w => ?_)
      refine jr_aload (pc := 144) F (j := 0) dX10_margin_144 rfl ?_
      refine jr_giN (pc := 146) (ci := 7) (f := 3) F rfl in_X13 (Nat.le_of_ble_eq_true rfl) q799 dX10_margin_146 w (fun g14 w => ?_)
      refine jr_iald (pc := 149) F dX10_margin_149 w (fun g15 w => ?_)
      refine jr_aload_n (pc := 150) F (j := 2) dX10_margin_150 rfl ?_
      refine jr_giN (pc := 151) (ci := 3) (f := 3) F rfl in_X5 (Nat.le_of_ble_eq_true rfl) q1869 dX10_margin_151 w (fun g16 w => ?_)
      obtain ⟨hd9, w⟩ := w
      refine jr_irem (pc := 154) F dX10_margin_154 hd9 ?_
      refine jr_aload_n (pc := 155) F (j := 1) dX10_margin_155 rfl ?_
      refine jr_aload (pc := 156) F (j := 0) dX10_margin_156 rfl ?_
      obtain ⟨hi9, w⟩ := w
      refine jr_cV (pc := 158) (As := [_]) (ci := 8) F M (lw_V q1824 q1826 qs13 q177 q1827) dX10_margin_158 hC_X10_rowsOf rfl (Nat.le_of_ble_eq_true rfl) (Nat.le_of_ble_eq_true rfl) (Nat.le_of_ble_eq_true rfl) rfl hi9 (Nat.zero_le _) (cC_X10_rowsOf J w) (fun v9 h19 q9 => ?_) (fun E9 q9 h9 w9 => jr_out F M O (hE _ _ _ w9))
      obtain ⟨r18, rfl, w⟩ := q9
      refine jr_aload_n (pc := 161) F (j := 2) dX10_margin_161 rfl ?_
      refine jr_giN (pc := 162) (ci := 3) (f := 3) F rfl in_X5 (Nat.le_of_ble_eq_true rfl) q1869 dX10_margin_162 w (fun g20 w => ?_)
      refine jr_callS (pc := 165) (As := [_, _, _, _]) F M (lw_S q1828 q1829 q177 q1830) dX10_margin_165 hC_X10_free.2 rfl (Nat.le_of_ble_eq_true rfl) (Nat.le_of_ble_eq_true rfl) (Nat.le_of_ble_eq_true rfl) (Nat.zero_le _) (cC_X10_free J w) (fun v9 h23 q9 => ?_) (fun E9 q9 h9 w9 => jr_out F M O (hE _ _ _ w9))
      obtain ⟨r22, rfl, w⟩ := q9
      refine jr_istore (pc := 168) F (vs' := [(6, .inl _), (5, .inr (.inr (.inl _))), (0, .inr (.inr (.inl _))), (2, .inr (.inr (.inl _))), (3, .inr (.inr (.inl _))), (4, .inr (.inr (.inl _)))]) dX10_margin_168 (Nat.le_of_ble_eq_true rfl) rfl ?_
      refine jr_iload (pc := 170) F (j := 0) dX10_margin_170 rfl ?_
      refine jr_iconst (pc := 172) F dX10_margin_172 ?_
      obtain ⟨hx9, w1, w2⟩ := w
      refine jr_icmp_ne (pc := 173) (tgt := 186) F hx9 ⟨by decide, by decide⟩ dX10_margin_173 rfl (fun c9 => ?_) (fun c9 => ?_)
      · have w := w1 c9
        refine jr_iconst (pc := 186) F dX10_margin_186 ?_
        refine jr_istore (pc := 187) F (vs' := [(7, .inl _), (6, .inl _), (5, .inr (.inr (.inl _))), (0, .inr (.inr (.inl _))), (2, .inr (.inr (.inl _))), (3, .inr (.inr (.inl _))), (4, .inr (.inr (.inl _)))]) dX10_margin_187 (Nat.le_of_ble_eq_true rfl) rfl ?_
        refine jj_J.sub [3, 4, 5, 6, 2, 1, 0] rfl ?_
        obtain ⟨n9, w⟩ := w
        exact sC_X10_margin_l189 F M O J hi hQ hE _ _ _ _ _ _ ih n9 _ _ _ w
      · have w := w2 c9
        refine jr_aload_n (pc := 176) F (j := 4) dX10_margin_176 rfl ?_
        refine jr_aload_n (pc := 177) F (j := 3) dX10_margin_177 rfl ?_
        refine jr_giN (pc := 178) (ci := 3) (f := 3) F rfl in_X5 (Nat.le_of_ble_eq_true rfl) q1869 dX10_margin_178 w (fun g24 w => ?_)
        refine jr_dup2 (pc := 181) F dX10_margin_181 rfl rfl ?_
        refine jr_iald (pc := 182) F dX10_margin_182 w (fun g25 w => ?_)
        refine jr_iconst (pc := 183) F dX10_margin_183 ?_
        refine jr_iadd (pc := 184) F dX10_margin_184 ?_
        refine jr_iast (pc := 185) F dX10_margin_185 w (fun h26 w => ?_)
        refine jr_iconst (pc := 186) F dX10_margin_186 ?_
        refine jr_istore (pc := 187) F (vs' := [(7, .inl _), (6, .inl _), (5, .inr (.inr (.inl _))), (0, .inr (.inr (.inl _))), (2, .inr (.inr (.inl _))), (3, .inr (.inr (.inl _))), (4, .inr (.inr (.inl _)))]) dX10_margin_187 (Nat.le_of_ble_eq_true rfl) rfl ?_
        refine jj_J.sub [3, 4, 5, 6, 2, 1, 0] rfl ?_
        obtain ⟨n9, w⟩ := w
        exact sC_X10_margin_l189 F M O J hi hQ hE _ _ _ _ _ _ ih n9 _ _ _ w

theorem sC_X10_margin_l66 {X : jj_X} {N : Option jj_AV → jj_H → Prop} {XN : String → Nat → jj_H → Prop} (F : jj_F X RX10 cX10_margin 8) (M : jj_M X (some ((.array .int))) 14 642 N XN) (O : jj_no X) (J : jj_GJ X.1 X.2.2.1) (hi : X.2.2.2.2.2.2.2.2.2.1.name = yX10_margin.name) {Q : Option Nat → jj_H → Prop} {E : String → Nat → jj_H → Prop} (hQ : ∀ r h, Q r h → N (some (.inr (.inr (.inl r)))) h) (hE : ∀ e q h, E e q h → XN e q h) (x0 : Option Nat) (x1 : Int) (x2 : Option Nat) (x3 : Option Nat) (x4 : Option Nat) (x5 : Option Nat) : ∀ (n : Nat) (h : jj_H) (k : Nat), fC_X10_margin_l66 (jj_gk X.1) x0 x1 x2 x3 x4 x5 Q E n h k → jj_J X 8 66 [(0, .inr (.inr (.inl x0))), (1, .inl x1), (2, .inr (.inr (.inl x2))), (3, .inr (.inr (.inl x3))), (4, .inr (.inr (.inl x4))), (5, .inr (.inr (.inl x5)))] [] h k := by
  intro n
  induction n with
  | zero =>
    intro  h k w
    exact (show False from w).elim
  | succ n ih =>
    intro  h k w
    rw [fC_X10_margin_l66] at w
    refine jr_aload (pc := 66) F (j := 5) dX10_margin_66 rfl ?_
    refine jr_jF (pc := 68) (As := []) (ci := 15) F M (fw_J21_hasNext q1071) (jK_f_J21_hasNext J) dX10_margin_68 (by decide +kernel) rfl (Nat.le_of_ble_eq_true rfl) (Nat.le_of_ble_eq_true rfl) (Nat.le_of_ble_eq_true rfl) rfl (jK_J21_hasNext J _ _ _ _ w) (fun v9 h27 k28 q9 => ?_)
    obtain ⟨r29, rfl, w⟩ := q9
    obtain ⟨hx9, w1, w2⟩ := w
    refine jr_if_eq (pc := 73) (tgt := 121) F hx9 dX10_margin_73 rfl (fun c9 => ?_) (fun c9 => ?_)
    · have w := w1 c9
      refine jj_J.sub [0, 2, 3, 4] rfl ?_
      obtain ⟨n9, w⟩ := w
      exact sC_X10_margin_l121 F M O J hi hQ hE _ _ _ _ n9 _ _ w
    · have w := w2 c9
      refine jr_aload (pc := 76) F (j := 5) dX10_margin_76 rfl ?_
      refine jr_jF (pc := 78) (As := []) (ci := 15) F M (fw_J21_next q1103) (jK_f_J21_next J) dX10_margin_78 (by decide +kernel) rfl (Nat.le_of_ble_eq_true rfl) (Nat.le_of_ble_eq_true rfl) (Nat.le_of_ble_eq_true rfl) rfl (jK_J21_next J _ _ _ _ w) (fun v9 h30 k31 q9 => ?_)
      obtain ⟨r32, rfl, w⟩ := q9
      obtain ⟨hi9, w⟩ := w
      refine jr_cast (pc := 83) (ci := 7) F rfl q781 dX10_margin_83 hi9 ?_
      refine jr_astore (pc := 86) F (vs' := [(6, .inr (.inr (.inl _))), (0, .inr (.inr (.inl _))), (1, .inl _), (2, .inr (.inr (.inl _))), (3, .inr (.inr (.inl _))), (4, .inr (.inr (.inl _))), (5, .inr (.inr (.inl _)))]) dX10_margin_86 (Nat.le_of_ble_eq_true rfl) rfl ?_
      refine jr_aload (pc := 88) F (j := 0) dX10_margin_88 rfl ?_
      refine jr_giN (pc := 90) (ci := 7) (f := 3) F rfl in_X13 (Nat.le_of_ble_eq_true rfl) q799 dX10_margin_90 w (fun g33 w => ?_)
      refine jr_iconst (pc := 93) F dX10_margin_93 ?_
      obtain ⟨hx9, w1, w2⟩ := w
      refine jr_icmp_eq (pc := 94) (tgt := 118) F hx9 ⟨by decide, by decide⟩ dX10_margin_94 rfl (fun c9 => ?_) (fun c9 => ?_)
      · have w := w1 c9
        refine jr_goto (pc := 118) (tgt := 66) F dX10_margin_118 rfl ?_
        refine jj_J.sub [1, 2, 3, 4, 5, 6] rfl ?_
        exact ih _ _ w
      · have w := w2 c9
        refine jr_aload_n (pc := 97) F (j := 3) dX10_margin_97 rfl ?_
        refine jr_aload (pc := 98) F (j := 0) dX10_margin_98 rfl ?_
        refine jr_giN (pc := 100) (ci := 7) (f := 3) F rfl in_X13 (Nat.le_of_ble_eq_true rfl) q799 dX10_margin_100 w (fun g34 w => ?_)
        obtain ⟨hi9, w⟩ := w
        refine jr_cV (pc := 103) (As := [_]) (ci := 3) F M (lw_V q1739 q1666 q1667 q149 q1668) dX10_margin_103 hC_X5_page rfl (Nat.le_of_ble_eq_true rfl) (Nat.le_of_ble_eq_true rfl) (Nat.le_of_ble_eq_true rfl) rfl hi9 (Nat.zero_le _) (cC_X5_page J w) (fun v9 h37 q9 => ?_) (fun E9 q9 h9 w9 => jr_out F M O (hE _ _ _ w9))
        obtain ⟨r36, rfl, w⟩ := q9
        refine jr_iload_n (pc := 106) F (j := 2) dX10_margin_106 rfl ?_
        obtain ⟨hx9, hy9, w1, w2⟩ := w
        refine jr_icmp_ne (pc := 107) (tgt := 118) F hx9 hy9 dX10_margin_107 rfl (fun c9 => ?_) (fun c9 => ?_)
        · have w := w1 c9
          refine jr_goto (pc := 118) (tgt := 66) F dX10_margin_118 rfl ?_
          refine jj_J.sub [1, 2, 3, 4, 5, 6] rfl ?_
          exact ih _ _ w
        · have w := w2 c9
          refine jr_aload (pc := 110) F (j := 5) dX10_margin_110 rfl ?_
          refine jr_aload (pc := 112) F (j := 0) dX10_margin_112 rfl ?_
          refine jr_jV (pc := 114) (As := [_]) (ci := 21) F M (lw_V q1740 q1741 q1742 q169 q1743) dX10_margin_114 hj_J41_add rfl (Nat.le_of_ble_eq_true rfl) (Nat.le_of_ble_eq_true rfl) (Nat.le_of_ble_eq_true rfl) rfl (jK_J41_add J _ _ _ _ _ w) (fun v9 h38 k39 q9 => ?_)
          obtain ⟨r40, rfl, w⟩ := q9
          refine jr_pop (pc := 117) F dX10_margin_117 rfl ?_
          refine jr_goto (pc := 118) (tgt := 66) F dX10_margin_118 rfl ?_
          refine jj_J.sub [1, 2, 3, 4, 5, 6] rfl ?_
          exact ih _ _ w

theorem sC_X10_margin_l20 {X : jj_X} {N : Option jj_AV → jj_H → Prop} {XN : String → Nat → jj_H → Prop} (F : jj_F X RX10 cX10_margin 8) (M : jj_M X (some ((.array .int))) 14 642 N XN) (O : jj_no X) (J : jj_GJ X.1 X.2.2.1) (hi : X.2.2.2.2.2.2.2.2.2.1.name = yX10_margin.name) {Q : Option Nat → jj_H → Prop} {E : String → Nat → jj_H → Prop} (hQ : ∀ r h, Q r h → N (some (.inr (.inr (.inl r)))) h) (hE : ∀ e q h, E e q h → XN e q h) (x0 : Option Nat) (x1 : Int) (x2 : Option Nat) (x3 : Option Nat) : ∀ (n : Nat) (x4 : Int) (h : jj_H) (k : Nat), fC_X10_margin_l20 (jj_gk X.1) x0 x1 x2 x3 Q E n x4 h k → jj_J X 8 20 [(0, .inr (.inr (.inl x0))), (1, .inl x1), (2, .inr (.inr (.inl x2))), (3, .inr (.inr (.inl x3))), (4, .inl x4)] [] h k := by
  intro n
  induction n with
  | zero =>
    intro x4 h k w
    exact (show False from w).elim
  | succ n ih =>
    intro x4 h k w
    rw [fC_X10_margin_l20] at w
    refine jr_iload (pc := 20) F (j := 4) dX10_margin_20 rfl ?_
    refine jr_aload_n (pc := 22) F (j := 2) dX10_margin_22 rfl ?_
    refine jr_giN (pc := 23) (ci := 3) (f := 3) F rfl in_X5 (Nat.le_of_ble_eq_true rfl) q1869 dX10_margin_23 w (fun g41 w => ?_)
    obtain ⟨hx9, hy9, w1, w2⟩ := w
    refine jr_icmp_ge (pc := 26) (tgt := 40) F hx9 hy9 dX10_margin_26 rfl (fun c9 => ?_) (fun c9 => ?_)
    · have w := w1 c9
      refine jr_new (pc := 40) (ci := 21) F rfl in_J41 tyJ41_ok q1688 q1689 q169 dfo_J41 rfl ⟨by decide, by decide⟩ dX10_margin_40 w (fun a42 h43 k44 w => ?_)
      refine jr_dup (pc := 43) F dX10_margin_43 rfl ?_
      refine jr_new (pc := 44) (ci := 9) F rfl in_X15 tyX15_ok q1690 q1691 q185 dfo_X15 rfl ⟨by decide, by decide⟩ dX10_margin_44 w (fun a45 h46 k47 w => ?_)
      refine jr_dup (pc := 47) F dX10_margin_47 rfl ?_
      refine jr_aload_n (pc := 48) F (j := 2) dX10_margin_48 rfl ?_
      obtain ⟨hi9, w⟩ := w
      refine jr_cI (pc := 49) (As := [_]) F M q1692 q1693 q185 q1694 dX10_margin_49 rfl hC_X15_init.2 rfl (Nat.le_of_ble_eq_true rfl) (Nat.le_of_ble_eq_true rfl) (Nat.le_of_ble_eq_true rfl) hi9 (Nat.zero_le _) (cC_X15_init J w) (fun v9 h50 q9 => ?_) (fun E9 q9 h9 w9 => jr_out F M O (hE _ _ _ w9))
      obtain ⟨rfl, w⟩ := q9
      refine jr_jI (pc := 52) (As := [_]) F M q1700 q1701 q169 q1702 dX10_margin_52 rfl hj_J41_init.2 rfl (Nat.le_of_ble_eq_true rfl) (Nat.le_of_ble_eq_true rfl) (Nat.le_of_ble_eq_true rfl) (jK_J41_init J _ _ _ _ _ w) (fun v9 h51 k52 q9 => ?_)
      obtain ⟨rfl, w⟩ := q9
      refine jr_astore (pc := 55) F (vs' := [(4, .inr (.inr (.inl _))), (0, .inr (.inr (.inl _))), (1, .inl _), (2, .inr (.inr (.inl _))), (3, .inr (.inr (.inl _)))]) dX10_margin_55 (Nat.le_of_ble_eq_true rfl) rfl ?_
      refine jr_aload_n (pc := 57) F (j := 1) dX10_margin_57 rfl ?_
      refine jr_gr (pc := 58) (ci := 8) (f := 4) F rfl in_X10 (Nat.le_of_ble_eq_true rfl) q1600 dX10_margin_58 w (fun g53 w => ?_)
      refine jr_jV (pc := 61) (As := []) (ci := 14) F M (lw_V q1738 q1616 q1617 q124 q1618) dX10_margin_61 hj_J2_iterator rfl (Nat.le_of_ble_eq_true rfl) (Nat.le_of_ble_eq_true rfl) (Nat.le_of_ble_eq_true rfl) rfl (jK_J2_iterator J _ _ _ _ w) (fun v9 h54 k55 q9 => ?_)
      obtain ⟨r56, rfl, w⟩ := q9
      refine jr_astore (pc := 64) F (vs' := [(5, .inr (.inr (.inl _))), (4, .inr (.inr (.inl _))), (0, .inr (.inr (.inl _))), (1, .inl _), (2, .inr (.inr (.inl _))), (3, .inr (.inr (.inl _)))]) dX10_margin_64 (Nat.le_of_ble_eq_true rfl) rfl ?_
      refine jj_J.sub [2, 3, 4, 5, 1, 0] rfl ?_
      obtain ⟨n9, w⟩ := w
      exact sC_X10_margin_l66 F M O J hi hQ hE _ _ _ _ _ _ n9 _ _ w
    · have w := w2 c9
      refine jr_aload_n (pc := 29) F (j := 3) dX10_margin_29 rfl ?_
      refine jr_iload (pc := 30) F (j := 4) dX10_margin_30 rfl ?_
      refine jr_iconst (pc := 32) F dX10_margin_32 ?_
      refine jr_iast (pc := 33) F dX10_margin_33 w (fun h57 w => ?_)
      have w := w _ rfl
      refine jr_iinc (pc := 34) F (j := 4) (vs' := [(4, .inl _), (0, .inr (.inr (.inl _))), (1, .inl _), (2, .inr (.inr (.inl _))), (3, .inr (.inr (.inl _)))]) dX10_margin_34 rfl rfl (Nat.le_of_ble_eq_true rfl) rfl ?_
      refine jr_goto (pc := 37) (tgt := 20) F dX10_margin_37 rfl ?_
      refine jj_J.sub [1, 2, 3, 4, 0] rfl ?_
      exact ih _ _ _ w

theorem sC_X10_margin {X : jj_X} {N : Option jj_AV → jj_H → Prop} {XN : String → Nat → jj_H → Prop} (F : jj_F X RX10 cX10_margin 8) (M : jj_M X (some ((.array .int))) 14 642 N XN) (O : jj_no X) (J : jj_GJ X.1 X.2.2.1) (hi : X.2.2.2.2.2.2.2.2.2.1.name = yX10_margin.name) {Q : Option Nat → jj_H → Prop} {E : String → Nat → jj_H → Prop} (hQ : ∀ r h, Q r h → N (some (.inr (.inr (.inl r)))) h) (hE : ∀ e q h, E e q h → XN e q h) (x0 : Option Nat) (x1 : Int) : ∀ (h : jj_H) (k : Nat), fC_X10_margin (jj_gk X.1) x0 x1 Q E h k → jj_J X 8 0 [(0, .inr (.inr (.inl x0))), (1, .inl x1)] [] h k := by
  intro h k w
  unfold fC_X10_margin at w
  refine jr_aload_n (pc := 0) F (j := 0) dX10_margin_0 rfl ?_
  refine jr_gr (pc := 1) (ci := 8) (f := 0) F rfl in_X10 (Nat.le_of_ble_eq_true rfl) q1593 dX10_margin_1 w (fun g59 w => ?_)
  obtain ⟨hi9, w⟩ := w
  refine jr_cV (pc := 4) (As := []) (ci := 2) F M (lw_V q695 q696 q697 q121 q698) dX10_margin_4 hC_X2_aim rfl (Nat.le_of_ble_eq_true rfl) (Nat.le_of_ble_eq_true rfl) (Nat.le_of_ble_eq_true rfl) rfl hi9 (Nat.zero_le _) (cC_X2_aim J w) (fun v9 h62 q9 => ?_) (fun E9 q9 h9 w9 => jr_out F M O (hE _ _ _ w9))
  obtain ⟨r61, rfl, w⟩ := q9
  refine jr_astore_n (pc := 7) F (vs' := [(2, .inr (.inr (.inl _))), (0, .inr (.inr (.inl _))), (1, .inl _)]) dX10_margin_7 (Nat.le_of_ble_eq_true rfl) rfl ?_
  refine jr_aload_n (pc := 8) F (j := 0) dX10_margin_8 rfl ?_
  refine jr_giN (pc := 9) (ci := 3) (f := 3) F rfl in_X5 (Nat.le_of_ble_eq_true rfl) q1869 dX10_margin_9 w (fun g63 w => ?_)
  refine jr_iconst (pc := 12) F dX10_margin_12 ?_
  refine jr_iadd (pc := 13) F dX10_margin_13 ?_
  refine jr_newI (pc := 14) F q731 dX10_margin_14 w (fun a64 h65 k66 w => ?_)
  refine jr_astore_n (pc := 16) F (vs' := [(3, .inr (.inr (.inl _))), (2, .inr (.inr (.inl _))), (0, .inr (.inr (.inl _))), (1, .inl _)]) dX10_margin_16 (Nat.le_of_ble_eq_true rfl) rfl ?_
  refine jr_iconst (pc := 17) F dX10_margin_17 ?_
  refine jr_istore (pc := 18) F (vs' := [(4, .inl _), (3, .inr (.inr (.inl _))), (2, .inr (.inr (.inl _))), (0, .inr (.inr (.inl _))), (1, .inl _)]) dX10_margin_18 (Nat.le_of_ble_eq_true rfl) rfl ?_
  refine jj_J.sub [3, 4, 2, 1, 0] rfl ?_
  obtain ⟨n9, w⟩ := w
  exact sC_X10_margin_l20 F M O J hi hQ hE _ _ _ _ n9 _ _ _ w

theorem cC_X10_margin {G : jj_G} {l : Launch} (J : jj_GJ G l) {x0 : Option Nat} {x1 : Int} {Q : Option Nat → jj_H → Prop} {E : String → Nat → jj_H → Prop} {h : jj_H} {k : Nat} (w : fC_X10_margin (jj_gk G) x0 x1 Q E h k) : jj_Ct G l yX10_margin (ws_ yX10_margin cX10_margin 8 (some ((.array .int)))) 14 642 [.inr (.inr (.inl x0)), .inl x1] h k (jc_r Q) E := by
  refine jj_Ct.of (jK_gs J).1 (by decide +kernel) (Nat.le_of_ble_eq_true rfl) rfl (fun X hG hl F M O hnm => ?_)
  subst hG; subst hl
  exact sC_X10_margin F M O J hnm (fun r h q => ⟨r, rfl, q⟩) (fun _ _ _ q => q) _ _ _ _ w
theorem hC_X10_margin : yX10_margin.cls = RX10 ∧ yX10_margin.cls ≠ "java/lang/invoke/MethodHandle" ∧ yX10_margin.cls ≠ "java/lang/invoke/VarHandle" ∧ (parseMethodDescriptor yX10_margin.desc).map (fun d => d.parameters.length) = some 1 := by decide +kernel
