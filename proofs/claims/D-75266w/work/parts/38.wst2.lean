set_option maxRecDepth 100000
/-! J9_getBytes([BIB)V -/
def fC_J9_getBytes (gk : Nat → Nat) (x0 : Option Nat) (x1 : Option Nat) (x2 : Int) (x3 : Int) (Q : jj_H → Prop) (E : String → Nat → jj_H → Prop) (h : jj_H) (k : Nat) : Prop :=
  jp_is h x0 25 ∧ fC_J9_coder gk x0 (fun r2 h3 =>
  jj_r r2 ∧ jj_r x3 ∧ (¬ r2 = x3 → (
    jp_grS h3 x0 0 (fun g4 =>
    jp_grS h3 x0 0 (fun g5 =>
    jp_aiS h3 g5 (fun g6 =>
    False))))) ∧
  (r2 = x3 → (
    jp_grS h3 x0 0 (fun g7 =>
    jp_grS h3 x0 0 (fun g8 =>
    jp_aiS h3 g8 (fun g9 =>
    jp_acB h3 g7 0 x1 (jj_shl x2 x3) g9 (fun h10 =>
    Q h10))))))) E h 0
theorem sC_J9_getBytes {X : jj_X} {N : Option jj_AV → jj_H → Prop} {XN : String → Nat → jj_H → Prop} (F : jj_F X RJ9 cJ9_getBytes 4) (M : jj_M X (none) 1 60 N XN) (O : jj_no X) (J : jx_G X.1 X.2.2.1) (hi : X.2.2.2.2.2.2.2.2.2.1.name = yJ9_getBytes.name) {Q : jj_H → Prop} {E : String → Nat → jj_H → Prop} (hQ : ∀ h, Q h → N none h) (hE : ∀ e q h, E e q h → XN e q h) (x0 : Option Nat) (x1 : Option Nat) (x2 : Int) (x3 : Int) : ∀ (h : jj_H) (k : Nat), fC_J9_getBytes (jj_gk X.1) x0 x1 x2 x3 Q E h k → jj_J X 4 0 [(0, .inr (.inr (.inl x0))), (1, .inr (.inr (.inl x1))), (2, .inl x2), (3, .inl x3)] [] h k := by
  intro h k w
  unfold fC_J9_getBytes at w
  refine jr_aload_n (pc := 0) F (j := 0) dJ9_getBytes_0 rfl ?_
  obtain ⟨hi9, w⟩ := w
  refine jr_cV (pc := 1) (As := []) (ci := 25) F M (lw_V q377 q378 q379 q131 q380) dJ9_getBytes_1 hC_J9_coder rfl (Nat.le_of_ble_eq_true rfl) (Nat.le_of_ble_eq_true rfl) (Nat.le_of_ble_eq_true rfl) rfl hi9 (Nat.zero_le _) (cC_J9_coder J w) (fun v9 h3 q9 => ?_) (fun E9 q9 h9 w9 => jr_out F M O (hE _ _ _ w9))
  obtain ⟨r2, rfl, w⟩ := q9
  refine jr_iload_n (pc := 4) F (j := 3) dJ9_getBytes_4 rfl ?_
  obtain ⟨hx9, hy9, w1, w2⟩ := w
  refine jr_icmp_ne (pc := 5) (tgt := 28) F hx9 hy9 dJ9_getBytes_5 rfl (fun c9 => ?_) (fun c9 => ?_)
  · have w := w1 c9
    refine jr_aload_n (pc := 28) F (j := 0) dJ9_getBytes_28 rfl ?_
    refine jr_grS (pc := 29) (f := 0) F J (Nat.le_of_ble_eq_true rfl) q522 dJ9_getBytes_29 w (fun g4 w => ?_)
    refine jr_iconst (pc := 32) F dJ9_getBytes_32 ?_
    refine jr_aload_n (pc := 33) F (j := 1) dJ9_getBytes_33 rfl ?_
    refine jr_iload_n (pc := 34) F (j := 2) dJ9_getBytes_34 rfl ?_
    refine jr_aload_n (pc := 35) F (j := 0) dJ9_getBytes_35 rfl ?_
    refine jr_grS (pc := 36) (f := 0) F J (Nat.le_of_ble_eq_true rfl) q522 dJ9_getBytes_36 w (fun g5 w => ?_)
    refine jr_alenS (pc := 39) F J dJ9_getBytes_39 w (fun g6 w => ?_)
    exact (show False from w).elim
  · have w := w2 c9
    refine jr_aload_n (pc := 8) F (j := 0) dJ9_getBytes_8 rfl ?_
    refine jr_grS (pc := 9) (f := 0) F J (Nat.le_of_ble_eq_true rfl) q522 dJ9_getBytes_9 w (fun g7 w => ?_)
    refine jr_iconst (pc := 12) F dJ9_getBytes_12 ?_
    refine jr_aload_n (pc := 13) F (j := 1) dJ9_getBytes_13 rfl ?_
    refine jr_iload_n (pc := 14) F (j := 2) dJ9_getBytes_14 rfl ?_
    refine jr_iload_n (pc := 15) F (j := 3) dJ9_getBytes_15 rfl ?_
    refine jr_ishl (pc := 16) F dJ9_getBytes_16 ?_
    refine jr_aload_n (pc := 17) F (j := 0) dJ9_getBytes_17 rfl ?_
    refine jr_grS (pc := 18) (f := 0) F J (Nat.le_of_ble_eq_true rfl) q522 dJ9_getBytes_18 w (fun g8 w => ?_)
    refine jr_alenS (pc := 21) F J dJ9_getBytes_21 w (fun g9 w => ?_)
    refine jr_acB (pc := 22) F M J q414 q341 q340 q136 (Nat.le_of_ble_eq_true rfl) (Nat.le_of_ble_eq_true rfl) (Nat.le_of_ble_eq_true rfl) dJ9_getBytes_22 w (fun h10 w => ?_)
    refine jr_goto (pc := 25) (tgt := 43) F dJ9_getBytes_25 rfl ?_
    exact jr_vret (pc := 43) F M dJ9_getBytes_43 (hQ _ w)

theorem cC_J9_getBytes {G : jj_G} {l : Launch} (J : jx_G G l) {x0 : Option Nat} {x1 : Option Nat} {x2 : Int} {x3 : Int} {Q : jj_H → Prop} {E : String → Nat → jj_H → Prop} {h : jj_H} {k : Nat} (w : fC_J9_getBytes (jj_gk G) x0 x1 x2 x3 Q E h k) : jj_Ct G l yJ9_getBytes (ws_ yJ9_getBytes cJ9_getBytes 4 (none)) 1 60 [.inr (.inr (.inl x0)), .inr (.inr (.inl x1)), .inl x2, .inl x3] h k (jc_v Q) E := by
  refine jj_Ct.of J.1 (by decide +kernel) (Nat.le_of_ble_eq_true rfl) rfl (fun X hG hl F M O hnm => ?_)
  subst hG; subst hl
  exact sC_J9_getBytes F M O J hnm (fun h q => ⟨rfl, q⟩) (fun _ _ _ q => q) _ _ _ _ _ _ w
theorem hC_J9_getBytes : yJ9_getBytes.cls = RJ9 ∧ yJ9_getBytes.cls ≠ "java/lang/invoke/MethodHandle" ∧ yJ9_getBytes.cls ≠ "java/lang/invoke/VarHandle" ∧ (parseMethodDescriptor yJ9_getBytes.desc).map (fun d => d.parameters.length) = some 3 := by decide +kernel
