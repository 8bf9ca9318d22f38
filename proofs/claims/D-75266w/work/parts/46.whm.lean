set_option maxRecDepth 100000
/-! J19_hash(Ljava/lang/Object;)I -/
def fC_J19_hash (gk : Nat → Nat) (x0 : Option Nat) (Q : Int → jj_H → Prop) (E : String → Nat → jj_H → Prop) (h : jj_H) (k : Nat) : Prop :=
  (¬ x0 = none → (
    jq_J9_hashCode x0 (fun r3 h1 k2 =>
    Q (jj_xor r3 (jj_ushr r3 16)) h1) h k)) ∧
  (x0 = none → (
    Q 0 h))
theorem sC_J19_hash {X : jj_X} {N : Option jj_AV → jj_H → Prop} {XN : String → Nat → jj_H → Prop} (F : jj_F X RJ19 cJ19_hash 2) (M : jj_M X (some (.int)) 4 90 N XN) (O : jj_no X) (J : jx_G X.1 X.2.2.1) (hi : X.2.2.2.2.2.2.2.2.2.1.name = yJ19_hash.name) {Q : Int → jj_H → Prop} {E : String → Nat → jj_H → Prop} (hQ : ∀ r h, Q r h → N (some (.inl r)) h) (hE : ∀ e q h, E e q h → XN e q h) (x0 : Option Nat) : ∀ (h : jj_H) (k : Nat), fC_J19_hash (jj_gk X.1) x0 Q E h k → jj_J X 2 0 [(0, .inr (.inr (.inl x0)))] [] h k := by
  intro h k w
  unfold fC_J19_hash at w
  refine jr_aload_n (pc := 0) F (j := 0) dJ19_hash_0 rfl ?_
  obtain ⟨w1, w2⟩ := w
  refine jr_ifnonnull (pc := 1) (tgt := 8) F dJ19_hash_1 rfl (fun c9 => ?_) (fun c9 => ?_)
  · have w := w1 c9
    refine jr_aload_n (pc := 8) F (j := 0) dJ19_hash_8 rfl ?_
    refine jr_jDR (pc := 9) (n := 0) (As := []) (ci := 25) F M (lw_D q1176 q1178 q1215 q1216 q131 q1217) q1175 dJ19_hash_9 (by decide +kernel) rfl (Nat.le_of_ble_eq_true rfl) (Nat.le_of_ble_eq_true rfl) (Nat.le_of_ble_eq_true rfl) rfl (cb_J9_hashCode J (fr := 3) (lo := 69) (Nat.le_of_ble_eq_true rfl) (Nat.le_of_ble_eq_true rfl) _ _ _ _ w) (fun v9 h1 k2 q9 => ?_)
    obtain ⟨r3, rfl, w⟩ := q9
    refine jr_dup (pc := 12) F dJ19_hash_12 rfl ?_
    refine jr_istore_n (pc := 13) F (vs' := [(1, .inl _), (0, .inr (.inr (.inl _)))]) dJ19_hash_13 (Nat.le_of_ble_eq_true rfl) rfl ?_
    refine jr_iload_n (pc := 14) F (j := 0) dJ19_hash_14 rfl ?_
    refine jr_bipush (pc := 15) F dJ19_hash_15 (by decide +kernel) ?_
    refine jr_iushr (pc := 17) F dJ19_hash_17 ?_
    refine jr_ixor (pc := 18) F dJ19_hash_18 ?_
    exact jr_iret (pc := 19) F M dJ19_hash_19 (hQ _ _ w)
  · have w := w2 c9
    refine jr_iconst (pc := 4) F dJ19_hash_4 ?_
    refine jr_goto (pc := 5) (tgt := 19) F dJ19_hash_5 rfl ?_
    exact jr_iret (pc := 19) F M dJ19_hash_19 (hQ _ _ w)

theorem cC_J19_hash {G : jj_G} {l : Launch} (J : jx_G G l) {x0 : Option Nat} {Q : Int → jj_H → Prop} {E : String → Nat → jj_H → Prop} {h : jj_H} {k : Nat} (w : fC_J19_hash (jj_gk G) x0 Q E h k) : jj_Ct G l yJ19_hash (ws_ yJ19_hash cJ19_hash 2 (some (.int))) 4 90 [.inr (.inr (.inl x0))] h k (jc_i Q) E := by
  refine jj_Ct.of J.1 (by decide +kernel) (Nat.le_of_ble_eq_true rfl) rfl (fun X hG hl F M O hnm => ?_)
  subst hG; subst hl
  exact sC_J19_hash F M O J hnm (fun r h q => ⟨r, rfl, q⟩) (fun _ _ _ q => q) _ _ _ w
theorem hC_J19_hash : yJ19_hash.cls = RJ19 ∧ yJ19_hash.cls ≠ "java/lang/invoke/MethodHandle" ∧ yJ19_hash.cls ≠ "java/lang/invoke/VarHandle" ∧ (parseMethodDescriptor yJ19_hash.desc).map (fun d => d.parameters.length) = some 1 := by decide +kernel
/-! J19_afterNodeAccess(Ljava/util/HashMap$Node;)V -/
def fC_J19_afterNodeAccess (gk : Nat → Nat) (x0 : Option Nat) (x1 : Option Nat) (Q : jj_H → Prop) (E : String → Nat → jj_H → Prop) (h : jj_H) (k : Nat) : Prop :=
  Q h
theorem sC_J19_afterNodeAccess {X : jj_X} {N : Option jj_AV → jj_H → Prop} {XN : String → Nat → jj_H → Prop} (F : jj_F X RJ19 cJ19_afterNodeAccess 2) (M : jj_M X (none) 0 0 N XN) (O : jj_no X) (J : jx_G X.1 X.2.2.1) (hi : X.2.2.2.2.2.2.2.2.2.1.name = yJ19_afterNodeAccess.name) {Q : jj_H → Prop} {E : String → Nat → jj_H → Prop} (hQ : ∀ h, Q h → N none h) (hE : ∀ e q h, E e q h → XN e q h) (x0 : Option Nat) (x1 : Option Nat) : ∀ (h : jj_H) (k : Nat), fC_J19_afterNodeAccess (jj_gk X.1) x0 x1 Q E h k → jj_J X 2 0 [(0, .inr (.inr (.inl x0))), (1, .inr (.inr (.inl x1)))] [] h k := by
  intro h k w
  unfold fC_J19_afterNodeAccess at w
  exact jr_vret (pc := 0) F M dJ19_afterNodeAccess_0 (hQ _ w)

theorem cC_J19_afterNodeAccess {G : jj_G} {l : Launch} (J : jx_G G l) {x0 : Option Nat} {x1 : Option Nat} {Q : jj_H → Prop} {E : String → Nat → jj_H → Prop} {h : jj_H} {k : Nat} (w : fC_J19_afterNodeAccess (jj_gk G) x0 x1 Q E h k) : jj_Ct G l yJ19_afterNodeAccess (ws_ yJ19_afterNodeAccess cJ19_afterNodeAccess 2 (none)) 0 0 [.inr (.inr (.inl x0)), .inr (.inr (.inl x1))] h k (jc_v Q) E := by
  refine jj_Ct.of J.1 (by decide +kernel) (Nat.le_of_ble_eq_true rfl) rfl (fun X hG hl F M O hnm => ?_)
  subst hG; subst hl
  exact sC_J19_afterNodeAccess F M O J hnm (fun h q => ⟨rfl, q⟩) (fun _ _ _ q => q) _ _ _ _ w
theorem hC_J19_afterNodeAccess : yJ19_afterNodeAccess.cls = RJ19 ∧ yJ19_afterNodeAccess.cls ≠ "java/lang/invoke/MethodHandle" ∧ yJ19_afterNodeAccess.cls ≠ "java/lang/invoke/VarHandle" ∧ (parseMethodDescriptor yJ19_afterNodeAccess.desc).map (fun d => d.parameters.length) = some 1 := by decide +kernel
/-! J19_afterNodeInsertion(Z)V -/
def fC_J19_afterNodeInsertion (gk : Nat → Nat) (x0 : Option Nat) (x1 : Int) (Q : jj_H → Prop) (E : String → Nat → jj_H → Prop) (h : jj_H) (k : Nat) : Prop :=
  Q h
theorem sC_J19_afterNodeInsertion {X : jj_X} {N : Option jj_AV → jj_H → Prop} {XN : String → Nat → jj_H → Prop} (F : jj_F X RJ19 cJ19_afterNodeInsertion 2) (M : jj_M X (none) 0 0 N XN) (O : jj_no X) (J : jx_G X.1 X.2.2.1) (hi : X.2.2.2.2.2.2.2.2.2.1.name = yJ19_afterNodeInsertion.name) {Q : jj_H → Prop} {E : String → Nat → jj_H → Prop} (hQ : ∀ h, Q h → N none h) (hE : ∀ e q h, E e q h → XN e q h) (x0 : Option Nat) (x1 : Int) : ∀ (h : jj_H) (k : Nat), fC_J19_afterNodeInsertion (jj_gk X.1) x0 x1 Q E h k → jj_J X 2 0 [(0, .inr (.inr (.inl x0))), (1, .inl x1)] [] h k := by
  intro h k w
  unfold fC_J19_afterNodeInsertion at w
  exact jr_vret (pc := 0) F M dJ19_afterNodeInsertion_0 (hQ _ w)

theorem cC_J19_afterNodeInsertion {G : jj_G} {l : Launch} (J : jx_G G l) {x0 : Option Nat} {x1 : Int} {Q : jj_H → Prop} {E : String → Nat → jj_H → Prop} {h : jj_H} {k : Nat} (w : fC_J19_afterNodeInsertion (jj_gk G) x0 x1 Q E h k) : jj_Ct G l yJ19_afterNodeInsertion (ws_ yJ19_afterNodeInsertion cJ19_afterNodeInsertion 2 (none)) 0 0 [.inr (.inr (.inl x0)), .inl x1] h k (jc_v Q) E := by
  refine jj_Ct.of J.1 (by decide +kernel) (Nat.le_of_ble_eq_true rfl) rfl (fun X hG hl F M O hnm => ?_)
  subst hG; subst hl
  exact sC_J19_afterNodeInsertion F M O J hnm (fun h q => ⟨rfl, q⟩) (fun _ _ _ q => q) _ _ _ _ w
theorem hC_J19_afterNodeInsertion : yJ19_afterNodeInsertion.cls = RJ19 ∧ yJ19_afterNodeInsertion.cls ≠ "java/lang/invoke/MethodHandle" ∧ yJ19_afterNodeInsertion.cls ≠ "java/lang/invoke/VarHandle" ∧ (parseMethodDescriptor yJ19_afterNodeInsertion.desc).map (fun d => d.parameters.length) = some 1 := by decide +kernel
/-! J35_init(ILjava/lang/Object;Ljava/lang/Object;Ljava/util/HashMap$Node;)V -/
def fC_J35_init (gk : Nat → Nat) (x0 : Option Nat) (x1 : Int) (x2 : Option Nat) (x3 : Option Nat) (x4 : Option Nat) (Q : jj_H → Prop) (E : String → Nat → jj_H → Prop) (h : jj_H) (k : Nat) : Prop :=
  jp_so x0 ∧
  jp_pi h x0 17 0 x1 (fun h1 =>
  jp_pr h1 x0 17 1 x2 (fun h2 =>
  jp_pr h2 x0 17 2 x3 (fun h3 =>
  jp_pr h3 x0 17 3 x4 (fun h4 =>
  Q h4))))
theorem sC_J35_init {X : jj_X} {N : Option jj_AV → jj_H → Prop} {XN : String → Nat → jj_H → Prop} (F : jj_F X RJ35 cJ35_init 5) (M : jj_M X (none) 1 20 N XN) (O : jj_no X) (J : jx_G X.1 X.2.2.1) (hi : X.2.2.2.2.2.2.2.2.2.1.name = yJ35_init.name) {Q : jj_H → Prop} {E : String → Nat → jj_H → Prop} (hQ : ∀ h, Q h → N none h) (hE : ∀ e q h, E e q h → XN e q h) (x0 : Option Nat) (x1 : Int) (x2 : Option Nat) (x3 : Option Nat) (x4 : Option Nat) : ∀ (h : jj_H) (k : Nat), fC_J35_init (jj_gk X.1) x0 x1 x2 x3 x4 Q E h k → jj_J X 5 0 [(0, .inr (.inr (.inl x0))), (1, .inl x1), (2, .inr (.inr (.inl x2))), (3, .inr (.inr (.inl x3))), (4, .inr (.inr (.inl x4)))] [] h k := by
  intro h k w
  unfold fC_J35_init at w
  refine jr_aload_n (pc := 0) F (j := 0) dJ35_init_0 rfl ?_
  obtain ⟨ha9, w⟩ := w
  refine jr_objInitO (pc := 1) F M q2087 q192 q193 ha9 (Nat.le_of_ble_eq_true rfl) (Nat.le_of_ble_eq_true rfl) (Nat.le_of_ble_eq_true rfl) dJ35_init_1 ?_
  refine jr_aload_n (pc := 4) F (j := 0) dJ35_init_4 rfl ?_
  refine jr_iload_n (pc := 5) F (j := 1) dJ35_init_5 rfl ?_
  refine jr_piF (pc := 6) (ci := 17) (f := 0) F rfl in_J35 tyJ35_ok nmJ35 (Nat.le_of_ble_eq_true rfl) rfl rfl rfl hi q2088 dJ35_init_6 w (fun h1 w => ?_)
  refine jr_aload_n (pc := 9) F (j := 0) dJ35_init_9 rfl ?_
  refine jr_aload_n (pc := 10) F (j := 2) dJ35_init_10 rfl ?_
  refine jr_prF (pc := 11) (ci := 17) (f := 1) F rfl in_J35 tyJ35_ok nmJ35 (Nat.le_of_ble_eq_true rfl) rfl rfl rfl hi q2092 dJ35_init_11 w (fun h2 w => ?_)
  refine jr_aload_n (pc := 14) F (j := 0) dJ35_init_14 rfl ?_
  refine jr_aload_n (pc := 15) F (j := 3) dJ35_init_15 rfl ?_
  refine jr_pr (pc := 16) (ci := 17) (f := 2) F rfl in_J35 tyJ35_ok nmJ35 (Nat.le_of_ble_eq_true rfl) rfl rfl q2097 dJ35_init_16 w (fun h3 w => ?_)
  refine jr_aload_n (pc := 19) F (j := 0) dJ35_init_19 rfl ?_
  refine jr_aload (pc := 20) F (j := 4) dJ35_init_20 rfl ?_
  refine jr_pr (pc := 22) (ci := 17) (f := 3) F rfl in_J35 tyJ35_ok nmJ35 (Nat.le_of_ble_eq_true rfl) rfl rfl q2099 dJ35_init_22 w (fun h4 w => ?_)
  exact jr_vret (pc := 25) F M dJ35_init_25 (hQ _ w)

theorem cC_J35_init {G : jj_G} {l : Launch} (J : jx_G G l) {x0 : Option Nat} {x1 : Int} {x2 : Option Nat} {x3 : Option Nat} {x4 : Option Nat} {Q : jj_H → Prop} {E : String → Nat → jj_H → Prop} {h : jj_H} {k : Nat} (w : fC_J35_init (jj_gk G) x0 x1 x2 x3 x4 Q E h k) : jj_Ct G l yJ35_init (ws_ yJ35_init cJ35_init 5 (none)) 1 20 [.inr (.inr (.inl x0)), .inl x1, .inr (.inr (.inl x2)), .inr (.inr (.inl x3)), .inr (.inr (.inl x4))] h k (jc_v Q) E := by
  refine jj_Ct.of J.1 (by decide +kernel) (Nat.le_of_ble_eq_true rfl) rfl (fun X hG hl F M O hnm => ?_)
  subst hG; subst hl
  exact sC_J35_init F M O J hnm (fun h q => ⟨rfl, q⟩) (fun _ _ _ q => q) _ _ _ _ _ _ _ w
theorem hC_J35_init : yJ35_init.cls = RJ35 ∧ yJ35_init.cls ≠ "java/lang/invoke/MethodHandle" ∧ yJ35_init.cls ≠ "java/lang/invoke/VarHandle" ∧ (parseMethodDescriptor yJ35_init.desc).map (fun d => d.parameters.length) = some 4 := by decide +kernel
/-! J19_newNode(ILjava/lang/Object;Ljava/lang/Object;Ljava/util/HashMap$Node;)Ljava/util/HashMap$Node; -/
def fC_J19_newNode (gk : Nat → Nat) (x0 : Option Nat) (x1 : Int) (x2 : Option Nat) (x3 : Option Nat) (x4 : Option Nat) (Q : Option Nat → jj_H → Prop) (E : String → Nat → jj_H → Prop) (h : jj_H) (k : Nat) : Prop :=
  jp_nw h k 17 1 df_J35 (fun a1 h2 k3 =>
  jp_so (some a1) ∧ fC_J35_init gk (some a1) x1 x2 x3 x4 (fun h6 =>
  Q (some a1) h6) E h2 0)
theorem sC_J19_newNode {X : jj_X} {N : Option jj_AV → jj_H → Prop} {XN : String → Nat → jj_H → Prop} (F : jj_F X RJ19 cJ19_newNode 5) (M : jj_M X (some ((.object "java/util/HashMap$Node"))) 2 44 N XN) (O : jj_no X) (J : jx_G X.1 X.2.2.1) (hi : X.2.2.2.2.2.2.2.2.2.1.name = yJ19_newNode.name) {Q : Option Nat → jj_H → Prop} {E : String → Nat → jj_H → Prop} (hQ : ∀ r h, Q r h → N (some (.inr (.inr (.inl r)))) h) (hE : ∀ e q h, E e q h → XN e q h) (x0 : Option Nat) (x1 : Int) (x2 : Option Nat) (x3 : Option Nat) (x4 : Option Nat) : ∀ (h : jj_H) (k : Nat), fC_J19_newNode (jj_gk X.1) x0 x1 x2 x3 x4 Q E h k → jj_J X 5 0 [(0, .inr (.inr (.inl x0))), (1, .inl x1), (2, .inr (.inr (.inl x2))), (3, .inr (.inr (.inl x3))), (4, .inr (.inr (.inl x4)))] [] h k := by
  intro h k w
  unfold fC_J19_newNode at w
  refine jr_new (pc := 0) (ci := 17) F rfl in_J35 tyJ35_ok q2068 q2083 q162 dfo_J35 rfl ⟨by decide, by decide⟩ dJ19_newNode_0 w (fun a1 h2 k3 w => ?_)
  refine jr_dup (pc := 3) F dJ19_newNode_3 rfl ?_
  refine jr_iload_n (pc := 4) F (j := 1) dJ19_newNode_4 rfl ?_
  refine jr_aload_n (pc := 5) F (j := 2) dJ19_newNode_5 rfl ?_
  refine jr_aload_n (pc := 6) F (j := 3) dJ19_newNode_6 rfl ?_
  refine jr_aload (pc := 7) F (j := 4) dJ19_newNode_7 rfl ?_
  obtain ⟨hi9, w⟩ := w
  refine jr_cI (pc := 9) (As := [_, _, _, _]) F M q2084 q2085 q162 q2086 dJ19_newNode_9 rfl hC_J35_init.2 rfl (Nat.le_of_ble_eq_true rfl) (Nat.le_of_ble_eq_true rfl) (Nat.le_of_ble_eq_true rfl) hi9 (Nat.zero_le _) (cC_J35_init J w) (fun v9 h6 q9 => ?_) (fun E9 q9 h9 w9 => jr_out F M O (hE _ _ _ w9))
  obtain ⟨rfl, w⟩ := q9
  exact jr_aret (pc := 12) F M (Or.inl ⟨_, rfl⟩) dJ19_newNode_12 (hQ _ _ w)

theorem cC_J19_newNode {G : jj_G} {l : Launch} (J : jx_G G l) {x0 : Option Nat} {x1 : Int} {x2 : Option Nat} {x3 : Option Nat} {x4 : Option Nat} {Q : Option Nat → jj_H → Prop} {E : String → Nat → jj_H → Prop} {h : jj_H} {k : Nat} (w : fC_J19_newNode (jj_gk G) x0 x1 x2 x3 x4 Q E h k) : jj_Ct G l yJ19_newNode (ws_ yJ19_newNode cJ19_newNode 5 (some ((.object "java/util/HashMap$Node")))) 2 44 [.inr (.inr (.inl x0)), .inl x1, .inr (.inr (.inl x2)), .inr (.inr (.inl x3)), .inr (.inr (.inl x4))] h k (jc_r Q) E := by
  refine jj_Ct.of J.1 (by decide +kernel) (Nat.le_of_ble_eq_true rfl) rfl (fun X hG hl F M O hnm => ?_)
  subst hG; subst hl
  exact sC_J19_newNode F M O J hnm (fun r h q => ⟨r, rfl, q⟩) (fun _ _ _ q => q) _ _ _ _ _ _ _ w
theorem hC_J19_newNode : yJ19_newNode.cls = RJ19 ∧ yJ19_newNode.cls ≠ "java/lang/invoke/MethodHandle" ∧ yJ19_newNode.cls ≠ "java/lang/invoke/VarHandle" ∧ (parseMethodDescriptor yJ19_newNode.desc).map (fun d => d.parameters.length) = some 4 := by decide +kernel
/-! J19_resize()[Ljava/util/HashMap$Node; -/
def fC_J19_resize (gk : Nat → Nat) (x0 : Option Nat) (Q : Option Nat → jj_H → Prop) (E : String → Nat → jj_H → Prop) (h : jj_H) (k : Nat) : Prop :=
  jp_gr h x0 16 2 (fun g1 =>
  (¬ g1 = none → (
    False)) ∧
  (g1 = none → (
    jp_gi h x0 16 6 (fun g2 =>
    ((0 : Int) ≤ 0 → (
      jj_r g2 ∧ (g2 ≤ 0 → (
        (¬ (12 : Int) = 0 → (
          jp_pi h x0 16 6 12 (fun h3 =>
          jp_nr h3 k 4 16 (fun a4 h5 k6 =>
          jp_pr h5 x0 16 2 (some a4) (fun h7 =>
          (g1 = none → (
            Q (some a4) h7)) ∧
          (¬ g1 = none → (
            False))))))) ∧
        ((12 : Int) = 0 → (
          False)))) ∧
      (¬ g2 ≤ 0 → (
        False)))) ∧
    (¬ (0 : Int) ≤ 0 → (
      False))))))
theorem sC_J19_resize {X : jj_X} {N : Option jj_AV → jj_H → Prop} {XN : String → Nat → jj_H → Prop} (F : jj_F X RJ19 cJ19_resize 14) (M : jj_M X (some ((.array (.object "java/util/HashMap$Node")))) 0 0 N XN) (O : jj_no X) (J : jx_G X.1 X.2.2.1) (hi : X.2.2.2.2.2.2.2.2.2.1.name = yJ19_resize.name) {Q : Option Nat → jj_H → Prop} {E : String → Nat → jj_H → Prop} (hQ : ∀ r h, Q r h → N (some (.inr (.inr (.inl r)))) h) (hE : ∀ e q h, E e q h → XN e q h) (x0 : Option Nat) : ∀ (h : jj_H) (k : Nat), fC_J19_resize (jj_gk X.1) x0 Q E h k → jj_J X 14 0 [(0, .inr (.inr (.inl x0)))] [] h k := by
  intro h k w
  unfold fC_J19_resize at w
  refine jr_aload_n (pc := 0) F (j := 0) dJ19_resize_0 rfl ?_
  refine jr_gr (pc := 1) (ci := 16) (f := 2) F rfl in_J19 (Nat.le_of_ble_eq_true rfl) q562 dJ19_resize_1 w (fun g1 w => ?_)
  refine jr_astore_n (pc := 4) F (vs' := [(1, .inr (.inr (.inl _))), (0, .inr (.inr (.inl _)))]) dJ19_resize_4 (Nat.le_of_ble_eq_true rfl) rfl ?_
  refine jr_aload_n (pc := 5) F (j := 0) dJ19_resize_5 rfl ?_
  obtain ⟨w1, w2⟩ := w
  refine jr_ifnonnull (pc := 6) (tgt := 13) F dJ19_resize_6 rfl (fun c9 => ?_) (fun c9 => ?_)
  · have w := w1 c9
    exact (show False from w).elim
  · have w := w2 c9
    refine jr_iconst (pc := 9) F dJ19_resize_9 ?_
    refine jr_goto (pc := 10) (tgt := 15) F dJ19_resize_10 rfl ?_
    refine jr_istore_n (pc := 15) F (vs' := [(2, .inl _), (1, .inr (.inr (.inl _))), (0, .inr (.inr (.inl _)))]) dJ19_resize_15 (Nat.le_of_ble_eq_true rfl) rfl ?_
    refine jr_aload_n (pc := 16) F (j := 2) dJ19_resize_16 rfl ?_
    refine jr_gi (pc := 17) (ci := 16) (f := 6) F rfl in_J19 (Nat.le_of_ble_eq_true rfl) q568 dJ19_resize_17 w (fun g2 w => ?_)
    refine jr_istore_n (pc := 20) F (vs' := [(3, .inl _), (2, .inl _), (1, .inr (.inr (.inl _))), (0, .inr (.inr (.inl _)))]) dJ19_resize_20 (Nat.le_of_ble_eq_true rfl) rfl ?_
    refine jr_iconst (pc := 21) F dJ19_resize_21 ?_
    refine jr_istore (pc := 22) F (vs' := [(5, .inl _), (3, .inl _), (2, .inl _), (1, .inr (.inr (.inl _))), (0, .inr (.inr (.inl _)))]) dJ19_resize_22 (Nat.le_of_ble_eq_true rfl) rfl ?_
    refine jr_iload_n (pc := 24) F (j := 2) dJ19_resize_24 rfl ?_
    obtain ⟨w1, w2⟩ := w
    refine jr_if_le (pc := 25) (tgt := 67) F ⟨by decide, by decide⟩ dJ19_resize_25 rfl (fun c9 => ?_) (fun c9 => ?_)
    · have w := w1 c9
      refine jr_iload_n (pc := 67) F (j := 1) dJ19_resize_67 rfl ?_
      obtain ⟨hx9, w1, w2⟩ := w
      refine jr_if_le (pc := 68) (tgt := 77) F hx9 dJ19_resize_68 rfl (fun c9 => ?_) (fun c9 => ?_)
      · have w := w1 c9
        refine jr_bipush (pc := 77) F dJ19_resize_77 (by decide +kernel) ?_
        refine jr_istore (pc := 79) F (vs' := [(4, .inl _), (5, .inl _), (3, .inl _), (2, .inl _), (1, .inr (.inr (.inl _))), (0, .inr (.inr (.inl _)))]) dJ19_resize_79 (Nat.le_of_ble_eq_true rfl) rfl ?_
        refine jr_bipush (pc := 81) F dJ19_resize_81 (by decide +kernel) ?_
        refine jr_istore (pc := 83) F (vs' := [(5, .inl _), (4, .inl _), (3, .inl _), (2, .inl _), (1, .inr (.inr (.inl _))), (0, .inr (.inr (.inl _)))]) dJ19_resize_83 (Nat.le_of_ble_eq_true rfl) rfl ?_
        refine jr_iload (pc := 85) F (j := 0) dJ19_resize_85 rfl ?_
        obtain ⟨w1, w2⟩ := w
        refine jr_if_ne (pc := 87) (tgt := 125) F ⟨by decide, by decide⟩ dJ19_resize_87 rfl (fun c9 => ?_) (fun c9 => ?_)
        · have w := w1 c9
          refine jr_aload_n (pc := 125) F (j := 5) dJ19_resize_125 rfl ?_
          refine jr_iload (pc := 126) F (j := 0) dJ19_resize_126 rfl ?_
          refine jr_pi (pc := 128) (ci := 16) (f := 6) F rfl in_J19 tyJ19_ok nmJ19 (Nat.le_of_ble_eq_true rfl) rfl rfl q568 dJ19_resize_128 w (fun h3 w => ?_)
          refine jr_iload (pc := 131) F (j := 1) dJ19_resize_131 rfl ?_
          refine jr_newR (pc := 133) F (fun _ => rfl) q2068 (jx_ao4 J) dJ19_resize_133 w (fun a4 h5 k6 w => ?_)
          refine jr_astore (pc := 136) F (vs' := [(6, .inr (.inr (.inl _))), (5, .inl _), (4, .inl _), (3, .inl _), (2, .inl _), (1, .inr (.inr (.inl _))), (0, .inr (.inr (.inl _)))]) dJ19_resize_136 (Nat.le_of_ble_eq_true rfl) rfl ?_
          refine jr_aload_n (pc := 138) F (j := 6) dJ19_resize_138 rfl ?_
          refine jr_aload (pc := 139) F (j := 0) dJ19_resize_139 rfl ?_
          refine jr_pr (pc := 141) (ci := 16) (f := 2) F rfl in_J19 tyJ19_ok nmJ19 (Nat.le_of_ble_eq_true rfl) rfl rfl q562 dJ19_resize_141 w (fun h7 w => ?_)
          refine jr_aload_n (pc := 144) F (j := 5) dJ19_resize_144 rfl ?_
          obtain ⟨w1, w2⟩ := w
          refine jr_ifnull (pc := 145) (tgt := 353) F dJ19_resize_145 rfl (fun c9 => ?_) (fun c9 => ?_)
          · have w := w1 c9
            refine jr_aload (pc := 353) F (j := 0) dJ19_resize_353 rfl ?_
            exact jr_aret (pc := 355) F M (Or.inr ⟨_, rfl⟩) dJ19_resize_355 (hQ _ _ w)
          · have w := w2 c9
            exact (show False from w).elim
        · have w := w2 c9
          exact (show False from w).elim
      · have w := w2 c9
        exact (show False from w).elim
    · have w := w2 c9
      exact (show False from w).elim

theorem cC_J19_resize {G : jj_G} {l : Launch} (J : jx_G G l) {x0 : Option Nat} {Q : Option Nat → jj_H → Prop} {E : String → Nat → jj_H → Prop} {h : jj_H} {k : Nat} (w : fC_J19_resize (jj_gk G) x0 Q E h k) : jj_Ct G l yJ19_resize (ws_ yJ19_resize cJ19_resize 14 (some ((.array (.object "java/util/HashMap$Node"))))) 0 0 [.inr (.inr (.inl x0))] h k (jc_r Q) E := by
  refine jj_Ct.of J.1 (by decide +kernel) (Nat.le_of_ble_eq_true rfl) rfl (fun X hG hl F M O hnm => ?_)
  subst hG; subst hl
  exact sC_J19_resize F M O J hnm (fun r h q => ⟨r, rfl, q⟩) (fun _ _ _ q => q) _ _ _ w
theorem hC_J19_resize : yJ19_resize.cls = RJ19 ∧ yJ19_resize.cls ≠ "java/lang/invoke/MethodHandle" ∧ yJ19_resize.cls ≠ "java/lang/invoke/VarHandle" ∧ (parseMethodDescriptor yJ19_resize.desc).map (fun d => d.parameters.length) = some 0 := by decide +kernel
/-! J19_putVal(ILjava/lang/Object;Ljava/lang/Object;ZZ)Ljava/lang/Object; -/
def fC_J19_putVal_j259 (gk : Nat → Nat) (x0 : Option Nat) (x5 : Int) (Q : Option Nat → jj_H → Prop) (E : String → Nat → jj_H → Prop) (h : jj_H) (k : Nat) : Prop :=
  jp_gi h x0 16 5 (fun g1 =>
  jp_pi h x0 16 5 (g1 + 1) (fun h2 =>
  jp_gi h2 x0 16 4 (fun g3 =>
  jp_pi h2 x0 16 4 (g3 + 1) (fun h4 =>
  jp_gi h4 x0 16 6 (fun g5 =>
  jj_r (g3 + 1) ∧ jj_r g5 ∧ ((g3 + 1) ≤ g5 → (
    jp_is h4 x0 16 ∧ fC_J19_afterNodeInsertion gk x0 x5 (fun h8 =>
    Q none h8) E h4 0)) ∧
  (¬ (g3 + 1) ≤ g5 → (
    False)))))))
def fC_J19_putVal_j250 (gk : Nat → Nat) (x0 : Option Nat) (x10 : Option Nat) (x12 : Option Nat) (Q : Option Nat → jj_H → Prop) (E : String → Nat → jj_H → Prop) (h : jj_H) (k : Nat) : Prop :=
  jp_is h x0 16 ∧ fC_J19_afterNodeAccess gk x0 x10 (fun h11 =>
  Q x12 h11) E h 0
def fC_J19_putVal_j244 (gk : Nat → Nat) (x0 : Option Nat) (x3 : Option Nat) (x10 : Option Nat) (x12 : Option Nat) (Q : Option Nat → jj_H → Prop) (E : String → Nat → jj_H → Prop) (h : jj_H) (k : Nat) : Prop :=
  jp_pr h x10 17 2 x3 (fun h12 =>
  fC_J19_putVal_j250 gk x0 x10 x12 Q E h12 k)
def fC_J19_putVal_j222 (gk : Nat → Nat) (x0 : Option Nat) (x3 : Option Nat) (x4 : Int) (x5 : Int) (x10 : Option Nat) (Q : Option Nat → jj_H → Prop) (E : String → Nat → jj_H → Prop) (h : jj_H) (k : Nat) : Prop :=
  (x10 = none → (
    fC_J19_putVal_j259 gk x0 x5 Q E h k)) ∧
  (¬ x10 = none → (
    jp_gr h x10 17 2 (fun g13 =>
    jj_r x4 ∧ (x4 = 0 → (
      fC_J19_putVal_j244 gk x0 x3 x10 g13 Q E h k)) ∧
    (¬ x4 = 0 → (
      (¬ g13 = none → (
        fC_J19_putVal_j250 gk x0 x10 g13 Q E h k)) ∧
      (g13 = none → (
        fC_J19_putVal_j244 gk x0 x3 x10 g13 Q E h k)))))))
def fC_J19_putVal_l134 (gk : Nat → Nat) (x0 : Option Nat) (x1 : Int) (x2 : Option Nat) (x3 : Option Nat) (x4 : Int) (x5 : Int) (Q : Option Nat → jj_H → Prop) (E : String → Nat → jj_H → Prop) : Nat → Option Nat → Int → jj_H → Nat → Prop
  | 0, _, _, _, _ => False
  | n + 1, x7, x12, h, k =>
  jp_gr h x7 17 3 (fun g14 =>
  (¬ g14 = none → (
    jp_gi h g14 17 0 (fun g15 =>
    jj_r g15 ∧ jj_r x1 ∧ (¬ g15 = x1 → (
      ∀ v16, v16 = x12 + 1 →
      fC_J19_putVal_l134 gk x0 x1 x2 x3 x4 x5 Q E n g14 v16 h k)) ∧
    (g15 = x1 → (
      jp_gr h g14 17 1 (fun g17 =>
      (g17 = x2 → (
        fC_J19_putVal_j222 gk x0 x3 x4 x5 g14 Q E h k)) ∧
      (¬ g17 = x2 → (
        (x2 = none → (
          ∀ v18, v18 = x12 + 1 →
          fC_J19_putVal_l134 gk x0 x1 x2 x3 x4 x5 Q E n g14 v18 h k)) ∧
        (¬ x2 = none → (
          jq_J9_equals x2 g17 (fun r21 h19 k20 =>
          jj_r r21 ∧ (r21 = 0 → (
            ∀ v22, v22 = x12 + 1 →
            fC_J19_putVal_l134 gk x0 x1 x2 x3 x4 x5 Q E n g14 v22 h19 k20)) ∧
          (¬ r21 = 0 → (
            fC_J19_putVal_j222 gk x0 x3 x4 x5 g14 Q E h19 k20))) h k)))))))))) ∧
  (g14 = none → (
    jp_is h x0 16 ∧ ∃ c23, c23 ≤ k ∧ fC_J19_newNode gk x0 x1 x2 x3 none (fun r24 h25 =>
    jp_pr h25 x7 17 3 r24 (fun h26 =>
    jj_r x12 ∧ (x12 < 7 → (
      fC_J19_putVal_j222 gk x0 x3 x4 x5 g14 Q E h26 (k - c23))) ∧
    (¬ x12 < 7 → (
      False)))) E h c23)))
def fC_J19_putVal_j104 (gk : Nat → Nat) (x0 : Option Nat) (x1 : Int) (x2 : Option Nat) (x3 : Option Nat) (x4 : Int) (x5 : Int) (x7 : Option Nat) (Q : Option Nat → jj_H → Prop) (E : String → Nat → jj_H → Prop) (h : jj_H) (k : Nat) : Prop :=
  jp_is h x7 17 ∧
  jj_r (0 : Int) ∧ ((0 : Int) = 0 → (
    ∃ n9, fC_J19_putVal_l134 gk x0 x1 x2 x3 x4 x5 Q E n9 x7 0 h k)) ∧
  (¬ (0 : Int) = 0 → (
    False))
def fC_J19_putVal_j97 (gk : Nat → Nat) (x0 : Option Nat) (x3 : Option Nat) (x4 : Int) (x5 : Int) (x7 : Option Nat) (Q : Option Nat → jj_H → Prop) (E : String → Nat → jj_H → Prop) (h : jj_H) (k : Nat) : Prop :=
  fC_J19_putVal_j222 gk x0 x3 x4 x5 x7 Q E h k
def fC_J19_putVal_j29 (gk : Nat → Nat) (x0 : Option Nat) (x1 : Int) (x2 : Option Nat) (x3 : Option Nat) (x4 : Int) (x5 : Int) (x6 : Option Nat) (x8 : Int) (Q : Option Nat → jj_H → Prop) (E : String → Nat → jj_H → Prop) (h : jj_H) (k : Nat) : Prop :=
  ∀ v27, v27 = jj_and (x8 - 1) x1 →
  jp_rl h x6 4 (jj_and (x8 - 1) x1) (fun g28 =>
  (¬ g28 = none → (
    jp_gi h g28 17 0 (fun g29 =>
    jj_r g29 ∧ jj_r x1 ∧ (¬ g29 = x1 → (
      fC_J19_putVal_j104 gk x0 x1 x2 x3 x4 x5 g28 Q E h k)) ∧
    (g29 = x1 → (
      jp_gr h g28 17 1 (fun g30 =>
      (g30 = x2 → (
        fC_J19_putVal_j97 gk x0 x3 x4 x5 g28 Q E h k)) ∧
      (¬ g30 = x2 → (
        (x2 = none → (
          fC_J19_putVal_j104 gk x0 x1 x2 x3 x4 x5 g28 Q E h k)) ∧
        (¬ x2 = none → (
          jq_J9_equals x2 g30 (fun r33 h31 k32 =>
          jj_r r33 ∧ (r33 = 0 → (
            fC_J19_putVal_j104 gk x0 x1 x2 x3 x4 x5 g28 Q E h31 k32)) ∧
          (¬ r33 = 0 → (
            fC_J19_putVal_j97 gk x0 x3 x4 x5 g28 Q E h31 k32))) h k)))))))))) ∧
  (g28 = none → (
    jp_is h x0 16 ∧ ∃ c34, c34 ≤ k ∧ fC_J19_newNode gk x0 x1 x2 x3 none (fun r35 h36 =>
    jp_rs h36 x6 4 17 v27 r35 (fun h37 =>
    fC_J19_putVal_j259 gk x0 x5 Q E h37 (k - c34))) E h c34)))
def fC_J19_putVal_j19 (gk : Nat → Nat) (x0 : Option Nat) (x1 : Int) (x2 : Option Nat) (x3 : Option Nat) (x4 : Int) (x5 : Int) (Q : Option Nat → jj_H → Prop) (E : String → Nat → jj_H → Prop) (h : jj_H) (k : Nat) : Prop :=
  jp_is h x0 16 ∧ ∃ c38, c38 ≤ k ∧ fC_J19_resize gk x0 (fun r39 h40 =>
  jp_ar h40 r39 4 (fun g41 =>
  fC_J19_putVal_j29 gk x0 x1 x2 x3 x4 x5 r39 g41 Q E h40 (k - c38))) E h c38
def fC_J19_putVal (gk : Nat → Nat) (x0 : Option Nat) (x1 : Int) (x2 : Option Nat) (x3 : Option Nat) (x4 : Int) (x5 : Int) (Q : Option Nat → jj_H → Prop) (E : String → Nat → jj_H → Prop) (h : jj_H) (k : Nat) : Prop :=
  jp_gr h x0 16 2 (fun g42 =>
  (g42 = none → (
    fC_J19_putVal_j19 gk x0 x1 x2 x3 x4 x5 Q E h k)) ∧
  (¬ g42 = none → (
    jp_ar h g42 4 (fun g43 =>
    jj_r g43 ∧ (¬ g43 = 0 → (
      fC_J19_putVal_j29 gk x0 x1 x2 x3 x4 x5 g42 g43 Q E h k)) ∧
    (g43 = 0 → (
      fC_J19_putVal_j19 gk x0 x1 x2 x3 x4 x5 Q E h k))))))
theorem sC_J19_putVal_j259 {X : jj_X} {N : Option jj_AV → jj_H → Prop} {XN : String → Nat → jj_H → Prop} (F : jj_F X RJ19 cJ19_putVal 13) (M : jj_M X (some ((.object "java/lang/Object"))) 3 68 N XN) (O : jj_no X) (J : jx_G X.1 X.2.2.1) (hi : X.2.2.2.2.2.2.2.2.2.1.name = yJ19_putVal.name) {Q : Option Nat → jj_H → Prop} {E : String → Nat → jj_H → Prop} (hQ : ∀ r h, Q r h → N (some (.inr (.inr (.inl r)))) h) (hE : ∀ e q h, E e q h → XN e q h) (x0 : Option Nat) (x5 : Int) : ∀ (h : jj_H) (k : Nat), fC_J19_putVal_j259 (jj_gk X.1) x0 x5 Q E h k → jj_J X 13 259 [(0, .inr (.inr (.inl x0))), (5, .inl x5)] [] h k := by
  intro h k w
  unfold fC_J19_putVal_j259 at w
  refine jr_aload_n (pc := 259) F (j := 0) dJ19_putVal_259 rfl ?_
  refine jr_dup (pc := 260) F dJ19_putVal_260 rfl ?_
  refine jr_gi (pc := 261) (ci := 16) (f := 5) F rfl in_J19 (Nat.le_of_ble_eq_true rfl) q567 dJ19_putVal_261 w (fun g1 w => ?_)
  refine jr_iconst (pc := 264) F dJ19_putVal_264 ?_
  refine jr_iadd (pc := 265) F dJ19_putVal_265 ?_
  refine jr_pi (pc := 266) (ci := 16) (f := 5) F rfl in_J19 tyJ19_ok nmJ19 (Nat.le_of_ble_eq_true rfl) rfl rfl q567 dJ19_putVal_266 w (fun h2 w => ?_)
  refine jr_aload_n (pc := 269) F (j := 0) dJ19_putVal_269 rfl ?_
  refine jr_dup (pc := 270) F dJ19_putVal_270 rfl ?_
  refine jr_gi (pc := 271) (ci := 16) (f := 4) F rfl in_J19 (Nat.le_of_ble_eq_true rfl) q565 dJ19_putVal_271 w (fun g3 w => ?_)
  refine jr_iconst (pc := 274) F dJ19_putVal_274 ?_
  refine jr_iadd (pc := 275) F dJ19_putVal_275 ?_
  refine jr_dup_x1 (pc := 276) F dJ19_putVal_276 rfl rfl ?_
  refine jr_pi (pc := 277) (ci := 16) (f := 4) F rfl in_J19 tyJ19_ok nmJ19 (Nat.le_of_ble_eq_true rfl) rfl rfl q565 dJ19_putVal_277 w (fun h4 w => ?_)
  refine jr_aload_n (pc := 280) F (j := 0) dJ19_putVal_280 rfl ?_
  refine jr_gi (pc := 281) (ci := 16) (f := 6) F rfl in_J19 (Nat.le_of_ble_eq_true rfl) q568 dJ19_putVal_281 w (fun g5 w => ?_)
  obtain ⟨hx9, hy9, w1, w2⟩ := w
  refine jr_icmp_le (pc := 284) (tgt := 292) F hx9 hy9 dJ19_putVal_284 rfl (fun c9 => ?_) (fun c9 => ?_)
  · have w := w1 c9
    refine jr_aload_n (pc := 292) F (j := 0) dJ19_putVal_292 rfl ?_
    refine jr_iload (pc := 293) F (j := 1) dJ19_putVal_293 rfl ?_
    obtain ⟨hi9, w⟩ := w
    refine jr_cV (pc := 295) (As := [_]) (ci := 16) F M (lw_V q2191 q2192 q2193 q142 q2194) dJ19_putVal_295 hC_J19_afterNodeInsertion rfl (Nat.le_of_ble_eq_true rfl) (Nat.le_of_ble_eq_true rfl) (Nat.le_of_ble_eq_true rfl) rfl hi9 (Nat.zero_le _) (cC_J19_afterNodeInsertion J w) (fun v9 h8 q9 => ?_) (fun E9 q9 h9 w9 => jr_out F M O (hE _ _ _ w9))
    obtain ⟨rfl, w⟩ := q9
    refine jr_null (pc := 298) F dJ19_putVal_298 ?_
    exact jr_aret (pc := 299) F M (Or.inl ⟨_, rfl⟩) dJ19_putVal_299 (hQ _ _ w)
  · have w := w2 c9
    exact (show False from w).elim

theorem sC_J19_putVal_j250 {X : jj_X} {N : Option jj_AV → jj_H → Prop} {XN : String → Nat → jj_H → Prop} (F : jj_F X RJ19 cJ19_putVal 13) (M : jj_M X (some ((.object "java/lang/Object"))) 3 68 N XN) (O : jj_no X) (J : jx_G X.1 X.2.2.1) (hi : X.2.2.2.2.2.2.2.2.2.1.name = yJ19_putVal.name) {Q : Option Nat → jj_H → Prop} {E : String → Nat → jj_H → Prop} (hQ : ∀ r h, Q r h → N (some (.inr (.inr (.inl r)))) h) (hE : ∀ e q h, E e q h → XN e q h) (x0 : Option Nat) (x10 : Option Nat) (x12 : Option Nat) : ∀ (h : jj_H) (k : Nat), fC_J19_putVal_j250 (jj_gk X.1) x0 x10 x12 Q E h k → jj_J X 13 250 [(0, .inr (.inr (.inl x0))), (10, .inr (.inr (.inl x10))), (12, .inr (.inr (.inl x12)))] [] h k := by
  intro h k w
  unfold fC_J19_putVal_j250 at w
  refine jr_aload_n (pc := 250) F (j := 0) dJ19_putVal_250 rfl ?_
  refine jr_aload (pc := 251) F (j := 1) dJ19_putVal_251 rfl ?_
  obtain ⟨hi9, w⟩ := w
  refine jr_cV (pc := 253) (As := [_]) (ci := 16) F M (lw_V q2187 q2188 q2189 q142 q2190) dJ19_putVal_253 hC_J19_afterNodeAccess rfl (Nat.le_of_ble_eq_true rfl) (Nat.le_of_ble_eq_true rfl) (Nat.le_of_ble_eq_true rfl) rfl hi9 (Nat.zero_le _) (cC_J19_afterNodeAccess J w) (fun v9 h11 q9 => ?_) (fun E9 q9 h9 w9 => jr_out F M O (hE _ _ _ w9))
  obtain ⟨rfl, w⟩ := q9
  refine jr_aload (pc := 256) F (j := 2) dJ19_putVal_256 rfl ?_
  exact jr_aret (pc := 258) F M (Or.inl ⟨_, rfl⟩) dJ19_putVal_258 (hQ _ _ w)

theorem sC_J19_putVal_j244 {X : jj_X} {N : Option jj_AV → jj_H → Prop} {XN : String → Nat → jj_H → Prop} (F : jj_F X RJ19 cJ19_putVal 13) (M : jj_M X (some ((.object "java/lang/Object"))) 3 68 N XN) (O : jj_no X) (J : jx_G X.1 X.2.2.1) (hi : X.2.2.2.2.2.2.2.2.2.1.name = yJ19_putVal.name) {Q : Option Nat → jj_H → Prop} {E : String → Nat → jj_H → Prop} (hQ : ∀ r h, Q r h → N (some (.inr (.inr (.inl r)))) h) (hE : ∀ e q h, E e q h → XN e q h) (x0 : Option Nat) (x3 : Option Nat) (x10 : Option Nat) (x12 : Option Nat) : ∀ (h : jj_H) (k : Nat), fC_J19_putVal_j244 (jj_gk X.1) x0 x3 x10 x12 Q E h k → jj_J X 13 244 [(0, .inr (.inr (.inl x0))), (3, .inr (.inr (.inl x3))), (10, .inr (.inr (.inl x10))), (12, .inr (.inr (.inl x12)))] [] h k := by
  intro h k w
  unfold fC_J19_putVal_j244 at w
  refine jr_aload (pc := 244) F (j := 2) dJ19_putVal_244 rfl ?_
  refine jr_aload_n (pc := 246) F (j := 1) dJ19_putVal_246 rfl ?_
  refine jr_pr (pc := 247) (ci := 17) (f := 2) F rfl in_J35 tyJ35_ok nmJ35 (Nat.le_of_ble_eq_true rfl) rfl rfl q2098 dJ19_putVal_247 w (fun h12 w => ?_)
  refine jj_J.sub [0, 2, 3] rfl ?_
  exact sC_J19_putVal_j250 F M O J hi hQ hE _ _ _ _ _ w

theorem sC_J19_putVal_j222 {X : jj_X} {N : Option jj_AV → jj_H → Prop} {XN : String → Nat → jj_H → Prop} (F : jj_F X RJ19 cJ19_putVal 13) (M : jj_M X (some ((.object "java/lang/Object"))) 3 68 N XN) (O : jj_no X) (J : jx_G X.1 X.2.2.1) (hi : X.2.2.2.2.2.2.2.2.2.1.name = yJ19_putVal.name) {Q : Option Nat → jj_H → Prop} {E : String → Nat → jj_H → Prop} (hQ : ∀ r h, Q r h → N (some (.inr (.inr (.inl r)))) h) (hE : ∀ e q h, E e q h → XN e q h) (x0 : Option Nat) (x3 : Option Nat) (x4 : Int) (x5 : Int) (x10 : Option Nat) : ∀ (h : jj_H) (k : Nat), fC_J19_putVal_j222 (jj_gk X.1) x0 x3 x4 x5 x10 Q E h k → jj_J X 13 222 [(0, .inr (.inr (.inl x0))), (3, .inr (.inr (.inl x3))), (4, .inl x4), (5, .inl x5), (10, .inr (.inr (.inl x10)))] [] h k := by
  intro h k w
  unfold fC_J19_putVal_j222 at w
  refine jr_aload (pc := 222) F (j := 4) dJ19_putVal_222 rfl ?_
  obtain ⟨w1, w2⟩ := w
  refine jr_ifnull (pc := 224) (tgt := 259) F dJ19_putVal_224 rfl (fun c9 => ?_) (fun c9 => ?_)
  · have w := w1 c9
    refine jj_J.sub [0, 3] rfl ?_
    exact sC_J19_putVal_j259 F M O J hi hQ hE _ _ _ _ w
  · have w := w2 c9
    refine jr_aload (pc := 227) F (j := 4) dJ19_putVal_227 rfl ?_
    refine jr_gr (pc := 229) (ci := 17) (f := 2) F rfl in_J35 (Nat.le_of_ble_eq_true rfl) q2098 dJ19_putVal_229 w (fun g13 w => ?_)
    refine jr_astore (pc := 232) F (vs' := [(12, .inr (.inr (.inl _))), (0, .inr (.inr (.inl _))), (3, .inr (.inr (.inl _))), (4, .inl _), (5, .inl _), (10, .inr (.inr (.inl _)))]) dJ19_putVal_232 (Nat.le_of_ble_eq_true rfl) rfl ?_
    refine jr_iload (pc := 234) F (j := 3) dJ19_putVal_234 rfl ?_
    obtain ⟨hx9, w1, w2⟩ := w
    refine jr_if_eq (pc := 236) (tgt := 244) F hx9 dJ19_putVal_236 rfl (fun c9 => ?_) (fun c9 => ?_)
    · have w := w1 c9
      refine jj_J.sub [1, 2, 5, 0] rfl ?_
      exact sC_J19_putVal_j244 F M O J hi hQ hE _ _ _ _ _ _ w
    · have w := w2 c9
      refine jr_aload (pc := 239) F (j := 0) dJ19_putVal_239 rfl ?_
      obtain ⟨w1, w2⟩ := w
      refine jr_ifnonnull (pc := 241) (tgt := 250) F dJ19_putVal_241 rfl (fun c9 => ?_) (fun c9 => ?_)
      · have w := w1 c9
        refine jj_J.sub [1, 5, 0] rfl ?_
        exact sC_J19_putVal_j250 F M O J hi hQ hE _ _ _ _ _ w
      · have w := w2 c9
        refine jj_J.sub [1, 2, 5, 0] rfl ?_
        exact sC_J19_putVal_j244 F M O J hi hQ hE _ _ _ _ _ _ w

theorem sC_J19_putVal_l134 {X : jj_X} {N : Option jj_AV → jj_H → Prop} {XN : String → Nat → jj_H → Prop} (F : jj_F X RJ19 cJ19_putVal 13) (M : jj_M X (some ((.object "java/lang/Object"))) 3 68 N XN) (O : jj_no X) (J : jx_G X.1 X.2.2.1) (hi : X.2.2.2.2.2.2.2.2.2.1.name = yJ19_putVal.name) {Q : Option Nat → jj_H → Prop} {E : String → Nat → jj_H → Prop} (hQ : ∀ r h, Q r h → N (some (.inr (.inr (.inl r)))) h) (hE : ∀ e q h, E e q h → XN e q h) (x0 : Option Nat) (x1 : Int) (x2 : Option Nat) (x3 : Option Nat) (x4 : Int) (x5 : Int) : ∀ (n : Nat) (x7 : Option Nat) (x12 : Int) (h : jj_H) (k : Nat), fC_J19_putVal_l134 (jj_gk X.1) x0 x1 x2 x3 x4 x5 Q E n x7 x12 h k → jj_J X 13 134 [(0, .inr (.inr (.inl x0))), (1, .inl x1), (2, .inr (.inr (.inl x2))), (3, .inr (.inr (.inl x3))), (4, .inl x4), (5, .inl x5), (7, .inr (.inr (.inl x7))), (12, .inl x12)] [] h k := by
  intro n
  induction n with
  | zero =>
    intro x7 x12 h k w
    exact (show False from w).elim
  | succ n ih =>
    intro x7 x12 h k w
    rw [fC_J19_putVal_l134] at w
    refine jr_aload (pc := 134) F (j := 6) dJ19_putVal_134 rfl ?_
    refine jr_gr (pc := 136) (ci := 17) (f := 3) F rfl in_J35 (Nat.le_of_ble_eq_true rfl) q2104 dJ19_putVal_136 w (fun g14 w => ?_)
    refine jr_dup (pc := 139) F dJ19_putVal_139 rfl ?_
    refine jr_astore (pc := 140) F (vs' := [(10, .inr (.inr (.inl _))), (0, .inr (.inr (.inl _))), (1, .inl _), (2, .inr (.inr (.inl _))), (3, .inr (.inr (.inl _))), (4, .inl _), (5, .inl _), (7, .inr (.inr (.inl _))), (12, .inl _)]) dJ19_putVal_140 (Nat.le_of_ble_eq_true rfl) rfl ?_
    obtain ⟨w1, w2⟩ := w
    refine jr_ifnonnull (pc := 142) (tgt := 175) F dJ19_putVal_142 rfl (fun c9 => ?_) (fun c9 => ?_)
    · have w := w1 c9
      refine jr_aload (pc := 175) F (j := 0) dJ19_putVal_175 rfl ?_
      refine jr_gi (pc := 177) (ci := 17) (f := 0) F rfl in_J35 (Nat.le_of_ble_eq_true rfl) q2091 dJ19_putVal_177 w (fun g15 w => ?_)
      refine jr_iload_n (pc := 180) F (j := 2) dJ19_putVal_180 rfl ?_
      obtain ⟨hx9, hy9, w1, w2⟩ := w
      refine jr_icmp_ne (pc := 181) (tgt := 212) F hx9 hy9 dJ19_putVal_181 rfl (fun c9 => ?_) (fun c9 => ?_)
      · have w := w1 c9
        refine jr_aload (pc := 212) F (j := 0) dJ19_putVal_212 rfl ?_
        refine jr_astore (pc := 214) F (vs' := [(7, .inr (.inr (.inl _))), (10, .inr (.inr (.inl _))), (0, .inr (.inr (.inl _))), (1, .inl _), (2, .inr (.inr (.inl _))), (3, .inr (.inr (.inl _))), (4, .inl _), (5, .inl _), (12, .inl _)]) dJ19_putVal_214 (Nat.le_of_ble_eq_true rfl) rfl ?_
        have w := w _ rfl
        refine jr_iinc (pc := 216) F (j := 8) (vs' := [(12, .inl _), (7, .inr (.inr (.inl _))), (10, .inr (.inr (.inl _))), (0, .inr (.inr (.inl _))), (1, .inl _), (2, .inr (.inr (.inl _))), (3, .inr (.inr (.inl _))), (4, .inl _), (5, .inl _)]) dJ19_putVal_216 rfl rfl (Nat.le_of_ble_eq_true rfl) rfl ?_
        refine jr_goto (pc := 219) (tgt := 134) F dJ19_putVal_219 rfl ?_
        refine jj_J.sub [3, 4, 5, 6, 7, 8, 1, 0] rfl ?_
        exact ih _ _ _ _ w
      · have w := w2 c9
        refine jr_aload (pc := 184) F (j := 0) dJ19_putVal_184 rfl ?_
        refine jr_gr (pc := 186) (ci := 17) (f := 1) F rfl in_J35 (Nat.le_of_ble_eq_true rfl) q2096 dJ19_putVal_186 w (fun g17 w => ?_)
        refine jr_dup (pc := 189) F dJ19_putVal_189 rfl ?_
        refine jr_astore (pc := 190) F (vs' := [(11, .inr (.inr (.inl _))), (10, .inr (.inr (.inl _))), (0, .inr (.inr (.inl _))), (1, .inl _), (2, .inr (.inr (.inl _))), (3, .inr (.inr (.inl _))), (4, .inl _), (5, .inl _), (7, .inr (.inr (.inl _))), (12, .inl _)]) dJ19_putVal_190 (Nat.le_of_ble_eq_true rfl) rfl ?_
        refine jr_aload_n (pc := 192) F (j := 4) dJ19_putVal_192 rfl ?_
        obtain ⟨w1, w2⟩ := w
        refine jr_acmp_eq (pc := 193) (tgt := 222) F dJ19_putVal_193 rfl (fun c9 => ?_) (fun c9 => ?_)
        · have w := w1 c9
          refine jj_J.sub [2, 5, 6, 7, 1] rfl ?_
          exact sC_J19_putVal_j222 F M O J hi hQ hE _ _ _ _ _ _ _ w
        · have w := w2 c9
          refine jr_aload_n (pc := 196) F (j := 4) dJ19_putVal_196 rfl ?_
          obtain ⟨w1, w2⟩ := w
          refine jr_ifnull (pc := 197) (tgt := 212) F dJ19_putVal_197 rfl (fun c9 => ?_) (fun c9 => ?_)
          · have w := w1 c9
            refine jr_aload (pc := 212) F (j := 1) dJ19_putVal_212 rfl ?_
            refine jr_astore (pc := 214) F (vs' := [(7, .inr (.inr (.inl _))), (11, .inr (.inr (.inl _))), (10, .inr (.inr (.inl _))), (0, .inr (.inr (.inl _))), (1, .inl _), (2, .inr (.inr (.inl _))), (3, .inr (.inr (.inl _))), (4, .inl _), (5, .inl _), (12, .inl _)]) dJ19_putVal_214 (Nat.le_of_ble_eq_true rfl) rfl ?_
            have w := w _ rfl
            refine jr_iinc (pc := 216) F (j := 9) (vs' := [(12, .inl _), (7, .inr (.inr (.inl _))), (11, .inr (.inr (.inl _))), (10, .inr (.inr (.inl _))), (0, .inr (.inr (.inl _))), (1, .inl _), (2, .inr (.inr (.inl _))), (3, .inr (.inr (.inl _))), (4, .inl _), (5, .inl _)]) dJ19_putVal_216 rfl rfl (Nat.le_of_ble_eq_true rfl) rfl ?_
            refine jr_goto (pc := 219) (tgt := 134) F dJ19_putVal_219 rfl ?_
            refine jj_J.sub [4, 5, 6, 7, 8, 9, 1, 0] rfl ?_
            exact ih _ _ _ _ w
          · have w := w2 c9
            refine jr_aload_n (pc := 200) F (j := 4) dJ19_putVal_200 rfl ?_
            refine jr_aload (pc := 201) F (j := 0) dJ19_putVal_201 rfl ?_
            refine jr_jUR (pc := 203) (n := 1) (As := [_]) (ci := 25) F M (lw_U q1281 q1283 q1282 q1317 q713 q131 q715) q1322 dJ19_putVal_203 (by decide +kernel) rfl (Nat.le_of_ble_eq_true rfl) (Nat.le_of_ble_eq_true rfl) (Nat.le_of_ble_eq_true rfl) rfl (cb_J9_equals J (fr := 1) (lo := 22) (Nat.le_of_ble_eq_true rfl) (Nat.le_of_ble_eq_true rfl) _ _ _ _ _ w) (fun v9 h19 k20 q9 => ?_)
            obtain ⟨r21, rfl, w⟩ := q9
            obtain ⟨hx9, w1, w2⟩ := w
            refine jr_if_eq (pc := 206) (tgt := 212) F hx9 dJ19_putVal_206 rfl (fun c9 => ?_) (fun c9 => ?_)
            · have w := w1 c9
              refine jr_aload (pc := 212) F (j := 1) dJ19_putVal_212 rfl ?_
              refine jr_astore (pc := 214) F (vs' := [(7, .inr (.inr (.inl _))), (11, .inr (.inr (.inl _))), (10, .inr (.inr (.inl _))), (0, .inr (.inr (.inl _))), (1, .inl _), (2, .inr (.inr (.inl _))), (3, .inr (.inr (.inl _))), (4, .inl _), (5, .inl _), (12, .inl _)]) dJ19_putVal_214 (Nat.le_of_ble_eq_true rfl) rfl ?_
              have w := w _ rfl
              refine jr_iinc (pc := 216) F (j := 9) (vs' := [(12, .inl _), (7, .inr (.inr (.inl _))), (11, .inr (.inr (.inl _))), (10, .inr (.inr (.inl _))), (0, .inr (.inr (.inl _))), (1, .inl _), (2, .inr (.inr (.inl _))), (3, .inr (.inr (.inl _))), (4, .inl _), (5, .inl _)]) dJ19_putVal_216 rfl rfl (Nat.le_of_ble_eq_true rfl) rfl ?_
              refine jr_goto (pc := 219) (tgt := 134) F dJ19_putVal_219 rfl ?_
              refine jj_J.sub [4, 5, 6, 7, 8, 9, 1, 0] rfl ?_
              exact ih _ _ _ _ w
            · have w := w2 c9
              refine jr_goto (pc := 209) (tgt := 222) F dJ19_putVal_209 rfl ?_
              refine jj_J.sub [2, 5, 6, 7, 1] rfl ?_
              exact sC_J19_putVal_j222 F M O J hi hQ hE _ _ _ _ _ _ _ w
    · have w := w2 c9
      refine jr_aload (pc := 145) F (j := 7) dJ19_putVal_145 rfl ?_
      refine jr_aload_n (pc := 147) F (j := 1) dJ19_putVal_147 rfl ?_
      refine jr_iload_n (pc := 148) F (j := 2) dJ19_putVal_148 rfl ?_
      refine jr_aload_n (pc := 149) F (j := 3) dJ19_putVal_149 rfl ?_
      refine jr_aload_n (pc := 150) F (j := 4) dJ19_putVal_150 rfl ?_
      refine jr_null (pc := 151) F dJ19_putVal_151 ?_
      obtain ⟨hi9, c23, hk9, w⟩ := w
      refine jr_cV (pc := 152) (As := [_, _, _, _]) (ci := 16) F M (lw_V q2133 q2134 q2135 q142 q2136) dJ19_putVal_152 hC_J19_newNode rfl (Nat.le_of_ble_eq_true rfl) (Nat.le_of_ble_eq_true rfl) (Nat.le_of_ble_eq_true rfl) rfl hi9 hk9 (cC_J19_newNode J w) (fun v9 h25 q9 => ?_) (fun E9 q9 h9 w9 => jr_out F M O (hE _ _ _ w9))
      obtain ⟨r24, rfl, w⟩ := q9
      refine jr_pr (pc := 155) (ci := 17) (f := 3) F rfl in_J35 tyJ35_ok nmJ35 (Nat.le_of_ble_eq_true rfl) rfl rfl q2104 dJ19_putVal_155 w (fun h26 w => ?_)
      refine jr_iload (pc := 158) F (j := 8) dJ19_putVal_158 rfl ?_
      refine jr_bipush (pc := 160) F dJ19_putVal_160 (by decide +kernel) ?_
      obtain ⟨hx9, w1, w2⟩ := w
      refine jr_icmp_lt (pc := 162) (tgt := 222) F hx9 ⟨by decide, by decide⟩ dJ19_putVal_162 rfl (fun c9 => ?_) (fun c9 => ?_)
      · have w := w1 c9
        refine jj_J.sub [1, 4, 5, 6, 0] rfl ?_
        exact sC_J19_putVal_j222 F M O J hi hQ hE _ _ _ _ _ _ _ w
      · have w := w2 c9
        exact (show False from w).elim

theorem sC_J19_putVal_j104 {X : jj_X} {N : Option jj_AV → jj_H → Prop} {XN : String → Nat → jj_H → Prop} (F : jj_F X RJ19 cJ19_putVal 13) (M : jj_M X (some ((.object "java/lang/Object"))) 3 68 N XN) (O : jj_no X) (J : jx_G X.1 X.2.2.1) (hi : X.2.2.2.2.2.2.2.2.2.1.name = yJ19_putVal.name) {Q : Option Nat → jj_H → Prop} {E : String → Nat → jj_H → Prop} (hQ : ∀ r h, Q r h → N (some (.inr (.inr (.inl r)))) h) (hE : ∀ e q h, E e q h → XN e q h) (x0 : Option Nat) (x1 : Int) (x2 : Option Nat) (x3 : Option Nat) (x4 : Int) (x5 : Int) (x7 : Option Nat) : ∀ (h : jj_H) (k : Nat), fC_J19_putVal_j104 (jj_gk X.1) x0 x1 x2 x3 x4 x5 x7 Q E h k → jj_J X 13 104 [(0, .inr (.inr (.inl x0))), (1, .inl x1), (2, .inr (.inr (.inl x2))), (3, .inr (.inr (.inl x3))), (4, .inl x4), (5, .inl x5), (7, .inr (.inr (.inl x7)))] [] h k := by
  intro h k w
  unfold fC_J19_putVal_j104 at w
  refine jr_aload (pc := 104) F (j := 6) dJ19_putVal_104 rfl ?_
  obtain ⟨hi9, w⟩ := w
  refine jr_instTN (pc := 106) F J q1323 dJ19_putVal_106 hi9 ?_
  obtain ⟨hx9, w1, w2⟩ := w
  refine jr_if_eq (pc := 109) (tgt := 131) F hx9 dJ19_putVal_109 rfl (fun c9 => ?_) (fun c9 => ?_)
  · have w := w1 c9
    refine jr_iconst (pc := 131) F dJ19_putVal_131 ?_
    refine jr_istore (pc := 132) F (vs' := [(12, .inl _), (0, .inr (.inr (.inl _))), (1, .inl _), (2, .inr (.inr (.inl _))), (3, .inr (.inr (.inl _))), (4, .inl _), (5, .inl _), (7, .inr (.inr (.inl _)))]) dJ19_putVal_132 (Nat.le_of_ble_eq_true rfl) rfl ?_
    refine jj_J.sub [1, 2, 3, 4, 5, 6, 7, 0] rfl ?_
    obtain ⟨n9, w⟩ := w
    exact sC_J19_putVal_l134 F M O J hi hQ hE _ _ _ _ _ _ n9 _ _ _ _ w
  · have w := w2 c9
    refine jr_aload (pc := 112) F (j := 6) dJ19_putVal_112 rfl ?_
    exact (show False from w).elim

theorem sC_J19_putVal_j97 {X : jj_X} {N : Option jj_AV → jj_H → Prop} {XN : String → Nat → jj_H → Prop} (F : jj_F X RJ19 cJ19_putVal 13) (M : jj_M X (some ((.object "java/lang/Object"))) 3 68 N XN) (O : jj_no X) (J : jx_G X.1 X.2.2.1) (hi : X.2.2.2.2.2.2.2.2.2.1.name = yJ19_putVal.name) {Q : Option Nat → jj_H → Prop} {E : String → Nat → jj_H → Prop} (hQ : ∀ r h, Q r h → N (some (.inr (.inr (.inl r)))) h) (hE : ∀ e q h, E e q h → XN e q h) (x0 : Option Nat) (x3 : Option Nat) (x4 : Int) (x5 : Int) (x7 : Option Nat) : ∀ (h : jj_H) (k : Nat), fC_J19_putVal_j97 (jj_gk X.1) x0 x3 x4 x5 x7 Q E h k → jj_J X 13 97 [(0, .inr (.inr (.inl x0))), (3, .inr (.inr (.inl x3))), (4, .inl x4), (5, .inl x5), (7, .inr (.inr (.inl x7)))] [] h k := by
  intro h k w
  unfold fC_J19_putVal_j97 at w
  refine jr_aload (pc := 97) F (j := 4) dJ19_putVal_97 rfl ?_
  refine jr_astore (pc := 99) F (vs' := [(10, .inr (.inr (.inl _))), (0, .inr (.inr (.inl _))), (3, .inr (.inr (.inl _))), (4, .inl _), (5, .inl _), (7, .inr (.inr (.inl _)))]) dJ19_putVal_99 (Nat.le_of_ble_eq_true rfl) rfl ?_
  refine jr_goto (pc := 101) (tgt := 222) F dJ19_putVal_101 rfl ?_
  refine jj_J.sub [1, 2, 3, 4, 0] rfl ?_
  exact sC_J19_putVal_j222 F M O J hi hQ hE _ _ _ _ _ _ _ w

theorem sC_J19_putVal_j29 {X : jj_X} {N : Option jj_AV → jj_H → Prop} {XN : String → Nat → jj_H → Prop} (F : jj_F X RJ19 cJ19_putVal 13) (M : jj_M X (some ((.object "java/lang/Object"))) 3 68 N XN) (O : jj_no X) (J : jx_G X.1 X.2.2.1) (hi : X.2.2.2.2.2.2.2.2.2.1.name = yJ19_putVal.name) {Q : Option Nat → jj_H → Prop} {E : String → Nat → jj_H → Prop} (hQ : ∀ r h, Q r h → N (some (.inr (.inr (.inl r)))) h) (hE : ∀ e q h, E e q h → XN e q h) (x0 : Option Nat) (x1 : Int) (x2 : Option Nat) (x3 : Option Nat) (x4 : Int) (x5 : Int) (x6 : Option Nat) (x8 : Int) : ∀ (h : jj_H) (k : Nat), fC_J19_putVal_j29 (jj_gk X.1) x0 x1 x2 x3 x4 x5 x6 x8 Q E h k → jj_J X 13 29 [(0, .inr (.inr (.inl x0))), (1, .inl x1), (2, .inr (.inr (.inl x2))), (3, .inr (.inr (.inl x3))), (4, .inl x4), (5, .inl x5), (6, .inr (.inr (.inl x6))), (8, .inl x8)] [] h k := by
  intro h k w
  unfold fC_J19_putVal_j29 at w
  refine jr_aload (pc := 29) F (j := 6) dJ19_putVal_29 rfl ?_
  refine jr_iload (pc := 31) F (j := 7) dJ19_putVal_31 rfl ?_
  refine jr_iconst (pc := 33) F dJ19_putVal_33 ?_
  refine jr_isub (pc := 34) F dJ19_putVal_34 ?_
  refine jr_iload_n (pc := 35) F (j := 1) dJ19_putVal_35 rfl ?_
  refine jr_iand (pc := 36) F dJ19_putVal_36 ?_
  refine jr_dup (pc := 37) F dJ19_putVal_37 rfl ?_
  have w := w _ rfl
  refine jr_istore (pc := 38) F (vs' := [(9, .inl _), (0, .inr (.inr (.inl _))), (1, .inl _), (2, .inr (.inr (.inl _))), (3, .inr (.inr (.inl _))), (4, .inl _), (5, .inl _), (6, .inr (.inr (.inl _))), (8, .inl _)]) dJ19_putVal_38 (Nat.le_of_ble_eq_true rfl) rfl ?_
  refine jr_aald (pc := 40) F ⟨8, _, fun _ => rfl⟩ dJ19_putVal_40 w (fun g28 w => ?_)
  refine jr_dup (pc := 41) F dJ19_putVal_41 rfl ?_
  refine jr_astore (pc := 42) F (vs' := [(7, .inr (.inr (.inl _))), (9, .inl _), (0, .inr (.inr (.inl _))), (1, .inl _), (2, .inr (.inr (.inl _))), (3, .inr (.inr (.inl _))), (4, .inl _), (5, .inl _), (6, .inr (.inr (.inl _))), (8, .inl _)]) dJ19_putVal_42 (Nat.le_of_ble_eq_true rfl) rfl ?_
  obtain ⟨w1, w2⟩ := w
  refine jr_ifnonnull (pc := 44) (tgt := 63) F dJ19_putVal_44 rfl (fun c9 => ?_) (fun c9 => ?_)
  · have w := w1 c9
    refine jr_aload (pc := 63) F (j := 0) dJ19_putVal_63 rfl ?_
    refine jr_gi (pc := 65) (ci := 17) (f := 0) F rfl in_J35 (Nat.le_of_ble_eq_true rfl) q2091 dJ19_putVal_65 w (fun g29 w => ?_)
    refine jr_iload_n (pc := 68) F (j := 3) dJ19_putVal_68 rfl ?_
    obtain ⟨hx9, hy9, w1, w2⟩ := w
    refine jr_icmp_ne (pc := 69) (tgt := 104) F hx9 hy9 dJ19_putVal_69 rfl (fun c9 => ?_) (fun c9 => ?_)
    · have w := w1 c9
      refine jj_J.sub [2, 3, 4, 5, 6, 7, 0] rfl ?_
      exact sC_J19_putVal_j104 F M O J hi hQ hE _ _ _ _ _ _ _ _ _ w
    · have w := w2 c9
      refine jr_aload (pc := 72) F (j := 0) dJ19_putVal_72 rfl ?_
      refine jr_gr (pc := 74) (ci := 17) (f := 1) F rfl in_J35 (Nat.le_of_ble_eq_true rfl) q2096 dJ19_putVal_74 w (fun g30 w => ?_)
      refine jr_dup (pc := 77) F dJ19_putVal_77 rfl ?_
      refine jr_astore (pc := 78) F (vs' := [(11, .inr (.inr (.inl _))), (7, .inr (.inr (.inl _))), (9, .inl _), (0, .inr (.inr (.inl _))), (1, .inl _), (2, .inr (.inr (.inl _))), (3, .inr (.inr (.inl _))), (4, .inl _), (5, .inl _), (6, .inr (.inr (.inl _))), (8, .inl _)]) dJ19_putVal_78 (Nat.le_of_ble_eq_true rfl) rfl ?_
      refine jr_aload_n (pc := 80) F (j := 5) dJ19_putVal_80 rfl ?_
      obtain ⟨w1, w2⟩ := w
      refine jr_acmp_eq (pc := 81) (tgt := 97) F dJ19_putVal_81 rfl (fun c9 => ?_) (fun c9 => ?_)
      · have w := w1 c9
        refine jj_J.sub [3, 6, 7, 8, 1] rfl ?_
        exact sC_J19_putVal_j97 F M O J hi hQ hE _ _ _ _ _ _ _ w
      · have w := w2 c9
        refine jr_aload_n (pc := 84) F (j := 5) dJ19_putVal_84 rfl ?_
        obtain ⟨w1, w2⟩ := w
        refine jr_ifnull (pc := 85) (tgt := 104) F dJ19_putVal_85 rfl (fun c9 => ?_) (fun c9 => ?_)
        · have w := w1 c9
          refine jj_J.sub [3, 4, 5, 6, 7, 8, 1] rfl ?_
          exact sC_J19_putVal_j104 F M O J hi hQ hE _ _ _ _ _ _ _ _ _ w
        · have w := w2 c9
          refine jr_aload_n (pc := 88) F (j := 5) dJ19_putVal_88 rfl ?_
          refine jr_aload (pc := 89) F (j := 0) dJ19_putVal_89 rfl ?_
          refine jr_jUR (pc := 91) (n := 1) (As := [_]) (ci := 25) F M (lw_U q1281 q1283 q1282 q1317 q713 q131 q715) q1322 dJ19_putVal_91 (by decide +kernel) rfl (Nat.le_of_ble_eq_true rfl) (Nat.le_of_ble_eq_true rfl) (Nat.le_of_ble_eq_true rfl) rfl (cb_J9_equals J (fr := 1) (lo := 22) (Nat.le_of_ble_eq_true rfl) (Nat.le_of_ble_eq_true rfl) _ _ _ _ _ w) (fun v9 h31 k32 q9 => ?_)
          obtain ⟨r33, rfl, w⟩ := q9
          obtain ⟨hx9, w1, w2⟩ := w
          refine jr_if_eq (pc := 94) (tgt := 104) F hx9 dJ19_putVal_94 rfl (fun c9 => ?_) (fun c9 => ?_)
          · have w := w1 c9
            refine jj_J.sub [3, 4, 5, 6, 7, 8, 1] rfl ?_
            exact sC_J19_putVal_j104 F M O J hi hQ hE _ _ _ _ _ _ _ _ _ w
          · have w := w2 c9
            refine jj_J.sub [3, 6, 7, 8, 1] rfl ?_
            exact sC_J19_putVal_j97 F M O J hi hQ hE _ _ _ _ _ _ _ w
  · have w := w2 c9
    refine jr_aload (pc := 47) F (j := 8) dJ19_putVal_47 rfl ?_
    refine jr_iload (pc := 49) F (j := 1) dJ19_putVal_49 rfl ?_
    refine jr_aload_n (pc := 51) F (j := 2) dJ19_putVal_51 rfl ?_
    refine jr_iload_n (pc := 52) F (j := 3) dJ19_putVal_52 rfl ?_
    refine jr_aload_n (pc := 53) F (j := 4) dJ19_putVal_53 rfl ?_
    refine jr_aload_n (pc := 54) F (j := 5) dJ19_putVal_54 rfl ?_
    refine jr_null (pc := 55) F dJ19_putVal_55 ?_
    obtain ⟨hi9, c34, hk9, w⟩ := w
    refine jr_cV (pc := 56) (As := [_, _, _, _]) (ci := 16) F M (lw_V q2133 q2134 q2135 q142 q2136) dJ19_putVal_56 hC_J19_newNode rfl (Nat.le_of_ble_eq_true rfl) (Nat.le_of_ble_eq_true rfl) (Nat.le_of_ble_eq_true rfl) rfl hi9 hk9 (cC_J19_newNode J w) (fun v9 h36 q9 => ?_) (fun E9 q9 h9 w9 => jr_out F M O (hE _ _ _ w9))
    obtain ⟨r35, rfl, w⟩ := q9
    refine jr_aast (pc := 59) F ⟨8, fun _ => rfl⟩ rfl (Or.inl rfl) dJ19_putVal_59 w (fun h37 w => ?_)
    refine jr_goto (pc := 60) (tgt := 259) F dJ19_putVal_60 rfl ?_
    refine jj_J.sub [2, 7] rfl ?_
    exact sC_J19_putVal_j259 F M O J hi hQ hE _ _ _ _ w

theorem sC_J19_putVal_j19 {X : jj_X} {N : Option jj_AV → jj_H → Prop} {XN : String → Nat → jj_H → Prop} (F : jj_F X RJ19 cJ19_putVal 13) (M : jj_M X (some ((.object "java/lang/Object"))) 3 68 N XN) (O : jj_no X) (J : jx_G X.1 X.2.2.1) (hi : X.2.2.2.2.2.2.2.2.2.1.name = yJ19_putVal.name) {Q : Option Nat → jj_H → Prop} {E : String → Nat → jj_H → Prop} (hQ : ∀ r h, Q r h → N (some (.inr (.inr (.inl r)))) h) (hE : ∀ e q h, E e q h → XN e q h) (x0 : Option Nat) (x1 : Int) (x2 : Option Nat) (x3 : Option Nat) (x4 : Int) (x5 : Int) : ∀ (h : jj_H) (k : Nat), fC_J19_putVal_j19 (jj_gk X.1) x0 x1 x2 x3 x4 x5 Q E h k → jj_J X 13 19 [(0, .inr (.inr (.inl x0))), (1, .inl x1), (2, .inr (.inr (.inl x2))), (3, .inr (.inr (.inl x3))), (4, .inl x4), (5, .inl x5)] [] h k := by
  intro h k w
  unfold fC_J19_putVal_j19 at w
  refine jr_aload_n (pc := 19) F (j := 0) dJ19_putVal_19 rfl ?_
  obtain ⟨hi9, c38, hk9, w⟩ := w
  refine jr_cV (pc := 20) (As := []) (ci := 16) F M (lw_V q2061 q2062 q2063 q142 q2064) dJ19_putVal_20 hC_J19_resize rfl (Nat.le_of_ble_eq_true rfl) (Nat.le_of_ble_eq_true rfl) (Nat.le_of_ble_eq_true rfl) rfl hi9 hk9 (cC_J19_resize J w) (fun v9 h40 q9 => ?_) (fun E9 q9 h9 w9 => jr_out F M O (hE _ _ _ w9))
  obtain ⟨r39, rfl, w⟩ := q9
  refine jr_dup (pc := 23) F dJ19_putVal_23 rfl ?_
  refine jr_astore (pc := 24) F (vs' := [(6, .inr (.inr (.inl _))), (0, .inr (.inr (.inl _))), (1, .inl _), (2, .inr (.inr (.inl _))), (3, .inr (.inr (.inl _))), (4, .inl _), (5, .inl _)]) dJ19_putVal_24 (Nat.le_of_ble_eq_true rfl) rfl ?_
  refine jr_alenR (pc := 26) F ⟨8, _, fun _ => rfl⟩ dJ19_putVal_26 w (fun g41 w => ?_)
  refine jr_istore (pc := 27) F (vs' := [(8, .inl _), (6, .inr (.inr (.inl _))), (0, .inr (.inr (.inl _))), (1, .inl _), (2, .inr (.inr (.inl _))), (3, .inr (.inr (.inl _))), (4, .inl _), (5, .inl _)]) dJ19_putVal_27 (Nat.le_of_ble_eq_true rfl) rfl ?_
  refine jj_J.sub [2, 3, 4, 5, 6, 7, 1, 0] rfl ?_
  exact sC_J19_putVal_j29 F M O J hi hQ hE _ _ _ _ _ _ _ _ _ _ w

theorem sC_J19_putVal {X : jj_X} {N : Option jj_AV → jj_H → Prop} {XN : String → Nat → jj_H → Prop} (F : jj_F X RJ19 cJ19_putVal 13) (M : jj_M X (some ((.object "java/lang/Object"))) 3 68 N XN) (O : jj_no X) (J : jx_G X.1 X.2.2.1) (hi : X.2.2.2.2.2.2.2.2.2.1.name = yJ19_putVal.name) {Q : Option Nat → jj_H → Prop} {E : String → Nat → jj_H → Prop} (hQ : ∀ r h, Q r h → N (some (.inr (.inr (.inl r)))) h) (hE : ∀ e q h, E e q h → XN e q h) (x0 : Option Nat) (x1 : Int) (x2 : Option Nat) (x3 : Option Nat) (x4 : Int) (x5 : Int) : ∀ (h : jj_H) (k : Nat), fC_J19_putVal (jj_gk X.1) x0 x1 x2 x3 x4 x5 Q E h k → jj_J X 13 0 [(0, .inr (.inr (.inl x0))), (1, .inl x1), (2, .inr (.inr (.inl x2))), (3, .inr (.inr (.inl x3))), (4, .inl x4), (5, .inl x5)] [] h k := by
  intro h k w
  unfold fC_J19_putVal at w
  refine jr_aload_n (pc := 0) F (j := 0) dJ19_putVal_0 rfl ?_
  refine jr_gr (pc := 1) (ci := 16) (f := 2) F rfl in_J19 (Nat.le_of_ble_eq_true rfl) q562 dJ19_putVal_1 w (fun g42 w => ?_)
  refine jr_dup (pc := 4) F dJ19_putVal_4 rfl ?_
  refine jr_astore (pc := 5) F (vs' := [(6, .inr (.inr (.inl _))), (0, .inr (.inr (.inl _))), (1, .inl _), (2, .inr (.inr (.inl _))), (3, .inr (.inr (.inl _))), (4, .inl _), (5, .inl _)]) dJ19_putVal_5 (Nat.le_of_ble_eq_true rfl) rfl ?_
  obtain ⟨w1, w2⟩ := w
  refine jr_ifnull (pc := 7) (tgt := 19) F dJ19_putVal_7 rfl (fun c9 => ?_) (fun c9 => ?_)
  · have w := w1 c9
    refine jj_J.sub [1, 2, 3, 4, 5, 6] rfl ?_
    exact sC_J19_putVal_j19 F M O J hi hQ hE _ _ _ _ _ _ _ _ w
  · have w := w2 c9
    refine jr_aload (pc := 10) F (j := 0) dJ19_putVal_10 rfl ?_
    refine jr_alenR (pc := 12) F ⟨8, _, fun _ => rfl⟩ dJ19_putVal_12 w (fun g43 w => ?_)
    refine jr_dup (pc := 13) F dJ19_putVal_13 rfl ?_
    refine jr_istore (pc := 14) F (vs' := [(8, .inl _), (6, .inr (.inr (.inl _))), (0, .inr (.inr (.inl _))), (1, .inl _), (2, .inr (.inr (.inl _))), (3, .inr (.inr (.inl _))), (4, .inl _), (5, .inl _)]) dJ19_putVal_14 (Nat.le_of_ble_eq_true rfl) rfl ?_
    obtain ⟨hx9, w1, w2⟩ := w
    refine jr_if_ne (pc := 16) (tgt := 29) F hx9 dJ19_putVal_16 rfl (fun c9 => ?_) (fun c9 => ?_)
    · have w := w1 c9
      refine jj_J.sub [2, 3, 4, 5, 6, 7, 1, 0] rfl ?_
      exact sC_J19_putVal_j29 F M O J hi hQ hE _ _ _ _ _ _ _ _ _ _ w
    · have w := w2 c9
      refine jj_J.sub [2, 3, 4, 5, 6, 7] rfl ?_
      exact sC_J19_putVal_j19 F M O J hi hQ hE _ _ _ _ _ _ _ _ w

theorem cC_J19_putVal {G : jj_G} {l : Launch} (J : jx_G G l) {x0 : Option Nat} {x1 : Int} {x2 : Option Nat} {x3 : Option Nat} {x4 : Int} {x5 : Int} {Q : Option Nat → jj_H → Prop} {E : String → Nat → jj_H → Prop} {h : jj_H} {k : Nat} (w : fC_J19_putVal (jj_gk G) x0 x1 x2 x3 x4 x5 Q E h k) : jj_Ct G l yJ19_putVal (ws_ yJ19_putVal cJ19_putVal 13 (some ((.object "java/lang/Object")))) 3 68 [.inr (.inr (.inl x0)), .inl x1, .inr (.inr (.inl x2)), .inr (.inr (.inl x3)), .inl x4, .inl x5] h k (jc_r Q) E := by
  refine jj_Ct.of J.1 (by decide +kernel) (Nat.le_of_ble_eq_true rfl) rfl (fun X hG hl F M O hnm => ?_)
  subst hG; subst hl
  exact sC_J19_putVal F M O J hnm (fun r h q => ⟨r, rfl, q⟩) (fun _ _ _ q => q) _ _ _ _ _ _ _ _ w
theorem hC_J19_putVal : yJ19_putVal.cls = RJ19 ∧ yJ19_putVal.cls ≠ "java/lang/invoke/MethodHandle" ∧ yJ19_putVal.cls ≠ "java/lang/invoke/VarHandle" ∧ (parseMethodDescriptor yJ19_putVal.desc).map (fun d => d.parameters.length) = some 5 := by decide +kernel
/-! J19_put(Ljava/lang/Object;Ljava/lang/Object;)Ljava/lang/Object; -/
def fC_J19_put (gk : Nat → Nat) (x0 : Option Nat) (x1 : Option Nat) (x2 : Option Nat) (Q : Option Nat → jj_H → Prop) (E : String → Nat → jj_H → Prop) (h : jj_H) (k : Nat) : Prop :=
  fC_J19_hash gk x1 (fun r2 h3 =>
  jp_is h3 x0 16 ∧ ∃ c4, c4 ≤ k ∧ fC_J19_putVal gk x0 r2 x1 x2 0 1 (fun r5 h6 =>
  Q r5 h6) E h3 c4) E h 0
theorem sC_J19_put {X : jj_X} {N : Option jj_AV → jj_H → Prop} {XN : String → Nat → jj_H → Prop} (F : jj_F X RJ19 cJ19_put 3) (M : jj_M X (some ((.object "java/lang/Object"))) 5 111 N XN) (O : jj_no X) (J : jx_G X.1 X.2.2.1) (hi : X.2.2.2.2.2.2.2.2.2.1.name = yJ19_put.name) {Q : Option Nat → jj_H → Prop} {E : String → Nat → jj_H → Prop} (hQ : ∀ r h, Q r h → N (some (.inr (.inr (.inl r)))) h) (hE : ∀ e q h, E e q h → XN e q h) (x0 : Option Nat) (x1 : Option Nat) (x2 : Option Nat) : ∀ (h : jj_H) (k : Nat), fC_J19_put (jj_gk X.1) x0 x1 x2 Q E h k → jj_J X 3 0 [(0, .inr (.inr (.inl x0))), (1, .inr (.inr (.inl x1))), (2, .inr (.inr (.inl x2)))] [] h k := by
  intro h k w
  unfold fC_J19_put at w
  refine jr_aload_n (pc := 0) F (j := 0) dJ19_put_0 rfl ?_
  refine jr_aload_n (pc := 1) F (j := 1) dJ19_put_1 rfl ?_
  refine jr_callS (pc := 2) (As := [_]) F M (lw_S q1172 q1173 q142 q1174) dJ19_put_2 hC_J19_hash.2 rfl (Nat.le_of_ble_eq_true rfl) (Nat.le_of_ble_eq_true rfl) (Nat.le_of_ble_eq_true rfl) (Nat.zero_le _) (cC_J19_hash J w) (fun v9 h3 q9 => ?_) (fun E9 q9 h9 w9 => jr_out F M O (hE _ _ _ w9))
  obtain ⟨r2, rfl, w⟩ := q9
  refine jr_aload_n (pc := 5) F (j := 1) dJ19_put_5 rfl ?_
  refine jr_aload_n (pc := 6) F (j := 2) dJ19_put_6 rfl ?_
  refine jr_iconst (pc := 7) F dJ19_put_7 ?_
  refine jr_iconst (pc := 8) F dJ19_put_8 ?_
  obtain ⟨hi9, c4, hk9, w⟩ := w
  refine jr_cV (pc := 9) (As := [_, _, _, _, _]) (ci := 16) F M (lw_V q2057 q2058 q2059 q142 q2060) dJ19_put_9 hC_J19_putVal rfl (Nat.le_of_ble_eq_true rfl) (Nat.le_of_ble_eq_true rfl) (Nat.le_of_ble_eq_true rfl) rfl hi9 hk9 (cC_J19_putVal J w) (fun v9 h6 q9 => ?_) (fun E9 q9 h9 w9 => jr_out F M O (hE _ _ _ w9))
  obtain ⟨r5, rfl, w⟩ := q9
  exact jr_aret (pc := 12) F M (Or.inl ⟨_, rfl⟩) dJ19_put_12 (hQ _ _ w)

theorem cC_J19_put {G : jj_G} {l : Launch} (J : jx_G G l) {x0 : Option Nat} {x1 : Option Nat} {x2 : Option Nat} {Q : Option Nat → jj_H → Prop} {E : String → Nat → jj_H → Prop} {h : jj_H} {k : Nat} (w : fC_J19_put (jj_gk G) x0 x1 x2 Q E h k) : jj_Ct G l yJ19_put (ws_ yJ19_put cJ19_put 3 (some ((.object "java/lang/Object")))) 5 111 [.inr (.inr (.inl x0)), .inr (.inr (.inl x1)), .inr (.inr (.inl x2))] h k (jc_r Q) E := by
  refine jj_Ct.of J.1 (by decide +kernel) (Nat.le_of_ble_eq_true rfl) rfl (fun X hG hl F M O hnm => ?_)
  subst hG; subst hl
  exact sC_J19_put F M O J hnm (fun r h q => ⟨r, rfl, q⟩) (fun _ _ _ q => q) _ _ _ _ _ w
theorem hC_J19_put : yJ19_put.cls = RJ19 ∧ yJ19_put.cls ≠ "java/lang/invoke/MethodHandle" ∧ yJ19_put.cls ≠ "java/lang/invoke/VarHandle" ∧ (parseMethodDescriptor yJ19_put.desc).map (fun d => d.parameters.length) = some 2 := by decide +kernel
/-! J33_add(Ljava/lang/Object;)Z -/
def fC_J33_add (gk : Nat → Nat) (x0 : Option Nat) (x1 : Option Nat) (Q : Int → jj_H → Prop) (E : String → Nat → jj_H → Prop) (h : jj_H) (k : Nat) : Prop :=
  jp_gr h x0 20 0 (fun g1 =>
  jp_is h g1 16 ∧ ∃ c2, c2 ≤ k ∧ fC_J19_put gk g1 x1 (some (gk 30)) (fun r3 h4 =>
  (¬ r3 = none → (
    Q 0 h4)) ∧
  (r3 = none → (
    Q 1 h4))) E h c2)
theorem sC_J33_add {X : jj_X} {N : Option jj_AV → jj_H → Prop} {XN : String → Nat → jj_H → Prop} (F : jj_F X RJ33 cJ33_add 2) (M : jj_M X (some (.boolean)) 6 133 N XN) (O : jj_no X) (J : jx_G X.1 X.2.2.1) (hi : X.2.2.2.2.2.2.2.2.2.1.name = yJ33_add.name) {Q : Int → jj_H → Prop} {E : String → Nat → jj_H → Prop} (hQ : ∀ r h, Q r h → N (some (.inl r)) h) (hE : ∀ e q h, E e q h → XN e q h) (x0 : Option Nat) (x1 : Option Nat) : ∀ (h : jj_H) (k : Nat), fC_J33_add (jj_gk X.1) x0 x1 Q E h k → jj_J X 2 0 [(0, .inr (.inr (.inl x0))), (1, .inr (.inr (.inl x1)))] [] h k := by
  intro h k w
  unfold fC_J33_add at w
  refine jr_aload_n (pc := 0) F (j := 0) dJ33_add_0 rfl ?_
  refine jr_gr (pc := 1) (ci := 20) (f := 0) F rfl in_J33 (Nat.le_of_ble_eq_true rfl) q2019 dJ33_add_1 w (fun g1 w => ?_)
  refine jr_aload_n (pc := 4) F (j := 1) dJ33_add_4 rfl ?_
  refine jr_gst (pc := 5) F J 3 rfl q2051 dJ33_add_5 ?_
  obtain ⟨hi9, c2, hk9, w⟩ := w
  refine jr_cV (pc := 8) (As := [_, _]) (ci := 16) F M (lw_V q2053 q2054 q2055 q142 q2056) dJ33_add_8 hC_J19_put rfl (Nat.le_of_ble_eq_true rfl) (Nat.le_of_ble_eq_true rfl) (Nat.le_of_ble_eq_true rfl) rfl hi9 hk9 (cC_J19_put J w) (fun v9 h4 q9 => ?_) (fun E9 q9 h9 w9 => jr_out F M O (hE _ _ _ w9))
  obtain ⟨r3, rfl, w⟩ := q9
  obtain ⟨w1, w2⟩ := w
  refine jr_ifnonnull (pc := 11) (tgt := 18) F dJ33_add_11 rfl (fun c9 => ?_) (fun c9 => ?_)
  · have w := w1 c9
    refine jr_iconst (pc := 18) F dJ33_add_18 ?_
    exact jr_zret (pc := 19) F M dJ33_add_19 (by decide) (hQ _ _ w)
  · have w := w2 c9
    refine jr_iconst (pc := 14) F dJ33_add_14 ?_
    refine jr_goto (pc := 15) (tgt := 19) F dJ33_add_15 rfl ?_
    exact jr_zret (pc := 19) F M dJ33_add_19 (by decide) (hQ _ _ w)

theorem cC_J33_add {G : jj_G} {l : Launch} (J : jx_G G l) {x0 : Option Nat} {x1 : Option Nat} {Q : Int → jj_H → Prop} {E : String → Nat → jj_H → Prop} {h : jj_H} {k : Nat} (w : fC_J33_add (jj_gk G) x0 x1 Q E h k) : jj_Ct G l yJ33_add (ws_ yJ33_add cJ33_add 2 (some (.boolean))) 6 133 [.inr (.inr (.inl x0)), .inr (.inr (.inl x1))] h k (jc_i Q) E := by
  refine jj_Ct.of J.1 (by decide +kernel) (Nat.le_of_ble_eq_true rfl) rfl (fun X hG hl F M O hnm => ?_)
  subst hG; subst hl
  exact sC_J33_add F M O J hnm (fun r h q => ⟨r, rfl, q⟩) (fun _ _ _ q => q) _ _ _ _ w
theorem hC_J33_add : yJ33_add.cls = RJ33 ∧ yJ33_add.cls ≠ "java/lang/invoke/MethodHandle" ∧ yJ33_add.cls ≠ "java/lang/invoke/VarHandle" ∧ (parseMethodDescriptor yJ33_add.desc).map (fun d => d.parameters.length) = some 1 := by decide +kernel
/-! J0_addAll(Ljava/util/Collection;)Z -/
def fC_J0_addAll_l9 (gk : Nat → Nat) (x0 : Option Nat) (x3 : Option Nat) (Q : Int → jj_H → Prop) (E : String → Nat → jj_H → Prop) : Nat → Int → jj_H → Nat → Prop
  | 0, _, _, _ => False
  | n + 1, x2, h, k =>
  jq_J21_hasNext x3 (fun r3 h1 k2 =>
  jj_r r3 ∧ (r3 = 0 → (
    (x2 = 0 ∨ x2 = 1) ∧ Q x2 h1)) ∧
  (¬ r3 = 0 → (
    jq_J21_next x3 (fun r6 h4 k5 =>
    jp_is h4 x0 20 ∧ ∃ c7, c7 ≤ k5 ∧ fC_J33_add gk x0 r6 (fun r8 h9 =>
    jj_r r8 ∧ (r8 = 0 → (
      fC_J0_addAll_l9 gk x0 x3 Q E n x2 h9 (k5 - c7))) ∧
    (¬ r8 = 0 → (
      fC_J0_addAll_l9 gk x0 x3 Q E n 1 h9 (k5 - c7)))) E h4 c7) h1 k2))) h k
def fC_J0_addAll (gk : Nat → Nat) (x0 : Option Nat) (x1 : Option Nat) (Q : Int → jj_H → Prop) (E : String → Nat → jj_H → Prop) (h : jj_H) (k : Nat) : Prop :=
  jq_J2_iterator x1 (fun r12 h10 k11 =>
  ∃ n9, fC_J0_addAll_l9 gk x0 r12 Q E n9 0 h10 k11) h k
theorem sC_J0_addAll_l9 {X : jj_X} {N : Option jj_AV → jj_H → Prop} {XN : String → Nat → jj_H → Prop} (F : jj_F X RJ0 cJ0_addAll 5) (M : jj_M X (some (.boolean)) 7 154 N XN) (O : jj_no X) (J : jx_G X.1 X.2.2.1) (hi : X.2.2.2.2.2.2.2.2.2.1.name = yJ0_addAll.name) {Q : Int → jj_H → Prop} {E : String → Nat → jj_H → Prop} (hQ : ∀ r h, Q r h → N (some (.inl r)) h) (hE : ∀ e q h, E e q h → XN e q h) (x0 : Option Nat) (x3 : Option Nat) : ∀ (n : Nat) (x2 : Int) (h : jj_H) (k : Nat), fC_J0_addAll_l9 (jj_gk X.1) x0 x3 Q E n x2 h k → jj_J X 5 9 [(0, .inr (.inr (.inl x0))), (2, .inl x2), (3, .inr (.inr (.inl x3)))] [] h k := by
  intro n
  induction n with
  | zero =>
    intro x2 h k w
    exact (show False from w).elim
  | succ n ih =>
    intro x2 h k w
    rw [fC_J0_addAll_l9] at w
    refine jr_aload_n (pc := 9) F (j := 2) dJ0_addAll_9 rfl ?_
    refine jr_jFR (pc := 10) (n := 0) (As := []) (ci := 15) F M (lw_F q1977 q1075 q1077 q146 q1079) (jx_fw J 2 rfl) dJ0_addAll_10 (by decide +kernel) rfl (Nat.le_of_ble_eq_true rfl) (Nat.le_of_ble_eq_true rfl) (Nat.le_of_ble_eq_true rfl) rfl (cb_J21_hasNext J (fr := 0) (lo := 0) (Nat.le_of_ble_eq_true rfl) (Nat.le_of_ble_eq_true rfl) _ _ _ _ w) (fun v9 h1 k2 q9 => ?_)
    obtain ⟨r3, rfl, w⟩ := q9
    obtain ⟨hx9, w1, w2⟩ := w
    refine jr_if_eq (pc := 15) (tgt := 40) F hx9 dJ0_addAll_15 rfl (fun c9 => ?_) (fun c9 => ?_)
    · have w := w1 c9
      refine jr_iload_n (pc := 40) F (j := 1) dJ0_addAll_40 rfl ?_
      exact jr_zret (pc := 41) F M dJ0_addAll_41 w.1 (hQ _ _ w.2)
    · have w := w2 c9
      refine jr_aload_n (pc := 18) F (j := 2) dJ0_addAll_18 rfl ?_
      refine jr_jFR (pc := 19) (n := 0) (As := []) (ci := 15) F M (lw_F q1980 q1106 q1108 q146 q1110) (jx_fw J 3 rfl) dJ0_addAll_19 (by decide +kernel) rfl (Nat.le_of_ble_eq_true rfl) (Nat.le_of_ble_eq_true rfl) (Nat.le_of_ble_eq_true rfl) rfl (cb_J21_next J (fr := 1) (lo := 20) (Nat.le_of_ble_eq_true rfl) (Nat.le_of_ble_eq_true rfl) _ _ _ _ w) (fun v9 h4 k5 q9 => ?_)
      obtain ⟨r6, rfl, w⟩ := q9
      refine jr_astore (pc := 24) F (vs' := [(4, .inr (.inr (.inl _))), (0, .inr (.inr (.inl _))), (2, .inl _), (3, .inr (.inr (.inl _)))]) dJ0_addAll_24 (Nat.le_of_ble_eq_true rfl) rfl ?_
      refine jr_aload_n (pc := 26) F (j := 1) dJ0_addAll_26 rfl ?_
      refine jr_aload (pc := 27) F (j := 0) dJ0_addAll_27 rfl ?_
      obtain ⟨hi9, c7, hk9, w⟩ := w
      refine jr_cU (pc := 29) (n := 1) (As := [_]) (ci := 20) F M (lw_U q2043 q2045 q2044 q2048 q2049 q160 q2050) q2292 dJ0_addAll_29 (by decide +kernel) rfl (Nat.le_of_ble_eq_true rfl) (Nat.le_of_ble_eq_true rfl) (Nat.le_of_ble_eq_true rfl) rfl hi9 hk9 (cC_J33_add J w) (fun v9 h9 q9 => ?_) (fun E9 q9 h9 w9 => jr_out F M O (hE _ _ _ w9))
      obtain ⟨r8, rfl, w⟩ := q9
      obtain ⟨hx9, w1, w2⟩ := w
      refine jr_if_eq (pc := 32) (tgt := 37) F hx9 dJ0_addAll_32 rfl (fun c9 => ?_) (fun c9 => ?_)
      · have w := w1 c9
        refine jr_goto (pc := 37) (tgt := 9) F dJ0_addAll_37 rfl ?_
        refine jj_J.sub [1, 2, 3] rfl ?_
        exact ih _ _ _ w
      · have w := w2 c9
        refine jr_iconst (pc := 35) F dJ0_addAll_35 ?_
        refine jr_istore_n (pc := 36) F (vs' := [(2, .inl _), (4, .inr (.inr (.inl _))), (0, .inr (.inr (.inl _))), (3, .inr (.inr (.inl _)))]) dJ0_addAll_36 (Nat.le_of_ble_eq_true rfl) rfl ?_
        refine jr_goto (pc := 37) (tgt := 9) F dJ0_addAll_37 rfl ?_
        refine jj_J.sub [2, 0, 3] rfl ?_
        exact ih _ _ _ w

theorem sC_J0_addAll {X : jj_X} {N : Option jj_AV → jj_H → Prop} {XN : String → Nat → jj_H → Prop} (F : jj_F X RJ0 cJ0_addAll 5) (M : jj_M X (some (.boolean)) 7 154 N XN) (O : jj_no X) (J : jx_G X.1 X.2.2.1) (hi : X.2.2.2.2.2.2.2.2.2.1.name = yJ0_addAll.name) {Q : Int → jj_H → Prop} {E : String → Nat → jj_H → Prop} (hQ : ∀ r h, Q r h → N (some (.inl r)) h) (hE : ∀ e q h, E e q h → XN e q h) (x0 : Option Nat) (x1 : Option Nat) : ∀ (h : jj_H) (k : Nat), fC_J0_addAll (jj_gk X.1) x0 x1 Q E h k → jj_J X 5 0 [(0, .inr (.inr (.inl x0))), (1, .inr (.inr (.inl x1)))] [] h k := by
  intro h k w
  unfold fC_J0_addAll at w
  refine jr_iconst (pc := 0) F dJ0_addAll_0 ?_
  refine jr_istore_n (pc := 1) F (vs' := [(2, .inl _), (0, .inr (.inr (.inl _))), (1, .inr (.inr (.inl _)))]) dJ0_addAll_1 (Nat.le_of_ble_eq_true rfl) rfl ?_
  refine jr_aload_n (pc := 2) F (j := 2) dJ0_addAll_2 rfl ?_
  refine jr_jFR (pc := 3) (n := 0) (As := []) (ci := 14) F M (lw_F q2030 q2033 q1616 q124 q1618) (jx_fw J 1 rfl) dJ0_addAll_3 (by decide +kernel) rfl (Nat.le_of_ble_eq_true rfl) (Nat.le_of_ble_eq_true rfl) (Nat.le_of_ble_eq_true rfl) rfl (cb_J2_iterator J (fr := 2) (lo := 41) (Nat.le_of_ble_eq_true rfl) (Nat.le_of_ble_eq_true rfl) _ _ _ _ w) (fun v9 h10 k11 q9 => ?_)
  obtain ⟨r12, rfl, w⟩ := q9
  refine jr_astore_n (pc := 8) F (vs' := [(3, .inr (.inr (.inl _))), (2, .inl _), (0, .inr (.inr (.inl _))), (1, .inr (.inr (.inl _)))]) dJ0_addAll_8 (Nat.le_of_ble_eq_true rfl) rfl ?_
  refine jj_J.sub [2, 1, 0] rfl ?_
  obtain ⟨n9, w⟩ := w
  exact sC_J0_addAll_l9 F M O J hi hQ hE _ _ n9 _ _ _ w

theorem cC_J0_addAll {G : jj_G} {l : Launch} (J : jx_G G l) {x0 : Option Nat} {x1 : Option Nat} {Q : Int → jj_H → Prop} {E : String → Nat → jj_H → Prop} {h : jj_H} {k : Nat} (w : fC_J0_addAll (jj_gk G) x0 x1 Q E h k) : jj_Ct G l yJ0_addAll (ws_ yJ0_addAll cJ0_addAll 5 (some (.boolean))) 7 154 [.inr (.inr (.inl x0)), .inr (.inr (.inl x1))] h k (jc_i Q) E := by
  refine jj_Ct.of J.1 (by decide +kernel) (Nat.le_of_ble_eq_true rfl) rfl (fun X hG hl F M O hnm => ?_)
  subst hG; subst hl
  exact sC_J0_addAll F M O J hnm (fun r h q => ⟨r, rfl, q⟩) (fun _ _ _ q => q) _ _ _ _ w
theorem hC_J0_addAll : yJ0_addAll.cls = RJ0 ∧ yJ0_addAll.cls ≠ "java/lang/invoke/MethodHandle" ∧ yJ0_addAll.cls ≠ "java/lang/invoke/VarHandle" ∧ (parseMethodDescriptor yJ0_addAll.desc).map (fun d => d.parameters.length) = some 1 := by decide +kernel
/-! J18_init()V -/
def fC_J18_init (gk : Nat → Nat) (x0 : Option Nat) (Q : jj_H → Prop) (E : String → Nat → jj_H → Prop) (h : jj_H) (k : Nat) : Prop :=
  jp_so x0 ∧
  Q h
theorem sC_J18_init {X : jj_X} {N : Option jj_AV → jj_H → Prop} {XN : String → Nat → jj_H → Prop} (F : jj_F X RJ18 cJ18_init 1) (M : jj_M X (none) 1 20 N XN) (O : jj_no X) (J : jx_G X.1 X.2.2.1) (hi : X.2.2.2.2.2.2.2.2.2.1.name = yJ18_init.name) {Q : jj_H → Prop} {E : String → Nat → jj_H → Prop} (hQ : ∀ h, Q h → N none h) (hE : ∀ e q h, E e q h → XN e q h) (x0 : Option Nat) : ∀ (h : jj_H) (k : Nat), fC_J18_init (jj_gk X.1) x0 Q E h k → jj_J X 1 0 [(0, .inr (.inr (.inl x0)))] [] h k := by
  intro h k w
  unfold fC_J18_init at w
  refine jr_aload_n (pc := 0) F (j := 0) dJ18_init_0 rfl ?_
  obtain ⟨ha9, w⟩ := w
  refine jr_objInitO (pc := 1) F M q559 q192 q193 ha9 (Nat.le_of_ble_eq_true rfl) (Nat.le_of_ble_eq_true rfl) (Nat.le_of_ble_eq_true rfl) dJ18_init_1 ?_
  exact jr_vret (pc := 4) F M dJ18_init_4 (hQ _ w)

theorem cC_J18_init {G : jj_G} {l : Launch} (J : jx_G G l) {x0 : Option Nat} {Q : jj_H → Prop} {E : String → Nat → jj_H → Prop} {h : jj_H} {k : Nat} (w : fC_J18_init (jj_gk G) x0 Q E h k) : jj_Ct G l yJ18_init (ws_ yJ18_init cJ18_init 1 (none)) 1 20 [.inr (.inr (.inl x0))] h k (jc_v Q) E := by
  refine jj_Ct.of J.1 (by decide +kernel) (Nat.le_of_ble_eq_true rfl) rfl (fun X hG hl F M O hnm => ?_)
  subst hG; subst hl
  exact sC_J18_init F M O J hnm (fun h q => ⟨rfl, q⟩) (fun _ _ _ q => q) _ _ _ w
theorem hC_J18_init : yJ18_init.cls = RJ18 ∧ yJ18_init.cls ≠ "java/lang/invoke/MethodHandle" ∧ yJ18_init.cls ≠ "java/lang/invoke/VarHandle" ∧ (parseMethodDescriptor yJ18_init.desc).map (fun d => d.parameters.length) = some 0 := by decide +kernel
/-! J19_getNode(Ljava/lang/Object;)Ljava/util/HashMap$Node; -/
def fC_J19_getNode_j137 (gk : Nat → Nat) (K99 : Option Nat → jj_H → Nat → Prop) (x1 : Option Nat) (x4 : Option Nat) (x6 : Int) (Q : Option Nat → jj_H → Prop) (E : String → Nat → jj_H → Prop) (h : jj_H) (k : Nat) : Prop :=
  jp_gr h x4 17 3 (fun g1 =>
  (¬ g1 = none → (
    K99 g1 h k)) ∧
  (g1 = none → (
    Q none h)))
def fC_J19_getNode_l99 (gk : Nat → Nat) (x1 : Option Nat) (x6 : Int) (Q : Option Nat → jj_H → Prop) (E : String → Nat → jj_H → Prop) : Nat → Option Nat → jj_H → Nat → Prop
  | 0, _, _, _ => False
  | n + 1, x4, h, k =>
  jp_gi h x4 17 0 (fun g2 =>
  jj_r g2 ∧ jj_r x6 ∧ (¬ g2 = x6 → (
    fC_J19_getNode_j137 gk (fC_J19_getNode_l99 gk x1 x6 Q E n) x1 x4 x6 Q E h k)) ∧
  (g2 = x6 → (
    jp_gr h x4 17 1 (fun g3 =>
    (g3 = x1 → (
      Q x4 h)) ∧
    (¬ g3 = x1 → (
      (x1 = none → (
        fC_J19_getNode_j137 gk (fC_J19_getNode_l99 gk x1 x6 Q E n) x1 x4 x6 Q E h k)) ∧
      (¬ x1 = none → (
        jq_J9_equals x1 g3 (fun r6 h4 k5 =>
        jj_r r6 ∧ (r6 = 0 → (
          fC_J19_getNode_j137 gk (fC_J19_getNode_l99 gk x1 x6 Q E n) x1 x4 x6 Q E h4 k5)) ∧
        (¬ r6 = 0 → (
          Q x4 h4))) h k))))))))
def fC_J19_getNode_j71 (gk : Nat → Nat) (x1 : Option Nat) (x3 : Option Nat) (x6 : Int) (Q : Option Nat → jj_H → Prop) (E : String → Nat → jj_H → Prop) (h : jj_H) (k : Nat) : Prop :=
  jp_gr h x3 17 3 (fun g7 =>
  (g7 = none → (
    Q none h)) ∧
  (¬ g7 = none → (
    jp_is h x3 17 ∧
    jj_r (0 : Int) ∧ ((0 : Int) = 0 → (
      ∃ n9, fC_J19_getNode_l99 gk x1 x6 Q E n9 g7 h k)) ∧
    (¬ (0 : Int) = 0 → (
      False)))))
def fC_J19_getNode (gk : Nat → Nat) (x0 : Option Nat) (x1 : Option Nat) (Q : Option Nat → jj_H → Prop) (E : String → Nat → jj_H → Prop) (h : jj_H) (k : Nat) : Prop :=
  jp_gr h x0 16 2 (fun g8 =>
  (g8 = none → (
    Q none h)) ∧
  (¬ g8 = none → (
    jp_ar h g8 4 (fun g9 =>
    jj_r g9 ∧ (g9 ≤ 0 → (
      Q none h)) ∧
    (¬ g9 ≤ 0 → (
      fC_J19_hash gk x1 (fun r11 h12 =>
      jp_rl h12 g8 4 (jj_and (g9 - 1) r11) (fun g13 =>
      (g13 = none → (
        Q none h12)) ∧
      (¬ g13 = none → (
        jp_gi h12 g13 17 0 (fun g14 =>
        jj_r g14 ∧ jj_r r11 ∧ (¬ g14 = r11 → (
          fC_J19_getNode_j71 gk x1 g13 r11 Q E h12 k)) ∧
        (g14 = r11 → (
          jp_gr h12 g13 17 1 (fun g15 =>
          (g15 = x1 → (
            Q g13 h12)) ∧
          (¬ g15 = x1 → (
            (x1 = none → (
              fC_J19_getNode_j71 gk x1 g13 r11 Q E h12 k)) ∧
            (¬ x1 = none → (
              jq_J9_equals x1 g15 (fun r18 h16 k17 =>
              jj_r r18 ∧ (r18 = 0 → (
                fC_J19_getNode_j71 gk x1 g13 r11 Q E h16 k17)) ∧
              (¬ r18 = 0 → (
                Q g13 h16))) h12 k)))))))))))) E h 0))))))
theorem sC_J19_getNode_j137 {X : jj_X} {N : Option jj_AV → jj_H → Prop} {XN : String → Nat → jj_H → Prop} (F : jj_F X RJ19 cJ19_getNode 8) (M : jj_M X (some ((.object "java/util/HashMap$Node"))) 5 111 N XN) (O : jj_no X) (J : jx_G X.1 X.2.2.1) (hi : X.2.2.2.2.2.2.2.2.2.1.name = yJ19_getNode.name) {Q : Option Nat → jj_H → Prop} {E : String → Nat → jj_H → Prop} (hQ : ∀ r h, Q r h → N (some (.inr (.inr (.inl r)))) h) (hE : ∀ e q h, E e q h → XN e q h) (x1 : Option Nat) (x4 : Option Nat) (x6 : Int) {K99 : Option Nat → jj_H → Nat → Prop} (hK99 : ∀ (z4 : Option Nat) (h : jj_H) (k : Nat), K99 z4 h k → jj_J X 8 99 [(1, .inr (.inr (.inl x1))), (4, .inr (.inr (.inl z4))), (6, .inl x6)] [] h k) : ∀ (h : jj_H) (k : Nat), fC_J19_getNode_j137 (jj_gk X.1) K99 x1 x4 x6 Q E h k → jj_J X 8 137 [(1, .inr (.inr (.inl x1))), (4, .inr (.inr (.inl x4))), (6, .inl x6)] [] h k := by
  intro h k w
  unfold fC_J19_getNode_j137 at w
  refine jr_aload (pc := 137) F (j := 1) dJ19_getNode_137 rfl ?_
  refine jr_gr (pc := 139) (ci := 17) (f := 3) F rfl in_J35 (Nat.le_of_ble_eq_true rfl) q2104 dJ19_getNode_139 w (fun g1 w => ?_)
  refine jr_dup (pc := 142) F dJ19_getNode_142 rfl ?_
  refine jr_astore (pc := 143) F (vs' := [(4, .inr (.inr (.inl _))), (1, .inr (.inr (.inl _))), (6, .inl _)]) dJ19_getNode_143 (Nat.le_of_ble_eq_true rfl) rfl ?_
  obtain ⟨w1, w2⟩ := w
  refine jr_ifnonnull (pc := 145) (tgt := 99) F dJ19_getNode_145 rfl (fun c9 => ?_) (fun c9 => ?_)
  · have w := w1 c9
    refine jj_J.sub [1, 0, 2] rfl ?_
    exact hK99 _ _ _ w
  · have w := w2 c9
    refine jr_null (pc := 148) F dJ19_getNode_148 ?_
    exact jr_aret (pc := 149) F M (Or.inl ⟨_, rfl⟩) dJ19_getNode_149 (hQ _ _ w)

theorem sC_J19_getNode_l99 {X : jj_X} {N : Option jj_AV → jj_H → Prop} {XN : String → Nat → jj_H → Prop} (F : jj_F X RJ19 cJ19_getNode 8) (M : jj_M X (some ((.object "java/util/HashMap$Node"))) 5 111 N XN) (O : jj_no X) (J : jx_G X.1 X.2.2.1) (hi : X.2.2.2.2.2.2.2.2.2.1.name = yJ19_getNode.name) {Q : Option Nat → jj_H → Prop} {E : String → Nat → jj_H → Prop} (hQ : ∀ r h, Q r h → N (some (.inr (.inr (.inl r)))) h) (hE : ∀ e q h, E e q h → XN e q h) (x1 : Option Nat) (x6 : Int) : ∀ (n : Nat) (x4 : Option Nat) (h : jj_H) (k : Nat), fC_J19_getNode_l99 (jj_gk X.1) x1 x6 Q E n x4 h k → jj_J X 8 99 [(1, .inr (.inr (.inl x1))), (4, .inr (.inr (.inl x4))), (6, .inl x6)] [] h k := by
  intro n
  induction n with
  | zero =>
    intro x4 h k w
    exact (show False from w).elim
  | succ n ih =>
    intro x4 h k w
    rw [fC_J19_getNode_l99] at w
    refine jr_aload (pc := 99) F (j := 1) dJ19_getNode_99 rfl ?_
    refine jr_gi (pc := 101) (ci := 17) (f := 0) F rfl in_J35 (Nat.le_of_ble_eq_true rfl) q2091 dJ19_getNode_101 w (fun g2 w => ?_)
    refine jr_iload (pc := 104) F (j := 2) dJ19_getNode_104 rfl ?_
    obtain ⟨hx9, hy9, w1, w2⟩ := w
    refine jr_icmp_ne (pc := 106) (tgt := 137) F hx9 hy9 dJ19_getNode_106 rfl (fun c9 => ?_) (fun c9 => ?_)
    · have w := w1 c9
      exact sC_J19_getNode_j137 F M O J hi hQ hE _ _ _ ih _ _ w
    · have w := w2 c9
      refine jr_aload (pc := 109) F (j := 1) dJ19_getNode_109 rfl ?_
      refine jr_gr (pc := 111) (ci := 17) (f := 1) F rfl in_J35 (Nat.le_of_ble_eq_true rfl) q2096 dJ19_getNode_111 w (fun g3 w => ?_)
      refine jr_dup (pc := 114) F dJ19_getNode_114 rfl ?_
      refine jr_astore (pc := 115) F (vs' := [(7, .inr (.inr (.inl _))), (1, .inr (.inr (.inl _))), (4, .inr (.inr (.inl _))), (6, .inl _)]) dJ19_getNode_115 (Nat.le_of_ble_eq_true rfl) rfl ?_
      refine jr_aload_n (pc := 117) F (j := 1) dJ19_getNode_117 rfl ?_
      obtain ⟨w1, w2⟩ := w
      refine jr_acmp_eq (pc := 118) (tgt := 134) F dJ19_getNode_118 rfl (fun c9 => ?_) (fun c9 => ?_)
      · have w := w1 c9
        refine jr_aload (pc := 134) F (j := 2) dJ19_getNode_134 rfl ?_
        exact jr_aret (pc := 136) F M (Or.inl ⟨_, rfl⟩) dJ19_getNode_136 (hQ _ _ w)
      · have w := w2 c9
        refine jr_aload_n (pc := 121) F (j := 1) dJ19_getNode_121 rfl ?_
        obtain ⟨w1, w2⟩ := w
        refine jr_ifnull (pc := 122) (tgt := 137) F dJ19_getNode_122 rfl (fun c9 => ?_) (fun c9 => ?_)
        · have w := w1 c9
          refine jj_J.sub [1, 2, 3] rfl ?_
          exact sC_J19_getNode_j137 F M O J hi hQ hE _ _ _ ih _ _ w
        · have w := w2 c9
          refine jr_aload_n (pc := 125) F (j := 1) dJ19_getNode_125 rfl ?_
          refine jr_aload (pc := 126) F (j := 0) dJ19_getNode_126 rfl ?_
          refine jr_jUR (pc := 128) (n := 1) (As := [_]) (ci := 25) F M (lw_U q1281 q1283 q1282 q1317 q713 q131 q715) q1322 dJ19_getNode_128 (by decide +kernel) rfl (Nat.le_of_ble_eq_true rfl) (Nat.le_of_ble_eq_true rfl) (Nat.le_of_ble_eq_true rfl) rfl (cb_J9_equals J (fr := 1) (lo := 22) (Nat.le_of_ble_eq_true rfl) (Nat.le_of_ble_eq_true rfl) _ _ _ _ _ w) (fun v9 h4 k5 q9 => ?_)
          obtain ⟨r6, rfl, w⟩ := q9
          obtain ⟨hx9, w1, w2⟩ := w
          refine jr_if_eq (pc := 131) (tgt := 137) F hx9 dJ19_getNode_131 rfl (fun c9 => ?_) (fun c9 => ?_)
          · have w := w1 c9
            refine jj_J.sub [1, 2, 3] rfl ?_
            exact sC_J19_getNode_j137 F M O J hi hQ hE _ _ _ ih _ _ w
          · have w := w2 c9
            refine jr_aload (pc := 134) F (j := 2) dJ19_getNode_134 rfl ?_
            exact jr_aret (pc := 136) F M (Or.inl ⟨_, rfl⟩) dJ19_getNode_136 (hQ _ _ w)

theorem sC_J19_getNode_j71 {X : jj_X} {N : Option jj_AV → jj_H → Prop} {XN : String → Nat → jj_H → Prop} (F : jj_F X RJ19 cJ19_getNode 8) (M : jj_M X (some ((.object "java/util/HashMap$Node"))) 5 111 N XN) (O : jj_no X) (J : jx_G X.1 X.2.2.1) (hi : X.2.2.2.2.2.2.2.2.2.1.name = yJ19_getNode.name) {Q : Option Nat → jj_H → Prop} {E : String → Nat → jj_H → Prop} (hQ : ∀ r h, Q r h → N (some (.inr (.inr (.inl r)))) h) (hE : ∀ e q h, E e q h → XN e q h) (x1 : Option Nat) (x3 : Option Nat) (x6 : Int) : ∀ (h : jj_H) (k : Nat), fC_J19_getNode_j71 (jj_gk X.1) x1 x3 x6 Q E h k → jj_J X 8 71 [(1, .inr (.inr (.inl x1))), (3, .inr (.inr (.inl x3))), (6, .inl x6)] [] h k := by
  intro h k w
  unfold fC_J19_getNode_j71 at w
  refine jr_aload_n (pc := 71) F (j := 1) dJ19_getNode_71 rfl ?_
  refine jr_gr (pc := 72) (ci := 17) (f := 3) F rfl in_J35 (Nat.le_of_ble_eq_true rfl) q2104 dJ19_getNode_72 w (fun g7 w => ?_)
  refine jr_dup (pc := 75) F dJ19_getNode_75 rfl ?_
  refine jr_astore (pc := 76) F (vs' := [(4, .inr (.inr (.inl _))), (1, .inr (.inr (.inl _))), (3, .inr (.inr (.inl _))), (6, .inl _)]) dJ19_getNode_76 (Nat.le_of_ble_eq_true rfl) rfl ?_
  obtain ⟨w1, w2⟩ := w
  refine jr_ifnull (pc := 78) (tgt := 148) F dJ19_getNode_78 rfl (fun c9 => ?_) (fun c9 => ?_)
  · have w := w1 c9
    refine jr_null (pc := 148) F dJ19_getNode_148 ?_
    exact jr_aret (pc := 149) F M (Or.inl ⟨_, rfl⟩) dJ19_getNode_149 (hQ _ _ w)
  · have w := w2 c9
    refine jr_aload_n (pc := 81) F (j := 2) dJ19_getNode_81 rfl ?_
    obtain ⟨hi9, w⟩ := w
    refine jr_instTN (pc := 82) F J q1323 dJ19_getNode_82 hi9 ?_
    obtain ⟨hx9, w1, w2⟩ := w
    refine jr_if_eq (pc := 85) (tgt := 99) F hx9 dJ19_getNode_85 rfl (fun c9 => ?_) (fun c9 => ?_)
    · have w := w1 c9
      refine jj_J.sub [1, 0, 3] rfl ?_
      obtain ⟨n9, w⟩ := w
      exact sC_J19_getNode_l99 F M O J hi hQ hE _ _ n9 _ _ _ w
    · have w := w2 c9
      refine jr_aload_n (pc := 88) F (j := 2) dJ19_getNode_88 rfl ?_
      exact (show False from w).elim

theorem sC_J19_getNode {X : jj_X} {N : Option jj_AV → jj_H → Prop} {XN : String → Nat → jj_H → Prop} (F : jj_F X RJ19 cJ19_getNode 8) (M : jj_M X (some ((.object "java/util/HashMap$Node"))) 5 111 N XN) (O : jj_no X) (J : jx_G X.1 X.2.2.1) (hi : X.2.2.2.2.2.2.2.2.2.1.name = yJ19_getNode.name) {Q : Option Nat → jj_H → Prop} {E : String → Nat → jj_H → Prop} (hQ : ∀ r h, Q r h → N (some (.inr (.inr (.inl r)))) h) (hE : ∀ e q h, E e q h → XN e q h) (x0 : Option Nat) (x1 : Option Nat) : ∀ (h : jj_H) (k : Nat), fC_J19_getNode (jj_gk X.1) x0 x1 Q E h k → jj_J X 8 0 [(0, .inr (.inr (.inl x0))), (1, .inr (.inr (.inl x1)))] [] h k := by
  intro h k w
  unfold fC_J19_getNode at w
  refine jr_aload_n (pc := 0) F (j := 0) dJ19_getNode_0 rfl ?_
  refine jr_gr (pc := 1) (ci := 16) (f := 2) F rfl in_J19 (Nat.le_of_ble_eq_true rfl) q562 dJ19_getNode_1 w (fun g8 w => ?_)
  refine jr_dup (pc := 4) F dJ19_getNode_4 rfl ?_
  refine jr_astore_n (pc := 5) F (vs' := [(2, .inr (.inr (.inl _))), (0, .inr (.inr (.inl _))), (1, .inr (.inr (.inl _)))]) dJ19_getNode_5 (Nat.le_of_ble_eq_true rfl) rfl ?_
  obtain ⟨w1, w2⟩ := w
  refine jr_ifnull (pc := 6) (tgt := 148) F dJ19_getNode_6 rfl (fun c9 => ?_) (fun c9 => ?_)
  · have w := w1 c9
    refine jr_null (pc := 148) F dJ19_getNode_148 ?_
    exact jr_aret (pc := 149) F M (Or.inl ⟨_, rfl⟩) dJ19_getNode_149 (hQ _ _ w)
  · have w := w2 c9
    refine jr_aload_n (pc := 9) F (j := 0) dJ19_getNode_9 rfl ?_
    refine jr_alenR (pc := 10) F ⟨8, _, fun _ => rfl⟩ dJ19_getNode_10 w (fun g9 w => ?_)
    refine jr_dup (pc := 11) F dJ19_getNode_11 rfl ?_
    refine jr_istore (pc := 12) F (vs' := [(5, .inl _), (2, .inr (.inr (.inl _))), (0, .inr (.inr (.inl _))), (1, .inr (.inr (.inl _)))]) dJ19_getNode_12 (Nat.le_of_ble_eq_true rfl) rfl ?_
    obtain ⟨hx9, w1, w2⟩ := w
    refine jr_if_le (pc := 14) (tgt := 148) F hx9 dJ19_getNode_14 rfl (fun c9 => ?_) (fun c9 => ?_)
    · have w := w1 c9
      refine jr_null (pc := 148) F dJ19_getNode_148 ?_
      exact jr_aret (pc := 149) F M (Or.inl ⟨_, rfl⟩) dJ19_getNode_149 (hQ _ _ w)
    · have w := w2 c9
      refine jr_aload_n (pc := 17) F (j := 1) dJ19_getNode_17 rfl ?_
      refine jr_iload (pc := 18) F (j := 0) dJ19_getNode_18 rfl ?_
      refine jr_iconst (pc := 20) F dJ19_getNode_20 ?_
      refine jr_isub (pc := 21) F dJ19_getNode_21 ?_
      refine jr_aload_n (pc := 22) F (j := 3) dJ19_getNode_22 rfl ?_
      refine jr_callS (pc := 23) (As := [_]) F M (lw_S q1172 q1173 q142 q1174) dJ19_getNode_23 hC_J19_hash.2 rfl (Nat.le_of_ble_eq_true rfl) (Nat.le_of_ble_eq_true rfl) (Nat.le_of_ble_eq_true rfl) (Nat.zero_le _) (cC_J19_hash J w) (fun v9 h12 q9 => ?_) (fun E9 q9 h9 w9 => jr_out F M O (hE _ _ _ w9))
      obtain ⟨r11, rfl, w⟩ := q9
      refine jr_dup (pc := 26) F dJ19_getNode_26 rfl ?_
      refine jr_istore (pc := 27) F (vs' := [(6, .inl _), (5, .inl _), (2, .inr (.inr (.inl _))), (0, .inr (.inr (.inl _))), (1, .inr (.inr (.inl _)))]) dJ19_getNode_27 (Nat.le_of_ble_eq_true rfl) rfl ?_
      refine jr_iand (pc := 29) F dJ19_getNode_29 ?_
      refine jr_aald (pc := 30) F ⟨8, _, fun _ => rfl⟩ dJ19_getNode_30 w (fun g13 w => ?_)
      refine jr_dup (pc := 31) F dJ19_getNode_31 rfl ?_
      refine jr_astore_n (pc := 32) F (vs' := [(3, .inr (.inr (.inl _))), (6, .inl _), (5, .inl _), (2, .inr (.inr (.inl _))), (0, .inr (.inr (.inl _))), (1, .inr (.inr (.inl _)))]) dJ19_getNode_32 (Nat.le_of_ble_eq_true rfl) rfl ?_
      obtain ⟨w1, w2⟩ := w
      refine jr_ifnull (pc := 33) (tgt := 148) F dJ19_getNode_33 rfl (fun c9 => ?_) (fun c9 => ?_)
      · have w := w1 c9
        refine jr_null (pc := 148) F dJ19_getNode_148 ?_
        exact jr_aret (pc := 149) F M (Or.inl ⟨_, rfl⟩) dJ19_getNode_149 (hQ _ _ w)
      · have w := w2 c9
        refine jr_aload_n (pc := 36) F (j := 0) dJ19_getNode_36 rfl ?_
        refine jr_gi (pc := 37) (ci := 17) (f := 0) F rfl in_J35 (Nat.le_of_ble_eq_true rfl) q2091 dJ19_getNode_37 w (fun g14 w => ?_)
        refine jr_iload (pc := 40) F (j := 1) dJ19_getNode_40 rfl ?_
        obtain ⟨hx9, hy9, w1, w2⟩ := w
        refine jr_icmp_ne (pc := 42) (tgt := 71) F hx9 hy9 dJ19_getNode_42 rfl (fun c9 => ?_) (fun c9 => ?_)
        · have w := w1 c9
          refine jj_J.sub [5, 0, 1] rfl ?_
          exact sC_J19_getNode_j71 F M O J hi hQ hE _ _ _ _ _ w
        · have w := w2 c9
          refine jr_aload_n (pc := 45) F (j := 0) dJ19_getNode_45 rfl ?_
          refine jr_gr (pc := 46) (ci := 17) (f := 1) F rfl in_J35 (Nat.le_of_ble_eq_true rfl) q2096 dJ19_getNode_46 w (fun g15 w => ?_)
          refine jr_dup (pc := 49) F dJ19_getNode_49 rfl ?_
          refine jr_astore (pc := 50) F (vs' := [(7, .inr (.inr (.inl _))), (3, .inr (.inr (.inl _))), (6, .inl _), (5, .inl _), (2, .inr (.inr (.inl _))), (0, .inr (.inr (.inl _))), (1, .inr (.inr (.inl _)))]) dJ19_getNode_50 (Nat.le_of_ble_eq_true rfl) rfl ?_
          refine jr_aload_n (pc := 52) F (j := 6) dJ19_getNode_52 rfl ?_
          obtain ⟨w1, w2⟩ := w
          refine jr_acmp_eq (pc := 53) (tgt := 69) F dJ19_getNode_53 rfl (fun c9 => ?_) (fun c9 => ?_)
          · have w := w1 c9
            refine jr_aload_n (pc := 69) F (j := 1) dJ19_getNode_69 rfl ?_
            exact jr_aret (pc := 70) F M (Or.inl ⟨_, rfl⟩) dJ19_getNode_70 (hQ _ _ w)
          · have w := w2 c9
            refine jr_aload_n (pc := 56) F (j := 6) dJ19_getNode_56 rfl ?_
            obtain ⟨w1, w2⟩ := w
            refine jr_ifnull (pc := 57) (tgt := 71) F dJ19_getNode_57 rfl (fun c9 => ?_) (fun c9 => ?_)
            · have w := w1 c9
              refine jj_J.sub [6, 1, 2] rfl ?_
              exact sC_J19_getNode_j71 F M O J hi hQ hE _ _ _ _ _ w
            · have w := w2 c9
              refine jr_aload_n (pc := 60) F (j := 6) dJ19_getNode_60 rfl ?_
              refine jr_aload (pc := 61) F (j := 0) dJ19_getNode_61 rfl ?_
              refine jr_jUR (pc := 63) (n := 1) (As := [_]) (ci := 25) F M (lw_U q1281 q1283 q1282 q1317 q713 q131 q715) q1322 dJ19_getNode_63 (by decide +kernel) rfl (Nat.le_of_ble_eq_true rfl) (Nat.le_of_ble_eq_true rfl) (Nat.le_of_ble_eq_true rfl) rfl (cb_J9_equals J (fr := 1) (lo := 22) (Nat.le_of_ble_eq_true rfl) (Nat.le_of_ble_eq_true rfl) _ _ _ _ _ w) (fun v9 h16 k17 q9 => ?_)
              obtain ⟨r18, rfl, w⟩ := q9
              obtain ⟨hx9, w1, w2⟩ := w
              refine jr_if_eq (pc := 66) (tgt := 71) F hx9 dJ19_getNode_66 rfl (fun c9 => ?_) (fun c9 => ?_)
              · have w := w1 c9
                refine jj_J.sub [6, 1, 2] rfl ?_
                exact sC_J19_getNode_j71 F M O J hi hQ hE _ _ _ _ _ w
              · have w := w2 c9
                refine jr_aload_n (pc := 69) F (j := 1) dJ19_getNode_69 rfl ?_
                exact jr_aret (pc := 70) F M (Or.inl ⟨_, rfl⟩) dJ19_getNode_70 (hQ _ _ w)

theorem cC_J19_getNode {G : jj_G} {l : Launch} (J : jx_G G l) {x0 : Option Nat} {x1 : Option Nat} {Q : Option Nat → jj_H → Prop} {E : String → Nat → jj_H → Prop} {h : jj_H} {k : Nat} (w : fC_J19_getNode (jj_gk G) x0 x1 Q E h k) : jj_Ct G l yJ19_getNode (ws_ yJ19_getNode cJ19_getNode 8 (some ((.object "java/util/HashMap$Node")))) 5 111 [.inr (.inr (.inl x0)), .inr (.inr (.inl x1))] h k (jc_r Q) E := by
  refine jj_Ct.of J.1 (by decide +kernel) (Nat.le_of_ble_eq_true rfl) rfl (fun X hG hl F M O hnm => ?_)
  subst hG; subst hl
  exact sC_J19_getNode F M O J hnm (fun r h q => ⟨r, rfl, q⟩) (fun _ _ _ q => q) _ _ _ _ w
theorem hC_J19_getNode : yJ19_getNode.cls = RJ19 ∧ yJ19_getNode.cls ≠ "java/lang/invoke/MethodHandle" ∧ yJ19_getNode.cls ≠ "java/lang/invoke/VarHandle" ∧ (parseMethodDescriptor yJ19_getNode.desc).map (fun d => d.parameters.length) = some 1 := by decide +kernel
/-! J19_containsKey(Ljava/lang/Object;)Z -/
def fC_J19_containsKey (gk : Nat → Nat) (x0 : Option Nat) (x1 : Option Nat) (Q : Int → jj_H → Prop) (E : String → Nat → jj_H → Prop) (h : jj_H) (k : Nat) : Prop :=
  jp_is h x0 16 ∧ fC_J19_getNode gk x0 x1 (fun r2 h3 =>
  (r2 = none → (
    Q 0 h3)) ∧
  (¬ r2 = none → (
    Q 1 h3))) E h 0
theorem sC_J19_containsKey {X : jj_X} {N : Option jj_AV → jj_H → Prop} {XN : String → Nat → jj_H → Prop} (F : jj_F X RJ19 cJ19_containsKey 2) (M : jj_M X (some (.boolean)) 6 138 N XN) (O : jj_no X) (J : jx_G X.1 X.2.2.1) (hi : X.2.2.2.2.2.2.2.2.2.1.name = yJ19_containsKey.name) {Q : Int → jj_H → Prop} {E : String → Nat → jj_H → Prop} (hQ : ∀ r h, Q r h → N (some (.inl r)) h) (hE : ∀ e q h, E e q h → XN e q h) (x0 : Option Nat) (x1 : Option Nat) : ∀ (h : jj_H) (k : Nat), fC_J19_containsKey (jj_gk X.1) x0 x1 Q E h k → jj_J X 2 0 [(0, .inr (.inr (.inl x0))), (1, .inr (.inr (.inl x1)))] [] h k := by
  intro h k w
  unfold fC_J19_containsKey at w
  refine jr_aload_n (pc := 0) F (j := 0) dJ19_containsKey_0 rfl ?_
  refine jr_aload_n (pc := 1) F (j := 1) dJ19_containsKey_1 rfl ?_
  obtain ⟨hi9, w⟩ := w
  refine jr_cV (pc := 2) (As := [_]) (ci := 16) F M (lw_V q1168 q1169 q1170 q142 q1171) dJ19_containsKey_2 hC_J19_getNode rfl (Nat.le_of_ble_eq_true rfl) (Nat.le_of_ble_eq_true rfl) (Nat.le_of_ble_eq_true rfl) rfl hi9 (Nat.zero_le _) (cC_J19_getNode J w) (fun v9 h3 q9 => ?_) (fun E9 q9 h9 w9 => jr_out F M O (hE _ _ _ w9))
  obtain ⟨r2, rfl, w⟩ := q9
  obtain ⟨w1, w2⟩ := w
  refine jr_ifnull (pc := 5) (tgt := 12) F dJ19_containsKey_5 rfl (fun c9 => ?_) (fun c9 => ?_)
  · have w := w1 c9
    refine jr_iconst (pc := 12) F dJ19_containsKey_12 ?_
    exact jr_zret (pc := 13) F M dJ19_containsKey_13 (by decide) (hQ _ _ w)
  · have w := w2 c9
    refine jr_iconst (pc := 8) F dJ19_containsKey_8 ?_
    refine jr_goto (pc := 9) (tgt := 13) F dJ19_containsKey_9 rfl ?_
    exact jr_zret (pc := 13) F M dJ19_containsKey_13 (by decide) (hQ _ _ w)

theorem cC_J19_containsKey {G : jj_G} {l : Launch} (J : jx_G G l) {x0 : Option Nat} {x1 : Option Nat} {Q : Int → jj_H → Prop} {E : String → Nat → jj_H → Prop} {h : jj_H} {k : Nat} (w : fC_J19_containsKey (jj_gk G) x0 x1 Q E h k) : jj_Ct G l yJ19_containsKey (ws_ yJ19_containsKey cJ19_containsKey 2 (some (.boolean))) 6 138 [.inr (.inr (.inl x0)), .inr (.inr (.inl x1))] h k (jc_i Q) E := by
  refine jj_Ct.of J.1 (by decide +kernel) (Nat.le_of_ble_eq_true rfl) rfl (fun X hG hl F M O hnm => ?_)
  subst hG; subst hl
  exact sC_J19_containsKey F M O J hnm (fun r h q => ⟨r, rfl, q⟩) (fun _ _ _ q => q) _ _ _ _ w
theorem hC_J19_containsKey : yJ19_containsKey.cls = RJ19 ∧ yJ19_containsKey.cls ≠ "java/lang/invoke/MethodHandle" ∧ yJ19_containsKey.cls ≠ "java/lang/invoke/VarHandle" ∧ (parseMethodDescriptor yJ19_containsKey.desc).map (fun d => d.parameters.length) = some 1 := by decide +kernel
/-! J19_get(Ljava/lang/Object;)Ljava/lang/Object; -/
def fC_J19_get (gk : Nat → Nat) (x0 : Option Nat) (x1 : Option Nat) (Q : Option Nat → jj_H → Prop) (E : String → Nat → jj_H → Prop) (h : jj_H) (k : Nat) : Prop :=
  jp_is h x0 16 ∧ fC_J19_getNode gk x0 x1 (fun r2 h3 =>
  (¬ r2 = none → (
    jp_gr h3 r2 17 2 (fun g4 =>
    Q g4 h3))) ∧
  (r2 = none → (
    Q none h3))) E h 0
theorem sC_J19_get {X : jj_X} {N : Option jj_AV → jj_H → Prop} {XN : String → Nat → jj_H → Prop} (F : jj_F X RJ19 cJ19_get 3) (M : jj_M X (some ((.object "java/lang/Object"))) 6 138 N XN) (O : jj_no X) (J : jx_G X.1 X.2.2.1) (hi : X.2.2.2.2.2.2.2.2.2.1.name = yJ19_get.name) {Q : Option Nat → jj_H → Prop} {E : String → Nat → jj_H → Prop} (hQ : ∀ r h, Q r h → N (some (.inr (.inr (.inl r)))) h) (hE : ∀ e q h, E e q h → XN e q h) (x0 : Option Nat) (x1 : Option Nat) : ∀ (h : jj_H) (k : Nat), fC_J19_get (jj_gk X.1) x0 x1 Q E h k → jj_J X 3 0 [(0, .inr (.inr (.inl x0))), (1, .inr (.inr (.inl x1)))] [] h k := by
  intro h k w
  unfold fC_J19_get at w
  refine jr_aload_n (pc := 0) F (j := 0) dJ19_get_0 rfl ?_
  refine jr_aload_n (pc := 1) F (j := 1) dJ19_get_1 rfl ?_
  obtain ⟨hi9, w⟩ := w
  refine jr_cV (pc := 2) (As := [_]) (ci := 16) F M (lw_V q1168 q1169 q1170 q142 q1171) dJ19_get_2 hC_J19_getNode rfl (Nat.le_of_ble_eq_true rfl) (Nat.le_of_ble_eq_true rfl) (Nat.le_of_ble_eq_true rfl) rfl hi9 (Nat.zero_le _) (cC_J19_getNode J w) (fun v9 h3 q9 => ?_) (fun E9 q9 h9 w9 => jr_out F M O (hE _ _ _ w9))
  obtain ⟨r2, rfl, w⟩ := q9
  refine jr_dup (pc := 5) F dJ19_get_5 rfl ?_
  refine jr_astore_n (pc := 6) F (vs' := [(2, .inr (.inr (.inl _))), (0, .inr (.inr (.inl _))), (1, .inr (.inr (.inl _)))]) dJ19_get_6 (Nat.le_of_ble_eq_true rfl) rfl ?_
  obtain ⟨w1, w2⟩ := w
  refine jr_ifnonnull (pc := 7) (tgt := 14) F dJ19_get_7 rfl (fun c9 => ?_) (fun c9 => ?_)
  · have w := w1 c9
    refine jr_aload_n (pc := 14) F (j := 0) dJ19_get_14 rfl ?_
    refine jr_gr (pc := 15) (ci := 17) (f := 2) F rfl in_J35 (Nat.le_of_ble_eq_true rfl) q2098 dJ19_get_15 w (fun g4 w => ?_)
    exact jr_aret (pc := 18) F M (Or.inl ⟨_, rfl⟩) dJ19_get_18 (hQ _ _ w)
  · have w := w2 c9
    refine jr_null (pc := 10) F dJ19_get_10 ?_
    refine jr_goto (pc := 11) (tgt := 18) F dJ19_get_11 rfl ?_
    exact jr_aret (pc := 18) F M (Or.inl ⟨_, rfl⟩) dJ19_get_18 (hQ _ _ w)

theorem cC_J19_get {G : jj_G} {l : Launch} (J : jx_G G l) {x0 : Option Nat} {x1 : Option Nat} {Q : Option Nat → jj_H → Prop} {E : String → Nat → jj_H → Prop} {h : jj_H} {k : Nat} (w : fC_J19_get (jj_gk G) x0 x1 Q E h k) : jj_Ct G l yJ19_get (ws_ yJ19_get cJ19_get 3 (some ((.object "java/lang/Object")))) 6 138 [.inr (.inr (.inl x0)), .inr (.inr (.inl x1))] h k (jc_r Q) E := by
  refine jj_Ct.of J.1 (by decide +kernel) (Nat.le_of_ble_eq_true rfl) rfl (fun X hG hl F M O hnm => ?_)
  subst hG; subst hl
  exact sC_J19_get F M O J hnm (fun r h q => ⟨r, rfl, q⟩) (fun _ _ _ q => q) _ _ _ _ w
theorem hC_J19_get : yJ19_get.cls = RJ19 ∧ yJ19_get.cls ≠ "java/lang/invoke/MethodHandle" ∧ yJ19_get.cls ≠ "java/lang/invoke/VarHandle" ∧ (parseMethodDescriptor yJ19_get.desc).map (fun d => d.parameters.length) = some 1 := by decide +kernel
/-! J19_init()V -/
def fC_J19_init (gk : Nat → Nat) (x0 : Option Nat) (Q : jj_H → Prop) (E : String → Nat → jj_H → Prop) (h : jj_H) (k : Nat) : Prop :=
  jp_so x0 ∧ fC_J18_init gk x0 (fun h3 =>
  jp_pf h3 x0 16 7 1061158912 (fun h4 =>
  Q h4)) E h 0
theorem sC_J19_init {X : jj_X} {N : Option jj_AV → jj_H → Prop} {XN : String → Nat → jj_H → Prop} (F : jj_F X RJ19 cJ19_init 1) (M : jj_M X (none) 2 40 N XN) (O : jj_no X) (J : jx_G X.1 X.2.2.1) (hi : X.2.2.2.2.2.2.2.2.2.1.name = yJ19_init.name) {Q : jj_H → Prop} {E : String → Nat → jj_H → Prop} (hQ : ∀ h, Q h → N none h) (hE : ∀ e q h, E e q h → XN e q h) (x0 : Option Nat) : ∀ (h : jj_H) (k : Nat), fC_J19_init (jj_gk X.1) x0 Q E h k → jj_J X 1 0 [(0, .inr (.inr (.inl x0)))] [] h k := by
  intro h k w
  unfold fC_J19_init at w
  refine jr_aload_n (pc := 0) F (j := 0) dJ19_init_0 rfl ?_
  obtain ⟨hi9, w⟩ := w
  refine jr_cI (pc := 1) (As := []) F M q556 q557 q141 q558 dJ19_init_1 rfl hC_J18_init.2 rfl (Nat.le_of_ble_eq_true rfl) (Nat.le_of_ble_eq_true rfl) (Nat.le_of_ble_eq_true rfl) hi9 (Nat.zero_le _) (cC_J18_init J w) (fun v9 h3 q9 => ?_) (fun E9 q9 h9 w9 => jr_out F M O (hE _ _ _ w9))
  obtain ⟨rfl, w⟩ := q9
  refine jr_aload_n (pc := 4) F (j := 0) dJ19_init_4 rfl ?_
  refine jr_ldcF (pc := 5) F (x := 1061158912) q560 dJ19_init_5 ?_
  refine jr_pfF (pc := 7) (ci := 16) (f := 7) F rfl in_J19 tyJ19_ok nmJ19 (Nat.le_of_ble_eq_true rfl) rfl rfl rfl hi q569 dJ19_init_7 w (fun h4 w => ?_)
  exact jr_vret (pc := 10) F M dJ19_init_10 (hQ _ w)

theorem cC_J19_init {G : jj_G} {l : Launch} (J : jx_G G l) {x0 : Option Nat} {Q : jj_H → Prop} {E : String → Nat → jj_H → Prop} {h : jj_H} {k : Nat} (w : fC_J19_init (jj_gk G) x0 Q E h k) : jj_Ct G l yJ19_init (ws_ yJ19_init cJ19_init 1 (none)) 2 40 [.inr (.inr (.inl x0))] h k (jc_v Q) E := by
  refine jj_Ct.of J.1 (by decide +kernel) (Nat.le_of_ble_eq_true rfl) rfl (fun X hG hl F M O hnm => ?_)
  subst hG; subst hl
  exact sC_J19_init F M O J hnm (fun h q => ⟨rfl, q⟩) (fun _ _ _ q => q) _ _ _ w
theorem hC_J19_init : yJ19_init.cls = RJ19 ∧ yJ19_init.cls ≠ "java/lang/invoke/MethodHandle" ∧ yJ19_init.cls ≠ "java/lang/invoke/VarHandle" ∧ (parseMethodDescriptor yJ19_init.desc).map (fun d => d.parameters.length) = some 0 := by decide +kernel
/-! J26_init()V -/
def fC_J26_init (gk : Nat → Nat) (x0 : Option Nat) (Q : jj_H → Prop) (E : String → Nat → jj_H → Prop) (h : jj_H) (k : Nat) : Prop :=
  jp_so x0 ∧ fC_J0_init gk x0 (fun h3 =>
  Q h3) E h 0
theorem sC_J26_init {X : jj_X} {N : Option jj_AV → jj_H → Prop} {XN : String → Nat → jj_H → Prop} (F : jj_F X RJ26 cJ26_init 1) (M : jj_M X (none) 2 40 N XN) (O : jj_no X) (J : jx_G X.1 X.2.2.1) (hi : X.2.2.2.2.2.2.2.2.2.1.name = yJ26_init.name) {Q : jj_H → Prop} {E : String → Nat → jj_H → Prop} (hQ : ∀ h, Q h → N none h) (hE : ∀ e q h, E e q h → XN e q h) (x0 : Option Nat) : ∀ (h : jj_H) (k : Nat), fC_J26_init (jj_gk X.1) x0 Q E h k → jj_J X 1 0 [(0, .inr (.inr (.inl x0)))] [] h k := by
  intro h k w
  unfold fC_J26_init at w
  refine jr_aload_n (pc := 0) F (j := 0) dJ26_init_0 rfl ?_
  obtain ⟨hi9, w⟩ := w
  refine jr_cI (pc := 1) (As := []) F M q951 q209 q122 q210 dJ26_init_1 rfl hC_J0_init.2 rfl (Nat.le_of_ble_eq_true rfl) (Nat.le_of_ble_eq_true rfl) (Nat.le_of_ble_eq_true rfl) hi9 (Nat.zero_le _) (cC_J0_init J w) (fun v9 h3 q9 => ?_) (fun E9 q9 h9 w9 => jr_out F M O (hE _ _ _ w9))
  obtain ⟨rfl, w⟩ := q9
  exact jr_vret (pc := 4) F M dJ26_init_4 (hQ _ w)

theorem cC_J26_init {G : jj_G} {l : Launch} (J : jx_G G l) {x0 : Option Nat} {Q : jj_H → Prop} {E : String → Nat → jj_H → Prop} {h : jj_H} {k : Nat} (w : fC_J26_init (jj_gk G) x0 Q E h k) : jj_Ct G l yJ26_init (ws_ yJ26_init cJ26_init 1 (none)) 2 40 [.inr (.inr (.inl x0))] h k (jc_v Q) E := by
  refine jj_Ct.of J.1 (by decide +kernel) (Nat.le_of_ble_eq_true rfl) rfl (fun X hG hl F M O hnm => ?_)
  subst hG; subst hl
  exact sC_J26_init F M O J hnm (fun h q => ⟨rfl, q⟩) (fun _ _ _ q => q) _ _ _ w
theorem hC_J26_init : yJ26_init.cls = RJ26 ∧ yJ26_init.cls ≠ "java/lang/invoke/MethodHandle" ∧ yJ26_init.cls ≠ "java/lang/invoke/VarHandle" ∧ (parseMethodDescriptor yJ26_init.desc).map (fun d => d.parameters.length) = some 0 := by decide +kernel
/-! J27_init(Ljava/util/HashMap;)V -/
def fC_J27_init (gk : Nat → Nat) (x0 : Option Nat) (x1 : Option Nat) (Q : jj_H → Prop) (E : String → Nat → jj_H → Prop) (h : jj_H) (k : Nat) : Prop :=
  jp_pr h x0 18 0 x1 (fun h1 =>
  jp_so x0 ∧ fC_J26_init gk x0 (fun h4 =>
  Q h4) E h1 0)
theorem sC_J27_init {X : jj_X} {N : Option jj_AV → jj_H → Prop} {XN : String → Nat → jj_H → Prop} (F : jj_F X RJ27 cJ27_init 2) (M : jj_M X (none) 3 60 N XN) (O : jj_no X) (J : jx_G X.1 X.2.2.1) (hi : X.2.2.2.2.2.2.2.2.2.1.name = yJ27_init.name) {Q : jj_H → Prop} {E : String → Nat → jj_H → Prop} (hQ : ∀ h, Q h → N none h) (hE : ∀ e q h, E e q h → XN e q h) (x0 : Option Nat) (x1 : Option Nat) : ∀ (h : jj_H) (k : Nat), fC_J27_init (jj_gk X.1) x0 x1 Q E h k → jj_J X 2 0 [(0, .inr (.inr (.inl x0))), (1, .inr (.inr (.inl x1)))] [] h k := by
  intro h k w
  unfold fC_J27_init at w
  refine jr_aload_n (pc := 0) F (j := 0) dJ27_init_0 rfl ?_
  refine jr_aload_n (pc := 1) F (j := 1) dJ27_init_1 rfl ?_
  refine jr_prF (pc := 2) (ci := 18) (f := 0) F rfl in_J27 tyJ27_ok nmJ27 (Nat.le_of_ble_eq_true rfl) rfl rfl rfl hi q952 dJ27_init_2 w (fun h1 w => ?_)
  refine jr_aload_n (pc := 5) F (j := 0) dJ27_init_5 rfl ?_
  obtain ⟨hi9, w⟩ := w
  refine jr_cI (pc := 6) (As := []) F M q948 q949 q152 q950 dJ27_init_6 rfl hC_J26_init.2 rfl (Nat.le_of_ble_eq_true rfl) (Nat.le_of_ble_eq_true rfl) (Nat.le_of_ble_eq_true rfl) hi9 (Nat.zero_le _) (cC_J26_init J w) (fun v9 h4 q9 => ?_) (fun E9 q9 h9 w9 => jr_out F M O (hE _ _ _ w9))
  obtain ⟨rfl, w⟩ := q9
  exact jr_vret (pc := 9) F M dJ27_init_9 (hQ _ w)

theorem cC_J27_init {G : jj_G} {l : Launch} (J : jx_G G l) {x0 : Option Nat} {x1 : Option Nat} {Q : jj_H → Prop} {E : String → Nat → jj_H → Prop} {h : jj_H} {k : Nat} (w : fC_J27_init (jj_gk G) x0 x1 Q E h k) : jj_Ct G l yJ27_init (ws_ yJ27_init cJ27_init 2 (none)) 3 60 [.inr (.inr (.inl x0)), .inr (.inr (.inl x1))] h k (jc_v Q) E := by
  refine jj_Ct.of J.1 (by decide +kernel) (Nat.le_of_ble_eq_true rfl) rfl (fun X hG hl F M O hnm => ?_)
  subst hG; subst hl
  exact sC_J27_init F M O J hnm (fun h q => ⟨rfl, q⟩) (fun _ _ _ q => q) _ _ _ _ w
theorem hC_J27_init : yJ27_init.cls = RJ27 ∧ yJ27_init.cls ≠ "java/lang/invoke/MethodHandle" ∧ yJ27_init.cls ≠ "java/lang/invoke/VarHandle" ∧ (parseMethodDescriptor yJ27_init.desc).map (fun d => d.parameters.length) = some 1 := by decide +kernel
/-! J19_keySet()Ljava/util/Set; -/
def fC_J19_keySet (gk : Nat → Nat) (x0 : Option Nat) (Q : Option Nat → jj_H → Prop) (E : String → Nat → jj_H → Prop) (h : jj_H) (k : Nat) : Prop :=
  jp_gr h x0 16 0 (fun g1 =>
  (¬ g1 = none → (
    Q g1 h)) ∧
  (g1 = none → (
    jp_nw h k 18 1 df_J27 (fun a2 h3 k4 =>
    jp_so (some a2) ∧ fC_J27_init gk (some a2) x0 (fun h7 =>
    jp_pr h7 x0 16 0 (some a2) (fun h8 =>
    Q (some a2) h8)) E h3 0))))
theorem sC_J19_keySet {X : jj_X} {N : Option jj_AV → jj_H → Prop} {XN : String → Nat → jj_H → Prop} (F : jj_F X RJ19 cJ19_keySet 2) (M : jj_M X (some ((.object "java/util/Set"))) 4 81 N XN) (O : jj_no X) (J : jx_G X.1 X.2.2.1) (hi : X.2.2.2.2.2.2.2.2.2.1.name = yJ19_keySet.name) {Q : Option Nat → jj_H → Prop} {E : String → Nat → jj_H → Prop} (hQ : ∀ r h, Q r h → N (some (.inr (.inr (.inl r)))) h) (hE : ∀ e q h, E e q h → XN e q h) (x0 : Option Nat) : ∀ (h : jj_H) (k : Nat), fC_J19_keySet (jj_gk X.1) x0 Q E h k → jj_J X 2 0 [(0, .inr (.inr (.inl x0)))] [] h k := by
  intro h k w
  unfold fC_J19_keySet at w
  refine jr_aload_n (pc := 0) F (j := 0) dJ19_keySet_0 rfl ?_
  refine jr_grR (pc := 1) (ci := 16) (f := 0) F rfl in_J19 (Nat.le_of_ble_eq_true rfl) q570 q571 dJ19_keySet_1 w (fun g1 w => ?_)
  refine jr_astore_n (pc := 4) F (vs' := [(1, .inr (.inr (.inl _))), (0, .inr (.inr (.inl _)))]) dJ19_keySet_4 (Nat.le_of_ble_eq_true rfl) rfl ?_
  refine jr_aload_n (pc := 5) F (j := 0) dJ19_keySet_5 rfl ?_
  obtain ⟨w1, w2⟩ := w
  refine jr_ifnonnull (pc := 6) (tgt := 23) F dJ19_keySet_6 rfl (fun c9 => ?_) (fun c9 => ?_)
  · have w := w1 c9
    refine jr_aload_n (pc := 23) F (j := 0) dJ19_keySet_23 rfl ?_
    exact jr_aret (pc := 24) F M (Or.inl ⟨_, rfl⟩) dJ19_keySet_24 (hQ _ _ w)
  · have w := w2 c9
    refine jr_new (pc := 9) (ci := 18) F rfl in_J27 tyJ27_ok q943 q944 q153 dfo_J27 rfl ⟨by decide, by decide⟩ dJ19_keySet_9 w (fun a2 h3 k4 w => ?_)
    refine jr_dup (pc := 12) F dJ19_keySet_12 rfl ?_
    refine jr_aload_n (pc := 13) F (j := 1) dJ19_keySet_13 rfl ?_
    obtain ⟨hi9, w⟩ := w
    refine jr_cI (pc := 14) (As := [_]) F M q945 q946 q153 q947 dJ19_keySet_14 rfl hC_J27_init.2 rfl (Nat.le_of_ble_eq_true rfl) (Nat.le_of_ble_eq_true rfl) (Nat.le_of_ble_eq_true rfl) hi9 (Nat.zero_le _) (cC_J27_init J w) (fun v9 h7 q9 => ?_) (fun E9 q9 h9 w9 => jr_out F M O (hE _ _ _ w9))
    obtain ⟨rfl, w⟩ := q9
    refine jr_astore_n (pc := 17) F (vs' := [(1, .inr (.inr (.inl _))), (0, .inr (.inr (.inl _)))]) dJ19_keySet_17 (Nat.le_of_ble_eq_true rfl) rfl ?_
    refine jr_aload_n (pc := 18) F (j := 1) dJ19_keySet_18 rfl ?_
    refine jr_aload_n (pc := 19) F (j := 0) dJ19_keySet_19 rfl ?_
    refine jr_prR (pc := 20) (ci := 16) (f := 0) F rfl in_J19 tyJ19_ok nmJ19 (Nat.le_of_ble_eq_true rfl) rfl rfl q570 q571 dJ19_keySet_20 w (fun h8 w => ?_)
    refine jr_aload_n (pc := 23) F (j := 0) dJ19_keySet_23 rfl ?_
    exact jr_aret (pc := 24) F M (Or.inl ⟨_, rfl⟩) dJ19_keySet_24 (hQ _ _ w)

theorem cC_J19_keySet {G : jj_G} {l : Launch} (J : jx_G G l) {x0 : Option Nat} {Q : Option Nat → jj_H → Prop} {E : String → Nat → jj_H → Prop} {h : jj_H} {k : Nat} (w : fC_J19_keySet (jj_gk G) x0 Q E h k) : jj_Ct G l yJ19_keySet (ws_ yJ19_keySet cJ19_keySet 2 (some ((.object "java/util/Set")))) 4 81 [.inr (.inr (.inl x0))] h k (jc_r Q) E := by
  refine jj_Ct.of J.1 (by decide +kernel) (Nat.le_of_ble_eq_true rfl) rfl (fun X hG hl F M O hnm => ?_)
  subst hG; subst hl
  exact sC_J19_keySet F M O J hnm (fun r h q => ⟨r, rfl, q⟩) (fun _ _ _ q => q) _ _ _ w
theorem hC_J19_keySet : yJ19_keySet.cls = RJ19 ∧ yJ19_keySet.cls ≠ "java/lang/invoke/MethodHandle" ∧ yJ19_keySet.cls ≠ "java/lang/invoke/VarHandle" ∧ (parseMethodDescriptor yJ19_keySet.desc).map (fun d => d.parameters.length) = some 0 := by decide +kernel
/-! J19_size()I -/
def fC_J19_size (gk : Nat → Nat) (x0 : Option Nat) (Q : Int → jj_H → Prop) (E : String → Nat → jj_H → Prop) (h : jj_H) (k : Nat) : Prop :=
  jp_gi h x0 16 4 (fun g1 =>
  Q g1 h)
theorem sC_J19_size {X : jj_X} {N : Option jj_AV → jj_H → Prop} {XN : String → Nat → jj_H → Prop} (F : jj_F X RJ19 cJ19_size 1) (M : jj_M X (some (.int)) 0 0 N XN) (O : jj_no X) (J : jx_G X.1 X.2.2.1) (hi : X.2.2.2.2.2.2.2.2.2.1.name = yJ19_size.name) {Q : Int → jj_H → Prop} {E : String → Nat → jj_H → Prop} (hQ : ∀ r h, Q r h → N (some (.inl r)) h) (hE : ∀ e q h, E e q h → XN e q h) (x0 : Option Nat) : ∀ (h : jj_H) (k : Nat), fC_J19_size (jj_gk X.1) x0 Q E h k → jj_J X 1 0 [(0, .inr (.inr (.inl x0)))] [] h k := by
  intro h k w
  unfold fC_J19_size at w
  refine jr_aload_n (pc := 0) F (j := 0) dJ19_size_0 rfl ?_
  refine jr_gi (pc := 1) (ci := 16) (f := 4) F rfl in_J19 (Nat.le_of_ble_eq_true rfl) q565 dJ19_size_1 w (fun g1 w => ?_)
  exact jr_iret (pc := 4) F M dJ19_size_4 (hQ _ _ w)

theorem cC_J19_size {G : jj_G} {l : Launch} (J : jx_G G l) {x0 : Option Nat} {Q : Int → jj_H → Prop} {E : String → Nat → jj_H → Prop} {h : jj_H} {k : Nat} (w : fC_J19_size (jj_gk G) x0 Q E h k) : jj_Ct G l yJ19_size (ws_ yJ19_size cJ19_size 1 (some (.int))) 0 0 [.inr (.inr (.inl x0))] h k (jc_i Q) E := by
  refine jj_Ct.of J.1 (by decide +kernel) (Nat.le_of_ble_eq_true rfl) rfl (fun X hG hl F M O hnm => ?_)
  subst hG; subst hl
  exact sC_J19_size F M O J hnm (fun r h q => ⟨r, rfl, q⟩) (fun _ _ _ q => q) _ _ _ w
theorem hC_J19_size : yJ19_size.cls = RJ19 ∧ yJ19_size.cls ≠ "java/lang/invoke/MethodHandle" ∧ yJ19_size.cls ≠ "java/lang/invoke/VarHandle" ∧ (parseMethodDescriptor yJ19_size.desc).map (fun d => d.parameters.length) = some 0 := by decide +kernel
/-! J24_hasNext()Z -/
def fC_J24_hasNext (gk : Nat → Nat) (x0 : Option Nat) (Q : Int → jj_H → Prop) (E : String → Nat → jj_H → Prop) (h : jj_H) (k : Nat) : Prop :=
  jp_gr h x0 19 0 (fun g1 =>
  (g1 = none → (
    Q 0 h)) ∧
  (¬ g1 = none → (
    Q 1 h)))
theorem sC_J24_hasNext {X : jj_X} {N : Option jj_AV → jj_H → Prop} {XN : String → Nat → jj_H → Prop} (F : jj_F X RJ24 cJ24_hasNext 1) (M : jj_M X (some (.boolean)) 0 0 N XN) (O : jj_no X) (J : jx_G X.1 X.2.2.1) (hi : X.2.2.2.2.2.2.2.2.2.1.name = yJ24_hasNext.name) {Q : Int → jj_H → Prop} {E : String → Nat → jj_H → Prop} (hQ : ∀ r h, Q r h → N (some (.inl r)) h) (hE : ∀ e q h, E e q h → XN e q h) (x0 : Option Nat) : ∀ (h : jj_H) (k : Nat), fC_J24_hasNext (jj_gk X.1) x0 Q E h k → jj_J X 1 0 [(0, .inr (.inr (.inl x0)))] [] h k := by
  intro h k w
  unfold fC_J24_hasNext at w
  refine jr_aload_n (pc := 0) F (j := 0) dJ24_hasNext_0 rfl ?_
  refine jr_gr (pc := 1) (ci := 19) (f := 0) F rfl in_J25 (Nat.le_of_ble_eq_true rfl) q975 dJ24_hasNext_1 w (fun g1 w => ?_)
  obtain ⟨w1, w2⟩ := w
  refine jr_ifnull (pc := 4) (tgt := 11) F dJ24_hasNext_4 rfl (fun c9 => ?_) (fun c9 => ?_)
  · have w := w1 c9
    refine jr_iconst (pc := 11) F dJ24_hasNext_11 ?_
    exact jr_zret (pc := 12) F M dJ24_hasNext_12 (by decide) (hQ _ _ w)
  · have w := w2 c9
    refine jr_iconst (pc := 7) F dJ24_hasNext_7 ?_
    refine jr_goto (pc := 8) (tgt := 12) F dJ24_hasNext_8 rfl ?_
    exact jr_zret (pc := 12) F M dJ24_hasNext_12 (by decide) (hQ _ _ w)

theorem cC_J24_hasNext {G : jj_G} {l : Launch} (J : jx_G G l) {x0 : Option Nat} {Q : Int → jj_H → Prop} {E : String → Nat → jj_H → Prop} {h : jj_H} {k : Nat} (w : fC_J24_hasNext (jj_gk G) x0 Q E h k) : jj_Ct G l yJ24_hasNext (ws_ yJ24_hasNext cJ24_hasNext 1 (some (.boolean))) 0 0 [.inr (.inr (.inl x0))] h k (jc_i Q) E := by
  refine jj_Ct.of J.1 (by decide +kernel) (Nat.le_of_ble_eq_true rfl) rfl (fun X hG hl F M O hnm => ?_)
  subst hG; subst hl
  exact sC_J24_hasNext F M O J hnm (fun r h q => ⟨r, rfl, q⟩) (fun _ _ _ q => q) _ _ _ w
theorem hC_J24_hasNext : yJ24_hasNext.cls = RJ24 ∧ yJ24_hasNext.cls ≠ "java/lang/invoke/MethodHandle" ∧ yJ24_hasNext.cls ≠ "java/lang/invoke/VarHandle" ∧ (parseMethodDescriptor yJ24_hasNext.desc).map (fun d => d.parameters.length) = some 0 := by decide +kernel
/-! J24_init(Ljava/util/HashMap;)V -/
def fC_J24_init_l48 (gk : Nat → Nat) (x0 : Option Nat) (x2 : Option Nat) (Q : jj_H → Prop) (E : String → Nat → jj_H → Prop) : Nat → jj_H → Nat → Prop
  | 0, _, _ => False
  | n + 1, h, k =>
  jp_gi h x0 19 3 (fun g1 =>
  jp_ar h x2 4 (fun g2 =>
  jj_r g1 ∧ jj_r g2 ∧ (g2 ≤ g1 → (
    Q h)) ∧
  (¬ g2 ≤ g1 → (
    jp_gi h x0 19 3 (fun g3 =>
    jp_pi h x0 19 3 (g3 + 1) (fun h4 =>
    jp_rl h4 x2 4 g3 (fun g5 =>
    jp_pr h4 x0 19 0 g5 (fun h6 =>
    (g5 = none → (
      fC_J24_init_l48 gk x0 x2 Q E n h6 k)) ∧
    (¬ g5 = none → (
      Q h6))))))))))
def fC_J24_init (gk : Nat → Nat) (x0 : Option Nat) (x1 : Option Nat) (Q : jj_H → Prop) (E : String → Nat → jj_H → Prop) (h : jj_H) (k : Nat) : Prop :=
  jp_pr h x0 19 4 x1 (fun h7 =>
  jp_so x0 ∧
  jp_gi h7 x1 16 5 (fun g8 =>
  jp_pi h7 x0 19 2 g8 (fun h9 =>
  jp_gr h9 x1 16 2 (fun g10 =>
  jp_pr h9 x0 19 0 none (fun h11 =>
  jp_pr h11 x0 19 1 none (fun h12 =>
  jp_pi h12 x0 19 3 0 (fun h13 =>
  (g10 = none → (
    Q h13)) ∧
  (¬ g10 = none → (
    jp_gi h13 x1 16 4 (fun g14 =>
    jj_r g14 ∧ (g14 ≤ 0 → (
      Q h13)) ∧
    (¬ g14 ≤ 0 → (
      ∃ n9, fC_J24_init_l48 gk x0 g10 Q E n9 h13 k))))))))))))
theorem sC_J24_init_l48 {X : jj_X} {N : Option jj_AV → jj_H → Prop} {XN : String → Nat → jj_H → Prop} (F : jj_F X RJ24 cJ24_init 3) (M : jj_M X (none) 1 20 N XN) (O : jj_no X) (J : jx_G X.1 X.2.2.1) (hi : X.2.2.2.2.2.2.2.2.2.1.name = yJ24_init.name) {Q : jj_H → Prop} {E : String → Nat → jj_H → Prop} (hQ : ∀ h, Q h → N none h) (hE : ∀ e q h, E e q h → XN e q h) (x0 : Option Nat) (x2 : Option Nat) : ∀ (n : Nat) (h : jj_H) (k : Nat), fC_J24_init_l48 (jj_gk X.1) x0 x2 Q E n h k → jj_J X 3 48 [(0, .inr (.inr (.inl x0))), (2, .inr (.inr (.inl x2)))] [] h k := by
  intro n
  induction n with
  | zero =>
    intro  h k w
    exact (show False from w).elim
  | succ n ih =>
    intro  h k w
    rw [fC_J24_init_l48] at w
    refine jr_aload_n (pc := 48) F (j := 0) dJ24_init_48 rfl ?_
    refine jr_gi (pc := 49) (ci := 19) (f := 3) F rfl in_J25 (Nat.le_of_ble_eq_true rfl) q978 dJ24_init_49 w (fun g1 w => ?_)
    refine jr_aload_n (pc := 52) F (j := 1) dJ24_init_52 rfl ?_
    refine jr_alenR (pc := 53) F ⟨8, _, fun _ => rfl⟩ dJ24_init_53 w (fun g2 w => ?_)
    obtain ⟨hx9, hy9, w1, w2⟩ := w
    refine jr_icmp_ge (pc := 54) (tgt := 78) F hx9 hy9 dJ24_init_54 rfl (fun c9 => ?_) (fun c9 => ?_)
    · have w := w1 c9
      exact jr_vret (pc := 78) F M dJ24_init_78 (hQ _ w)
    · have w := w2 c9
      refine jr_aload_n (pc := 57) F (j := 0) dJ24_init_57 rfl ?_
      refine jr_aload_n (pc := 58) F (j := 1) dJ24_init_58 rfl ?_
      refine jr_aload_n (pc := 59) F (j := 0) dJ24_init_59 rfl ?_
      refine jr_dup (pc := 60) F dJ24_init_60 rfl ?_
      refine jr_gi (pc := 61) (ci := 19) (f := 3) F rfl in_J25 (Nat.le_of_ble_eq_true rfl) q978 dJ24_init_61 w (fun g3 w => ?_)
      refine jr_dup_x1 (pc := 64) F dJ24_init_64 rfl rfl ?_
      refine jr_iconst (pc := 65) F dJ24_init_65 ?_
      refine jr_iadd (pc := 66) F dJ24_init_66 ?_
      refine jr_pi (pc := 67) (ci := 19) (f := 3) F rfl in_J25 tyJ25_ok nmJ25 (Nat.le_of_ble_eq_true rfl) rfl rfl q978 dJ24_init_67 w (fun h4 w => ?_)
      refine jr_aald (pc := 70) F ⟨8, _, fun _ => rfl⟩ dJ24_init_70 w (fun g5 w => ?_)
      refine jr_dup_x1 (pc := 71) F dJ24_init_71 rfl rfl ?_
      refine jr_pr (pc := 72) (ci := 19) (f := 0) F rfl in_J25 tyJ25_ok nmJ25 (Nat.le_of_ble_eq_true rfl) rfl rfl q975 dJ24_init_72 w (fun h6 w => ?_)
      obtain ⟨w1, w2⟩ := w
      refine jr_ifnull (pc := 75) (tgt := 48) F dJ24_init_75 rfl (fun c9 => ?_) (fun c9 => ?_)
      · have w := w1 c9
        exact ih _ _ w
      · have w := w2 c9
        exact jr_vret (pc := 78) F M dJ24_init_78 (hQ _ w)

theorem sC_J24_init {X : jj_X} {N : Option jj_AV → jj_H → Prop} {XN : String → Nat → jj_H → Prop} (F : jj_F X RJ24 cJ24_init 3) (M : jj_M X (none) 1 20 N XN) (O : jj_no X) (J : jx_G X.1 X.2.2.1) (hi : X.2.2.2.2.2.2.2.2.2.1.name = yJ24_init.name) {Q : jj_H → Prop} {E : String → Nat → jj_H → Prop} (hQ : ∀ h, Q h → N none h) (hE : ∀ e q h, E e q h → XN e q h) (x0 : Option Nat) (x1 : Option Nat) : ∀ (h : jj_H) (k : Nat), fC_J24_init (jj_gk X.1) x0 x1 Q E h k → jj_J X 3 0 [(0, .inr (.inr (.inl x0))), (1, .inr (.inr (.inl x1)))] [] h k := by
  intro h k w
  unfold fC_J24_init at w
  refine jr_aload_n (pc := 0) F (j := 0) dJ24_init_0 rfl ?_
  refine jr_aload_n (pc := 1) F (j := 1) dJ24_init_1 rfl ?_
  refine jr_prF (pc := 2) (ci := 19) (f := 4) F rfl in_J25 tyJ25_ok nmJ25 (Nat.le_of_ble_eq_true rfl) rfl rfl rfl hi q979 dJ24_init_2 w (fun h7 w => ?_)
  refine jr_aload_n (pc := 5) F (j := 0) dJ24_init_5 rfl ?_
  obtain ⟨ha9, w⟩ := w
  refine jr_objInitO (pc := 6) F M q974 q192 q193 ha9 (Nat.le_of_ble_eq_true rfl) (Nat.le_of_ble_eq_true rfl) (Nat.le_of_ble_eq_true rfl) dJ24_init_6 ?_
  refine jr_aload_n (pc := 9) F (j := 0) dJ24_init_9 rfl ?_
  refine jr_aload_n (pc := 10) F (j := 1) dJ24_init_10 rfl ?_
  refine jr_gi (pc := 11) (ci := 16) (f := 5) F rfl in_J19 (Nat.le_of_ble_eq_true rfl) q566 dJ24_init_11 w (fun g8 w => ?_)
  refine jr_pi (pc := 14) (ci := 19) (f := 2) F rfl in_J25 tyJ25_ok nmJ25 (Nat.le_of_ble_eq_true rfl) rfl rfl q977 dJ24_init_14 w (fun h9 w => ?_)
  refine jr_aload_n (pc := 17) F (j := 1) dJ24_init_17 rfl ?_
  refine jr_gr (pc := 18) (ci := 16) (f := 2) F rfl in_J19 (Nat.le_of_ble_eq_true rfl) q561 dJ24_init_18 w (fun g10 w => ?_)
  refine jr_astore_n (pc := 21) F (vs' := [(2, .inr (.inr (.inl _))), (0, .inr (.inr (.inl _))), (1, .inr (.inr (.inl _)))]) dJ24_init_21 (Nat.le_of_ble_eq_true rfl) rfl ?_
  refine jr_aload_n (pc := 22) F (j := 1) dJ24_init_22 rfl ?_
  refine jr_aload_n (pc := 23) F (j := 1) dJ24_init_23 rfl ?_
  refine jr_null (pc := 24) F dJ24_init_24 ?_
  refine jr_dup_x1 (pc := 25) F dJ24_init_25 rfl rfl ?_
  refine jr_pr (pc := 26) (ci := 19) (f := 0) F rfl in_J25 tyJ25_ok nmJ25 (Nat.le_of_ble_eq_true rfl) rfl rfl q975 dJ24_init_26 w (fun h11 w => ?_)
  refine jr_pr (pc := 29) (ci := 19) (f := 1) F rfl in_J25 tyJ25_ok nmJ25 (Nat.le_of_ble_eq_true rfl) rfl rfl q976 dJ24_init_29 w (fun h12 w => ?_)
  refine jr_aload_n (pc := 32) F (j := 1) dJ24_init_32 rfl ?_
  refine jr_iconst (pc := 33) F dJ24_init_33 ?_
  refine jr_pi (pc := 34) (ci := 19) (f := 3) F rfl in_J25 tyJ25_ok nmJ25 (Nat.le_of_ble_eq_true rfl) rfl rfl q978 dJ24_init_34 w (fun h13 w => ?_)
  refine jr_aload_n (pc := 37) F (j := 0) dJ24_init_37 rfl ?_
  obtain ⟨w1, w2⟩ := w
  refine jr_ifnull (pc := 38) (tgt := 78) F dJ24_init_38 rfl (fun c9 => ?_) (fun c9 => ?_)
  · have w := w1 c9
    exact jr_vret (pc := 78) F M dJ24_init_78 (hQ _ w)
  · have w := w2 c9
    refine jr_aload_n (pc := 41) F (j := 2) dJ24_init_41 rfl ?_
    refine jr_gi (pc := 42) (ci := 16) (f := 4) F rfl in_J19 (Nat.le_of_ble_eq_true rfl) q563 dJ24_init_42 w (fun g14 w => ?_)
    obtain ⟨hx9, w1, w2⟩ := w
    refine jr_if_le (pc := 45) (tgt := 78) F hx9 dJ24_init_45 rfl (fun c9 => ?_) (fun c9 => ?_)
    · have w := w1 c9
      exact jr_vret (pc := 78) F M dJ24_init_78 (hQ _ w)
    · have w := w2 c9
      refine jj_J.sub [1, 0] rfl ?_
      obtain ⟨n9, w⟩ := w
      exact sC_J24_init_l48 F M O J hi hQ hE _ _ n9 _ _ w

theorem cC_J24_init {G : jj_G} {l : Launch} (J : jx_G G l) {x0 : Option Nat} {x1 : Option Nat} {Q : jj_H → Prop} {E : String → Nat → jj_H → Prop} {h : jj_H} {k : Nat} (w : fC_J24_init (jj_gk G) x0 x1 Q E h k) : jj_Ct G l yJ24_init (ws_ yJ24_init cJ24_init 3 (none)) 1 20 [.inr (.inr (.inl x0)), .inr (.inr (.inl x1))] h k (jc_v Q) E := by
  refine jj_Ct.of J.1 (by decide +kernel) (Nat.le_of_ble_eq_true rfl) rfl (fun X hG hl F M O hnm => ?_)
  subst hG; subst hl
  exact sC_J24_init F M O J hnm (fun h q => ⟨rfl, q⟩) (fun _ _ _ q => q) _ _ _ _ w
theorem hC_J24_init : yJ24_init.cls = RJ24 ∧ yJ24_init.cls ≠ "java/lang/invoke/MethodHandle" ∧ yJ24_init.cls ≠ "java/lang/invoke/VarHandle" ∧ (parseMethodDescriptor yJ24_init.desc).map (fun d => d.parameters.length) = some 1 := by decide +kernel
/-! J24_nextNode()Ljava/util/HashMap$Node; -/
def fC_J24_nextNode_l68 (gk : Nat → Nat) (x0 : Option Nat) (x1 : Option Nat) (x2 : Option Nat) (Q : Option Nat → jj_H → Prop) (E : String → Nat → jj_H → Prop) : Nat → jj_H → Nat → Prop
  | 0, _, _ => False
  | n + 1, h, k =>
  jp_gi h x0 19 3 (fun g1 =>
  jp_ar h x1 4 (fun g2 =>
  jj_r g1 ∧ jj_r g2 ∧ (g2 ≤ g1 → (
    Q x2 h)) ∧
  (¬ g2 ≤ g1 → (
    jp_gi h x0 19 3 (fun g3 =>
    jp_pi h x0 19 3 (g3 + 1) (fun h4 =>
    jp_rl h4 x1 4 g3 (fun g5 =>
    jp_pr h4 x0 19 0 g5 (fun h6 =>
    (g5 = none → (
      fC_J24_nextNode_l68 gk x0 x1 x2 Q E n h6 k)) ∧
    (¬ g5 = none → (
      Q x2 h6))))))))))
def fC_J24_nextNode (gk : Nat → Nat) (x0 : Option Nat) (Q : Option Nat → jj_H → Prop) (E : String → Nat → jj_H → Prop) (h : jj_H) (k : Nat) : Prop :=
  jp_gr h x0 19 0 (fun g7 =>
  jp_gr h x0 19 4 (fun g8 =>
  jp_gi h g8 16 5 (fun g9 =>
  jp_gi h x0 19 2 (fun g10 =>
  jj_r g9 ∧ jj_r g10 ∧ (g9 = g10 → (
    (¬ g7 = none → (
      jp_pr h x0 19 1 g7 (fun h11 =>
      jp_gr h11 g7 17 3 (fun g12 =>
      jp_pr h11 x0 19 0 g12 (fun h13 =>
      (¬ g12 = none → (
        Q g7 h13)) ∧
      (g12 = none → (
        jp_gr h13 x0 19 4 (fun g14 =>
        jp_gr h13 g14 16 2 (fun g15 =>
        (g15 = none → (
          Q g7 h13)) ∧
        (¬ g15 = none → (
          ∃ n9, fC_J24_nextNode_l68 gk x0 g15 g7 Q E n9 h13 k))))))))))) ∧
    (g7 = none → (
      False)))) ∧
  (¬ g9 = g10 → (
    False))))))
theorem sC_J24_nextNode_l68 {X : jj_X} {N : Option jj_AV → jj_H → Prop} {XN : String → Nat → jj_H → Prop} (F : jj_F X RJ24 cJ24_nextNode 3) (M : jj_M X (some ((.object "java/util/HashMap$Node"))) 0 0 N XN) (O : jj_no X) (J : jx_G X.1 X.2.2.1) (hi : X.2.2.2.2.2.2.2.2.2.1.name = yJ24_nextNode.name) {Q : Option Nat → jj_H → Prop} {E : String → Nat → jj_H → Prop} (hQ : ∀ r h, Q r h → N (some (.inr (.inr (.inl r)))) h) (hE : ∀ e q h, E e q h → XN e q h) (x0 : Option Nat) (x1 : Option Nat) (x2 : Option Nat) : ∀ (n : Nat) (h : jj_H) (k : Nat), fC_J24_nextNode_l68 (jj_gk X.1) x0 x1 x2 Q E n h k → jj_J X 3 68 [(0, .inr (.inr (.inl x0))), (1, .inr (.inr (.inl x1))), (2, .inr (.inr (.inl x2)))] [] h k := by
  intro n
  induction n with
  | zero =>
    intro  h k w
    exact (show False from w).elim
  | succ n ih =>
    intro  h k w
    rw [fC_J24_nextNode_l68] at w
    refine jr_aload_n (pc := 68) F (j := 0) dJ24_nextNode_68 rfl ?_
    refine jr_gi (pc := 69) (ci := 19) (f := 3) F rfl in_J25 (Nat.le_of_ble_eq_true rfl) q978 dJ24_nextNode_69 w (fun g1 w => ?_)
    refine jr_aload_n (pc := 72) F (j := 1) dJ24_nextNode_72 rfl ?_
    refine jr_alenR (pc := 73) F ⟨8, _, fun _ => rfl⟩ dJ24_nextNode_73 w (fun g2 w => ?_)
    obtain ⟨hx9, hy9, w1, w2⟩ := w
    refine jr_icmp_ge (pc := 74) (tgt := 98) F hx9 hy9 dJ24_nextNode_74 rfl (fun c9 => ?_) (fun c9 => ?_)
    · have w := w1 c9
      refine jr_aload_n (pc := 98) F (j := 2) dJ24_nextNode_98 rfl ?_
      exact jr_aret (pc := 99) F M (Or.inl ⟨_, rfl⟩) dJ24_nextNode_99 (hQ _ _ w)
    · have w := w2 c9
      refine jr_aload_n (pc := 77) F (j := 0) dJ24_nextNode_77 rfl ?_
      refine jr_aload_n (pc := 78) F (j := 1) dJ24_nextNode_78 rfl ?_
      refine jr_aload_n (pc := 79) F (j := 0) dJ24_nextNode_79 rfl ?_
      refine jr_dup (pc := 80) F dJ24_nextNode_80 rfl ?_
      refine jr_gi (pc := 81) (ci := 19) (f := 3) F rfl in_J25 (Nat.le_of_ble_eq_true rfl) q978 dJ24_nextNode_81 w (fun g3 w => ?_)
      refine jr_dup_x1 (pc := 84) F dJ24_nextNode_84 rfl rfl ?_
      refine jr_iconst (pc := 85) F dJ24_nextNode_85 ?_
      refine jr_iadd (pc := 86) F dJ24_nextNode_86 ?_
      refine jr_pi (pc := 87) (ci := 19) (f := 3) F rfl in_J25 tyJ25_ok nmJ25 (Nat.le_of_ble_eq_true rfl) rfl rfl q978 dJ24_nextNode_87 w (fun h4 w => ?_)
      refine jr_aald (pc := 90) F ⟨8, _, fun _ => rfl⟩ dJ24_nextNode_90 w (fun g5 w => ?_)
      refine jr_dup_x1 (pc := 91) F dJ24_nextNode_91 rfl rfl ?_
      refine jr_pr (pc := 92) (ci := 19) (f := 0) F rfl in_J25 tyJ25_ok nmJ25 (Nat.le_of_ble_eq_true rfl) rfl rfl q975 dJ24_nextNode_92 w (fun h6 w => ?_)
      obtain ⟨w1, w2⟩ := w
      refine jr_ifnull (pc := 95) (tgt := 68) F dJ24_nextNode_95 rfl (fun c9 => ?_) (fun c9 => ?_)
      · have w := w1 c9
        exact ih _ _ w
      · have w := w2 c9
        refine jr_aload_n (pc := 98) F (j := 2) dJ24_nextNode_98 rfl ?_
        exact jr_aret (pc := 99) F M (Or.inl ⟨_, rfl⟩) dJ24_nextNode_99 (hQ _ _ w)

theorem sC_J24_nextNode {X : jj_X} {N : Option jj_AV → jj_H → Prop} {XN : String → Nat → jj_H → Prop} (F : jj_F X RJ24 cJ24_nextNode 3) (M : jj_M X (some ((.object "java/util/HashMap$Node"))) 0 0 N XN) (O : jj_no X) (J : jx_G X.1 X.2.2.1) (hi : X.2.2.2.2.2.2.2.2.2.1.name = yJ24_nextNode.name) {Q : Option Nat → jj_H → Prop} {E : String → Nat → jj_H → Prop} (hQ : ∀ r h, Q r h → N (some (.inr (.inr (.inl r)))) h) (hE : ∀ e q h, E e q h → XN e q h) (x0 : Option Nat) : ∀ (h : jj_H) (k : Nat), fC_J24_nextNode (jj_gk X.1) x0 Q E h k → jj_J X 3 0 [(0, .inr (.inr (.inl x0)))] [] h k := by
  intro h k w
  unfold fC_J24_nextNode at w
  refine jr_aload_n (pc := 0) F (j := 0) dJ24_nextNode_0 rfl ?_
  refine jr_gr (pc := 1) (ci := 19) (f := 0) F rfl in_J25 (Nat.le_of_ble_eq_true rfl) q975 dJ24_nextNode_1 w (fun g7 w => ?_)
  refine jr_astore_n (pc := 4) F (vs' := [(2, .inr (.inr (.inl _))), (0, .inr (.inr (.inl _)))]) dJ24_nextNode_4 (Nat.le_of_ble_eq_true rfl) rfl ?_
  refine jr_aload_n (pc := 5) F (j := 1) dJ24_nextNode_5 rfl ?_
  refine jr_gr (pc := 6) (ci := 19) (f := 4) F rfl in_J25 (Nat.le_of_ble_eq_true rfl) q979 dJ24_nextNode_6 w (fun g8 w => ?_)
  refine jr_gi (pc := 9) (ci := 16) (f := 5) F rfl in_J19 (Nat.le_of_ble_eq_true rfl) q566 dJ24_nextNode_9 w (fun g9 w => ?_)
  refine jr_aload_n (pc := 12) F (j := 1) dJ24_nextNode_12 rfl ?_
  refine jr_gi (pc := 13) (ci := 19) (f := 2) F rfl in_J25 (Nat.le_of_ble_eq_true rfl) q977 dJ24_nextNode_13 w (fun g10 w => ?_)
  obtain ⟨hx9, hy9, w1, w2⟩ := w
  refine jr_icmp_eq (pc := 16) (tgt := 27) F hx9 hy9 dJ24_nextNode_16 rfl (fun c9 => ?_) (fun c9 => ?_)
  · have w := w1 c9
    refine jr_aload_n (pc := 27) F (j := 0) dJ24_nextNode_27 rfl ?_
    obtain ⟨w1, w2⟩ := w
    refine jr_ifnonnull (pc := 28) (tgt := 39) F dJ24_nextNode_28 rfl (fun c9 => ?_) (fun c9 => ?_)
    · have w := w1 c9
      refine jr_aload_n (pc := 39) F (j := 1) dJ24_nextNode_39 rfl ?_
      refine jr_aload_n (pc := 40) F (j := 1) dJ24_nextNode_40 rfl ?_
      refine jr_aload_n (pc := 41) F (j := 0) dJ24_nextNode_41 rfl ?_
      refine jr_dup_x1 (pc := 42) F dJ24_nextNode_42 rfl rfl ?_
      refine jr_pr (pc := 43) (ci := 19) (f := 1) F rfl in_J25 tyJ25_ok nmJ25 (Nat.le_of_ble_eq_true rfl) rfl rfl q976 dJ24_nextNode_43 w (fun h11 w => ?_)
      refine jr_gr (pc := 46) (ci := 17) (f := 3) F rfl in_J35 (Nat.le_of_ble_eq_true rfl) q2100 dJ24_nextNode_46 w (fun g12 w => ?_)
      refine jr_dup_x1 (pc := 49) F dJ24_nextNode_49 rfl rfl ?_
      refine jr_pr (pc := 50) (ci := 19) (f := 0) F rfl in_J25 tyJ25_ok nmJ25 (Nat.le_of_ble_eq_true rfl) rfl rfl q975 dJ24_nextNode_50 w (fun h13 w => ?_)
      obtain ⟨w1, w2⟩ := w
      refine jr_ifnonnull (pc := 53) (tgt := 98) F dJ24_nextNode_53 rfl (fun c9 => ?_) (fun c9 => ?_)
      · have w := w1 c9
        refine jr_aload_n (pc := 98) F (j := 0) dJ24_nextNode_98 rfl ?_
        exact jr_aret (pc := 99) F M (Or.inl ⟨_, rfl⟩) dJ24_nextNode_99 (hQ _ _ w)
      · have w := w2 c9
        refine jr_aload_n (pc := 56) F (j := 1) dJ24_nextNode_56 rfl ?_
        refine jr_gr (pc := 57) (ci := 19) (f := 4) F rfl in_J25 (Nat.le_of_ble_eq_true rfl) q979 dJ24_nextNode_57 w (fun g14 w => ?_)
        refine jr_gr (pc := 60) (ci := 16) (f := 2) F rfl in_J19 (Nat.le_of_ble_eq_true rfl) q561 dJ24_nextNode_60 w (fun g15 w => ?_)
        refine jr_dup (pc := 63) F dJ24_nextNode_63 rfl ?_
        refine jr_astore_n (pc := 64) F (vs' := [(1, .inr (.inr (.inl _))), (2, .inr (.inr (.inl _))), (0, .inr (.inr (.inl _)))]) dJ24_nextNode_64 (Nat.le_of_ble_eq_true rfl) rfl ?_
        obtain ⟨w1, w2⟩ := w
        refine jr_ifnull (pc := 65) (tgt := 98) F dJ24_nextNode_65 rfl (fun c9 => ?_) (fun c9 => ?_)
        · have w := w1 c9
          refine jr_aload_n (pc := 98) F (j := 1) dJ24_nextNode_98 rfl ?_
          exact jr_aret (pc := 99) F M (Or.inl ⟨_, rfl⟩) dJ24_nextNode_99 (hQ _ _ w)
        · have w := w2 c9
          refine jj_J.sub [2, 0, 1] rfl ?_
          obtain ⟨n9, w⟩ := w
          exact sC_J24_nextNode_l68 F M O J hi hQ hE _ _ _ n9 _ _ w
    · have w := w2 c9
      exact (show False from w).elim
  · have w := w2 c9
    exact (show False from w).elim

theorem cC_J24_nextNode {G : jj_G} {l : Launch} (J : jx_G G l) {x0 : Option Nat} {Q : Option Nat → jj_H → Prop} {E : String → Nat → jj_H → Prop} {h : jj_H} {k : Nat} (w : fC_J24_nextNode (jj_gk G) x0 Q E h k) : jj_Ct G l yJ24_nextNode (ws_ yJ24_nextNode cJ24_nextNode 3 (some ((.object "java/util/HashMap$Node")))) 0 0 [.inr (.inr (.inl x0))] h k (jc_r Q) E := by
  refine jj_Ct.of J.1 (by decide +kernel) (Nat.le_of_ble_eq_true rfl) rfl (fun X hG hl F M O hnm => ?_)
  subst hG; subst hl
  exact sC_J24_nextNode F M O J hnm (fun r h q => ⟨r, rfl, q⟩) (fun _ _ _ q => q) _ _ _ w
theorem hC_J24_nextNode : yJ24_nextNode.cls = RJ24 ∧ yJ24_nextNode.cls ≠ "java/lang/invoke/MethodHandle" ∧ yJ24_nextNode.cls ≠ "java/lang/invoke/VarHandle" ∧ (parseMethodDescriptor yJ24_nextNode.desc).map (fun d => d.parameters.length) = some 0 := by decide +kernel
/-! J25_init(Ljava/util/HashMap;)V -/
def fC_J25_init (gk : Nat → Nat) (x0 : Option Nat) (x1 : Option Nat) (Q : jj_H → Prop) (E : String → Nat → jj_H → Prop) (h : jj_H) (k : Nat) : Prop :=
  jp_so x0 ∧ fC_J24_init gk x0 x1 (fun h3 =>
  Q h3) E h 0
theorem sC_J25_init {X : jj_X} {N : Option jj_AV → jj_H → Prop} {XN : String → Nat → jj_H → Prop} (F : jj_F X RJ25 cJ25_init 2) (M : jj_M X (none) 2 42 N XN) (O : jj_no X) (J : jx_G X.1 X.2.2.1) (hi : X.2.2.2.2.2.2.2.2.2.1.name = yJ25_init.name) {Q : jj_H → Prop} {E : String → Nat → jj_H → Prop} (hQ : ∀ h, Q h → N none h) (hE : ∀ e q h, E e q h → XN e q h) (x0 : Option Nat) (x1 : Option Nat) : ∀ (h : jj_H) (k : Nat), fC_J25_init (jj_gk X.1) x0 x1 Q E h k → jj_J X 2 0 [(0, .inr (.inr (.inl x0))), (1, .inr (.inr (.inl x1)))] [] h k := by
  intro h k w
  unfold fC_J25_init at w
  refine jr_aload_n (pc := 0) F (j := 0) dJ25_init_0 rfl ?_
  refine jr_aload_n (pc := 1) F (j := 1) dJ25_init_1 rfl ?_
  obtain ⟨hi9, w⟩ := w
  refine jr_cI (pc := 2) (As := [_]) F M q971 q972 q150 q973 dJ25_init_2 rfl hC_J24_init.2 rfl (Nat.le_of_ble_eq_true rfl) (Nat.le_of_ble_eq_true rfl) (Nat.le_of_ble_eq_true rfl) hi9 (Nat.zero_le _) (cC_J24_init J w) (fun v9 h3 q9 => ?_) (fun E9 q9 h9 w9 => jr_out F M O (hE _ _ _ w9))
  obtain ⟨rfl, w⟩ := q9
  exact jr_vret (pc := 5) F M dJ25_init_5 (hQ _ w)

theorem cC_J25_init {G : jj_G} {l : Launch} (J : jx_G G l) {x0 : Option Nat} {x1 : Option Nat} {Q : jj_H → Prop} {E : String → Nat → jj_H → Prop} {h : jj_H} {k : Nat} (w : fC_J25_init (jj_gk G) x0 x1 Q E h k) : jj_Ct G l yJ25_init (ws_ yJ25_init cJ25_init 2 (none)) 2 42 [.inr (.inr (.inl x0)), .inr (.inr (.inl x1))] h k (jc_v Q) E := by
  refine jj_Ct.of J.1 (by decide +kernel) (Nat.le_of_ble_eq_true rfl) rfl (fun X hG hl F M O hnm => ?_)
  subst hG; subst hl
  exact sC_J25_init F M O J hnm (fun h q => ⟨rfl, q⟩) (fun _ _ _ q => q) _ _ _ _ w
theorem hC_J25_init : yJ25_init.cls = RJ25 ∧ yJ25_init.cls ≠ "java/lang/invoke/MethodHandle" ∧ yJ25_init.cls ≠ "java/lang/invoke/VarHandle" ∧ (parseMethodDescriptor yJ25_init.desc).map (fun d => d.parameters.length) = some 1 := by decide +kernel
/-! J25_next()Ljava/lang/Object; -/
def fC_J25_next (gk : Nat → Nat) (x0 : Option Nat) (Q : Option Nat → jj_H → Prop) (E : String → Nat → jj_H → Prop) (h : jj_H) (k : Nat) : Prop :=
  jp_is h x0 19 ∧ fC_J24_nextNode gk x0 (fun r2 h3 =>
  jp_gr h3 r2 17 1 (fun g4 =>
  Q g4 h3)) E h 0
theorem sC_J25_next {X : jj_X} {N : Option jj_AV → jj_H → Prop} {XN : String → Nat → jj_H → Prop} (F : jj_F X RJ25 cJ25_next 1) (M : jj_M X (some ((.object "java/lang/Object"))) 1 22 N XN) (O : jj_no X) (J : jx_G X.1 X.2.2.1) (hi : X.2.2.2.2.2.2.2.2.2.1.name = yJ25_next.name) {Q : Option Nat → jj_H → Prop} {E : String → Nat → jj_H → Prop} (hQ : ∀ r h, Q r h → N (some (.inr (.inr (.inl r)))) h) (hE : ∀ e q h, E e q h → XN e q h) (x0 : Option Nat) : ∀ (h : jj_H) (k : Nat), fC_J25_next (jj_gk X.1) x0 Q E h k → jj_J X 1 0 [(0, .inr (.inr (.inl x0)))] [] h k := by
  intro h k w
  unfold fC_J25_next at w
  refine jr_aload_n (pc := 0) F (j := 0) dJ25_next_0 rfl ?_
  obtain ⟨hi9, w⟩ := w
  refine jr_cU (pc := 1) (n := 0) (As := []) (ci := 19) F M (lw_U q1120 q1121 q1124 q1123 q1124 q150 q1125) q1125 dJ25_next_1 (by decide +kernel) rfl (Nat.le_of_ble_eq_true rfl) (Nat.le_of_ble_eq_true rfl) (Nat.le_of_ble_eq_true rfl) rfl hi9 (Nat.zero_le _) (cC_J24_nextNode J w) (fun v9 h3 q9 => ?_) (fun E9 q9 h9 w9 => jr_out F M O (hE _ _ _ w9))
  obtain ⟨r2, rfl, w⟩ := q9
  refine jr_gr (pc := 4) (ci := 17) (f := 1) F rfl in_J35 (Nat.le_of_ble_eq_true rfl) q2093 dJ25_next_4 w (fun g4 w => ?_)
  exact jr_aret (pc := 7) F M (Or.inl ⟨_, rfl⟩) dJ25_next_7 (hQ _ _ w)

theorem cC_J25_next {G : jj_G} {l : Launch} (J : jx_G G l) {x0 : Option Nat} {Q : Option Nat → jj_H → Prop} {E : String → Nat → jj_H → Prop} {h : jj_H} {k : Nat} (w : fC_J25_next (jj_gk G) x0 Q E h k) : jj_Ct G l yJ25_next (ws_ yJ25_next cJ25_next 1 (some ((.object "java/lang/Object")))) 1 22 [.inr (.inr (.inl x0))] h k (jc_r Q) E := by
  refine jj_Ct.of J.1 (by decide +kernel) (Nat.le_of_ble_eq_true rfl) rfl (fun X hG hl F M O hnm => ?_)
  subst hG; subst hl
  exact sC_J25_next F M O J hnm (fun r h q => ⟨r, rfl, q⟩) (fun _ _ _ q => q) _ _ _ w
theorem hC_J25_next : yJ25_next.cls = RJ25 ∧ yJ25_next.cls ≠ "java/lang/invoke/MethodHandle" ∧ yJ25_next.cls ≠ "java/lang/invoke/VarHandle" ∧ (parseMethodDescriptor yJ25_next.desc).map (fun d => d.parameters.length) = some 0 := by decide +kernel
/-! J27_iterator()Ljava/util/Iterator; -/
def fC_J27_iterator (gk : Nat → Nat) (x0 : Option Nat) (Q : Option Nat → jj_H → Prop) (E : String → Nat → jj_H → Prop) (h : jj_H) (k : Nat) : Prop :=
  jp_nw h k 19 2 df_J25 (fun a1 h2 k3 =>
  jp_gr h2 x0 18 0 (fun g4 =>
  jp_so (some a1) ∧ fC_J25_init gk (some a1) g4 (fun h7 =>
  Q (some a1) h7) E h2 0))
theorem sC_J27_iterator {X : jj_X} {N : Option jj_AV → jj_H → Prop} {XN : String → Nat → jj_H → Prop} (F : jj_F X RJ27 cJ27_iterator 1) (M : jj_M X (some ((.object "java/util/Iterator"))) 3 63 N XN) (O : jj_no X) (J : jx_G X.1 X.2.2.1) (hi : X.2.2.2.2.2.2.2.2.2.1.name = yJ27_iterator.name) {Q : Option Nat → jj_H → Prop} {E : String → Nat → jj_H → Prop} (hQ : ∀ r h, Q r h → N (some (.inr (.inr (.inl r)))) h) (hE : ∀ e q h, E e q h → XN e q h) (x0 : Option Nat) : ∀ (h : jj_H) (k : Nat), fC_J27_iterator (jj_gk X.1) x0 Q E h k → jj_J X 1 0 [(0, .inr (.inr (.inl x0)))] [] h k := by
  intro h k w
  unfold fC_J27_iterator at w
  refine jr_new (pc := 0) (ci := 19) F rfl in_J25 tyJ25_ok q966 q967 q151 dfo_J25 rfl ⟨by decide, by decide⟩ dJ27_iterator_0 w (fun a1 h2 k3 w => ?_)
  refine jr_dup (pc := 3) F dJ27_iterator_3 rfl ?_
  refine jr_aload_n (pc := 4) F (j := 0) dJ27_iterator_4 rfl ?_
  refine jr_gr (pc := 5) (ci := 18) (f := 0) F rfl in_J27 (Nat.le_of_ble_eq_true rfl) q952 dJ27_iterator_5 w (fun g4 w => ?_)
  obtain ⟨hi9, w⟩ := w
  refine jr_cI (pc := 8) (As := [_]) F M q968 q969 q151 q970 dJ27_iterator_8 rfl hC_J25_init.2 rfl (Nat.le_of_ble_eq_true rfl) (Nat.le_of_ble_eq_true rfl) (Nat.le_of_ble_eq_true rfl) hi9 (Nat.zero_le _) (cC_J25_init J w) (fun v9 h7 q9 => ?_) (fun E9 q9 h9 w9 => jr_out F M O (hE _ _ _ w9))
  obtain ⟨rfl, w⟩ := q9
  exact jr_aret (pc := 11) F M (Or.inl ⟨_, rfl⟩) dJ27_iterator_11 (hQ _ _ w)

theorem cC_J27_iterator {G : jj_G} {l : Launch} (J : jx_G G l) {x0 : Option Nat} {Q : Option Nat → jj_H → Prop} {E : String → Nat → jj_H → Prop} {h : jj_H} {k : Nat} (w : fC_J27_iterator (jj_gk G) x0 Q E h k) : jj_Ct G l yJ27_iterator (ws_ yJ27_iterator cJ27_iterator 1 (some ((.object "java/util/Iterator")))) 3 63 [.inr (.inr (.inl x0))] h k (jc_r Q) E := by
  refine jj_Ct.of J.1 (by decide +kernel) (Nat.le_of_ble_eq_true rfl) rfl (fun X hG hl F M O hnm => ?_)
  subst hG; subst hl
  exact sC_J27_iterator F M O J hnm (fun r h q => ⟨r, rfl, q⟩) (fun _ _ _ q => q) _ _ _ w
theorem hC_J27_iterator : yJ27_iterator.cls = RJ27 ∧ yJ27_iterator.cls ≠ "java/lang/invoke/MethodHandle" ∧ yJ27_iterator.cls ≠ "java/lang/invoke/VarHandle" ∧ (parseMethodDescriptor yJ27_iterator.desc).map (fun d => d.parameters.length) = some 0 := by decide +kernel
/-! J33_contains(Ljava/lang/Object;)Z -/
def fC_J33_contains (gk : Nat → Nat) (x0 : Option Nat) (x1 : Option Nat) (Q : Int → jj_H → Prop) (E : String → Nat → jj_H → Prop) (h : jj_H) (k : Nat) : Prop :=
  jp_gr h x0 20 0 (fun g1 =>
  jp_is h g1 16 ∧ fC_J19_containsKey gk g1 x1 (fun r3 h4 =>
  (r3 = 0 ∨ r3 = 1) ∧ Q r3 h4) E h 0)
theorem sC_J33_contains {X : jj_X} {N : Option jj_AV → jj_H → Prop} {XN : String → Nat → jj_H → Prop} (F : jj_F X RJ33 cJ33_contains 2) (M : jj_M X (some (.boolean)) 7 159 N XN) (O : jj_no X) (J : jx_G X.1 X.2.2.1) (hi : X.2.2.2.2.2.2.2.2.2.1.name = yJ33_contains.name) {Q : Int → jj_H → Prop} {E : String → Nat → jj_H → Prop} (hQ : ∀ r h, Q r h → N (some (.inl r)) h) (hE : ∀ e q h, E e q h → XN e q h) (x0 : Option Nat) (x1 : Option Nat) : ∀ (h : jj_H) (k : Nat), fC_J33_contains (jj_gk X.1) x0 x1 Q E h k → jj_J X 2 0 [(0, .inr (.inr (.inl x0))), (1, .inr (.inr (.inl x1)))] [] h k := by
  intro h k w
  unfold fC_J33_contains at w
  refine jr_aload_n (pc := 0) F (j := 0) dJ33_contains_0 rfl ?_
  refine jr_gr (pc := 1) (ci := 20) (f := 0) F rfl in_J33 (Nat.le_of_ble_eq_true rfl) q2019 dJ33_contains_1 w (fun g1 w => ?_)
  refine jr_aload_n (pc := 4) F (j := 1) dJ33_contains_4 rfl ?_
  obtain ⟨hi9, w⟩ := w
  refine jr_cV (pc := 5) (As := [_]) (ci := 16) F M (lw_V q1164 q1165 q1166 q142 q1167) dJ33_contains_5 hC_J19_containsKey rfl (Nat.le_of_ble_eq_true rfl) (Nat.le_of_ble_eq_true rfl) (Nat.le_of_ble_eq_true rfl) rfl hi9 (Nat.zero_le _) (cC_J19_containsKey J w) (fun v9 h4 q9 => ?_) (fun E9 q9 h9 w9 => jr_out F M O (hE _ _ _ w9))
  obtain ⟨r3, rfl, w⟩ := q9
  exact jr_zret (pc := 8) F M dJ33_contains_8 w.1 (hQ _ _ w.2)

theorem cC_J33_contains {G : jj_G} {l : Launch} (J : jx_G G l) {x0 : Option Nat} {x1 : Option Nat} {Q : Int → jj_H → Prop} {E : String → Nat → jj_H → Prop} {h : jj_H} {k : Nat} (w : fC_J33_contains (jj_gk G) x0 x1 Q E h k) : jj_Ct G l yJ33_contains (ws_ yJ33_contains cJ33_contains 2 (some (.boolean))) 7 159 [.inr (.inr (.inl x0)), .inr (.inr (.inl x1))] h k (jc_i Q) E := by
  refine jj_Ct.of J.1 (by decide +kernel) (Nat.le_of_ble_eq_true rfl) rfl (fun X hG hl F M O hnm => ?_)
  subst hG; subst hl
  exact sC_J33_contains F M O J hnm (fun r h q => ⟨r, rfl, q⟩) (fun _ _ _ q => q) _ _ _ _ w
theorem hC_J33_contains : yJ33_contains.cls = RJ33 ∧ yJ33_contains.cls ≠ "java/lang/invoke/MethodHandle" ∧ yJ33_contains.cls ≠ "java/lang/invoke/VarHandle" ∧ (parseMethodDescriptor yJ33_contains.desc).map (fun d => d.parameters.length) = some 1 := by decide +kernel
/-! J33_init()V -/
def fC_J33_init (gk : Nat → Nat) (x0 : Option Nat) (Q : jj_H → Prop) (E : String → Nat → jj_H → Prop) (h : jj_H) (k : Nat) : Prop :=
  jp_so x0 ∧ fC_J26_init gk x0 (fun h3 =>
  jp_nw h3 k 16 2 df_J19 (fun a4 h5 k6 =>
  jp_so (some a4) ∧ fC_J19_init gk (some a4) (fun h9 =>
  jp_pr h9 x0 20 0 (some a4) (fun h10 =>
  Q h10)) E h5 0)) E h 0
theorem sC_J33_init {X : jj_X} {N : Option jj_AV → jj_H → Prop} {XN : String → Nat → jj_H → Prop} (F : jj_F X RJ33 cJ33_init 1) (M : jj_M X (none) 3 60 N XN) (O : jj_no X) (J : jx_G X.1 X.2.2.1) (hi : X.2.2.2.2.2.2.2.2.2.1.name = yJ33_init.name) {Q : jj_H → Prop} {E : String → Nat → jj_H → Prop} (hQ : ∀ h, Q h → N none h) (hE : ∀ e q h, E e q h → XN e q h) (x0 : Option Nat) : ∀ (h : jj_H) (k : Nat), fC_J33_init (jj_gk X.1) x0 Q E h k → jj_J X 1 0 [(0, .inr (.inr (.inl x0)))] [] h k := by
  intro h k w
  unfold fC_J33_init at w
  refine jr_aload_n (pc := 0) F (j := 0) dJ33_init_0 rfl ?_
  obtain ⟨hi9, w⟩ := w
  refine jr_cI (pc := 1) (As := []) F M q2016 q949 q152 q950 dJ33_init_1 rfl hC_J26_init.2 rfl (Nat.le_of_ble_eq_true rfl) (Nat.le_of_ble_eq_true rfl) (Nat.le_of_ble_eq_true rfl) hi9 (Nat.zero_le _) (cC_J26_init J w) (fun v9 h3 q9 => ?_) (fun E9 q9 h9 w9 => jr_out F M O (hE _ _ _ w9))
  obtain ⟨rfl, w⟩ := q9
  refine jr_aload_n (pc := 4) F (j := 0) dJ33_init_4 rfl ?_
  refine jr_new (pc := 5) (ci := 16) F rfl in_J19 tyJ19_ok q2017 q552 q142 dfo_J19 rfl ⟨by decide, by decide⟩ dJ33_init_5 w (fun a4 h5 k6 w => ?_)
  refine jr_dup (pc := 8) F dJ33_init_8 rfl ?_
  obtain ⟨hi9, w⟩ := w
  refine jr_cI (pc := 9) (As := []) F M q2018 q554 q142 q555 dJ33_init_9 rfl hC_J19_init.2 rfl (Nat.le_of_ble_eq_true rfl) (Nat.le_of_ble_eq_true rfl) (Nat.le_of_ble_eq_true rfl) hi9 (Nat.zero_le _) (cC_J19_init J w) (fun v9 h9 q9 => ?_) (fun E9 q9 h9 w9 => jr_out F M O (hE _ _ _ w9))
  obtain ⟨rfl, w⟩ := q9
  refine jr_pr (pc := 12) (ci := 20) (f := 0) F rfl in_J33 tyJ33_ok nmJ33 (Nat.le_of_ble_eq_true rfl) rfl rfl q2019 dJ33_init_12 w (fun h10 w => ?_)
  exact jr_vret (pc := 15) F M dJ33_init_15 (hQ _ w)

theorem cC_J33_init {G : jj_G} {l : Launch} (J : jx_G G l) {x0 : Option Nat} {Q : jj_H → Prop} {E : String → Nat → jj_H → Prop} {h : jj_H} {k : Nat} (w : fC_J33_init (jj_gk G) x0 Q E h k) : jj_Ct G l yJ33_init (ws_ yJ33_init cJ33_init 1 (none)) 3 60 [.inr (.inr (.inl x0))] h k (jc_v Q) E := by
  refine jj_Ct.of J.1 (by decide +kernel) (Nat.le_of_ble_eq_true rfl) rfl (fun X hG hl F M O hnm => ?_)
  subst hG; subst hl
  exact sC_J33_init F M O J hnm (fun h q => ⟨rfl, q⟩) (fun _ _ _ q => q) _ _ _ w
theorem hC_J33_init : yJ33_init.cls = RJ33 ∧ yJ33_init.cls ≠ "java/lang/invoke/MethodHandle" ∧ yJ33_init.cls ≠ "java/lang/invoke/VarHandle" ∧ (parseMethodDescriptor yJ33_init.desc).map (fun d => d.parameters.length) = some 0 := by decide +kernel
/-! J33_iterator()Ljava/util/Iterator; -/
def fC_J33_iterator (gk : Nat → Nat) (x0 : Option Nat) (Q : Option Nat → jj_H → Prop) (E : String → Nat → jj_H → Prop) (h : jj_H) (k : Nat) : Prop :=
  jp_gr h x0 20 0 (fun g1 =>
  jp_is h g1 16 ∧ ∃ c2, c2 ≤ k ∧ fC_J19_keySet gk g1 (fun r3 h4 =>
  jp_is h4 r3 18 ∧ ∃ c5, c5 ≤ (k - c2) ∧ fC_J27_iterator gk r3 (fun r6 h7 =>
  Q r6 h7) E h4 c5) E h c2)
theorem sC_J33_iterator {X : jj_X} {N : Option jj_AV → jj_H → Prop} {XN : String → Nat → jj_H → Prop} (F : jj_F X RJ33 cJ33_iterator 1) (M : jj_M X (some ((.object "java/util/Iterator"))) 5 102 N XN) (O : jj_no X) (J : jx_G X.1 X.2.2.1) (hi : X.2.2.2.2.2.2.2.2.2.1.name = yJ33_iterator.name) {Q : Option Nat → jj_H → Prop} {E : String → Nat → jj_H → Prop} (hQ : ∀ r h, Q r h → N (some (.inr (.inr (.inl r)))) h) (hE : ∀ e q h, E e q h → XN e q h) (x0 : Option Nat) : ∀ (h : jj_H) (k : Nat), fC_J33_iterator (jj_gk X.1) x0 Q E h k → jj_J X 1 0 [(0, .inr (.inr (.inl x0)))] [] h k := by
  intro h k w
  unfold fC_J33_iterator at w
  refine jr_aload_n (pc := 0) F (j := 0) dJ33_iterator_0 rfl ?_
  refine jr_gr (pc := 1) (ci := 20) (f := 0) F rfl in_J33 (Nat.le_of_ble_eq_true rfl) q2019 dJ33_iterator_1 w (fun g1 w => ?_)
  obtain ⟨hi9, c2, hk9, w⟩ := w
  refine jr_cV (pc := 4) (As := []) (ci := 16) F M (lw_V q939 q940 q941 q142 q942) dJ33_iterator_4 hC_J19_keySet rfl (Nat.le_of_ble_eq_true rfl) (Nat.le_of_ble_eq_true rfl) (Nat.le_of_ble_eq_true rfl) rfl hi9 hk9 (cC_J19_keySet J w) (fun v9 h4 q9 => ?_) (fun E9 q9 h9 w9 => jr_out F M O (hE _ _ _ w9))
  obtain ⟨r3, rfl, w⟩ := q9
  obtain ⟨hi9, c5, hk9, w⟩ := w
  refine jr_cF (pc := 7) (n := 0) (As := []) (ci := 18) F M (lw_F q957 q961 q963 q153 q965) (jx_fw J 0 rfl) dJ33_iterator_7 (by decide +kernel) rfl (Nat.le_of_ble_eq_true rfl) (Nat.le_of_ble_eq_true rfl) (Nat.le_of_ble_eq_true rfl) rfl hi9 hk9 (cC_J27_iterator J w) (fun v9 h7 q9 => ?_) (fun E9 q9 h9 w9 => jr_out F M O (hE _ _ _ w9))
  obtain ⟨r6, rfl, w⟩ := q9
  exact jr_aret (pc := 12) F M (Or.inl ⟨_, rfl⟩) dJ33_iterator_12 (hQ _ _ w)

theorem cC_J33_iterator {G : jj_G} {l : Launch} (J : jx_G G l) {x0 : Option Nat} {Q : Option Nat → jj_H → Prop} {E : String → Nat → jj_H → Prop} {h : jj_H} {k : Nat} (w : fC_J33_iterator (jj_gk G) x0 Q E h k) : jj_Ct G l yJ33_iterator (ws_ yJ33_iterator cJ33_iterator 1 (some ((.object "java/util/Iterator")))) 5 102 [.inr (.inr (.inl x0))] h k (jc_r Q) E := by
  refine jj_Ct.of J.1 (by decide +kernel) (Nat.le_of_ble_eq_true rfl) rfl (fun X hG hl F M O hnm => ?_)
  subst hG; subst hl
  exact sC_J33_iterator F M O J hnm (fun r h q => ⟨r, rfl, q⟩) (fun _ _ _ q => q) _ _ _ w
theorem hC_J33_iterator : yJ33_iterator.cls = RJ33 ∧ yJ33_iterator.cls ≠ "java/lang/invoke/MethodHandle" ∧ yJ33_iterator.cls ≠ "java/lang/invoke/VarHandle" ∧ (parseMethodDescriptor yJ33_iterator.desc).map (fun d => d.parameters.length) = some 0 := by decide +kernel
/-! J33_size()I -/
def fC_J33_size (gk : Nat → Nat) (x0 : Option Nat) (Q : Int → jj_H → Prop) (E : String → Nat → jj_H → Prop) (h : jj_H) (k : Nat) : Prop :=
  jp_gr h x0 20 0 (fun g1 =>
  jp_is h g1 16 ∧ fC_J19_size gk g1 (fun r3 h4 =>
  Q r3 h4) E h 0)
theorem sC_J33_size {X : jj_X} {N : Option jj_AV → jj_H → Prop} {XN : String → Nat → jj_H → Prop} (F : jj_F X RJ33 cJ33_size 1) (M : jj_M X (some (.int)) 1 20 N XN) (O : jj_no X) (J : jx_G X.1 X.2.2.1) (hi : X.2.2.2.2.2.2.2.2.2.1.name = yJ33_size.name) {Q : Int → jj_H → Prop} {E : String → Nat → jj_H → Prop} (hQ : ∀ r h, Q r h → N (some (.inl r)) h) (hE : ∀ e q h, E e q h → XN e q h) (x0 : Option Nat) : ∀ (h : jj_H) (k : Nat), fC_J33_size (jj_gk X.1) x0 Q E h k → jj_J X 1 0 [(0, .inr (.inr (.inl x0)))] [] h k := by
  intro h k w
  unfold fC_J33_size at w
  refine jr_aload_n (pc := 0) F (j := 0) dJ33_size_0 rfl ?_
  refine jr_gr (pc := 1) (ci := 20) (f := 0) F rfl in_J33 (Nat.le_of_ble_eq_true rfl) q2019 dJ33_size_1 w (fun g1 w => ?_)
  obtain ⟨hi9, w⟩ := w
  refine jr_cV (pc := 4) (As := []) (ci := 16) F M (lw_V q1576 q1577 q1578 q142 q1579) dJ33_size_4 hC_J19_size rfl (Nat.le_of_ble_eq_true rfl) (Nat.le_of_ble_eq_true rfl) (Nat.le_of_ble_eq_true rfl) rfl hi9 (Nat.zero_le _) (cC_J19_size J w) (fun v9 h4 q9 => ?_) (fun E9 q9 h9 w9 => jr_out F M O (hE _ _ _ w9))
  obtain ⟨r3, rfl, w⟩ := q9
  exact jr_iret (pc := 7) F M dJ33_size_7 (hQ _ _ w)

theorem cC_J33_size {G : jj_G} {l : Launch} (J : jx_G G l) {x0 : Option Nat} {Q : Int → jj_H → Prop} {E : String → Nat → jj_H → Prop} {h : jj_H} {k : Nat} (w : fC_J33_size (jj_gk G) x0 Q E h k) : jj_Ct G l yJ33_size (ws_ yJ33_size cJ33_size 1 (some (.int))) 1 20 [.inr (.inr (.inl x0))] h k (jc_i Q) E := by
  refine jj_Ct.of J.1 (by decide +kernel) (Nat.le_of_ble_eq_true rfl) rfl (fun X hG hl F M O hnm => ?_)
  subst hG; subst hl
  exact sC_J33_size F M O J hnm (fun r h q => ⟨r, rfl, q⟩) (fun _ _ _ q => q) _ _ _ w
theorem hC_J33_size : yJ33_size.cls = RJ33 ∧ yJ33_size.cls ≠ "java/lang/invoke/MethodHandle" ∧ yJ33_size.cls ≠ "java/lang/invoke/VarHandle" ∧ (parseMethodDescriptor yJ33_size.desc).map (fun d => d.parameters.length) = some 0 := by decide +kernel
