set_option maxRecDepth 100000
/-! J41_size()I -/
def fC_J41_size (gk : Nat → Nat) (x0 : Option Nat) (Q : Int → jj_H → Prop) (E : String → Nat → jj_H → Prop) (h : jj_H) (k : Nat) : Prop :=
  jp_gi h x0 21 1 (fun g1 =>
  Q g1 h)
theorem sC_J41_size {X : jj_X} {N : Option jj_AV → jj_H → Prop} {XN : String → Nat → jj_H → Prop} (F : jj_F X RJ41 cJ41_size 1) (M : jj_M X (some (.int)) 0 0 N XN) (O : jj_no X) (J : jx_G X.1 X.2.2.1) (hi : X.2.2.2.2.2.2.2.2.2.1.name = yJ41_size.name) {Q : Int → jj_H → Prop} {E : String → Nat → jj_H → Prop} (hQ : ∀ r h, Q r h → N (some (.inl r)) h) (hE : ∀ e q h, E e q h → XN e q h) (x0 : Option Nat) : ∀ (h : jj_H) (k : Nat), fC_J41_size (jj_gk X.1) x0 Q E h k → jj_J X 1 0 [(0, .inr (.inr (.inl x0)))] [] h k := by
  intro h k w
  unfold fC_J41_size at w
  refine jr_aload_n (pc := 0) F (j := 0) dJ41_size_0 rfl ?_
  refine jr_gi (pc := 1) (ci := 21) (f := 1) F rfl in_J41 (Nat.le_of_ble_eq_true rfl) q1725 dJ41_size_1 w (fun g1 w => ?_)
  exact jr_iret (pc := 4) F M dJ41_size_4 (hQ _ _ w)

theorem cC_J41_size {G : jj_G} {l : Launch} (J : jx_G G l) {x0 : Option Nat} {Q : Int → jj_H → Prop} {E : String → Nat → jj_H → Prop} {h : jj_H} {k : Nat} (w : fC_J41_size (jj_gk G) x0 Q E h k) : jj_Ct G l yJ41_size (ws_ yJ41_size cJ41_size 1 (some (.int))) 0 0 [.inr (.inr (.inl x0))] h k (jc_i Q) E := by
  refine jj_Ct.of J.1 (by decide +kernel) (Nat.le_of_ble_eq_true rfl) rfl (fun X hG hl F M O hnm => ?_)
  subst hG; subst hl
  exact sC_J41_size F M O J hnm (fun r h q => ⟨r, rfl, q⟩) (fun _ _ _ q => q) _ _ _ w
theorem hC_J41_size : yJ41_size.cls = RJ41 ∧ yJ41_size.cls ≠ "java/lang/invoke/MethodHandle" ∧ yJ41_size.cls ≠ "java/lang/invoke/VarHandle" ∧ (parseMethodDescriptor yJ41_size.desc).map (fun d => d.parameters.length) = some 0 := by decide +kernel
/-! J0_isEmpty()Z -/
def fC_J0_isEmpty (gk : Nat → Nat) (x0 : Option Nat) (Q : Int → jj_H → Prop) (E : String → Nat → jj_H → Prop) (h : jj_H) (k : Nat) : Prop :=
  jp_is h x0 21 ∧ fC_J41_size gk x0 (fun r2 h3 =>
  jj_r r2 ∧ (¬ r2 = 0 → (
    Q 0 h3)) ∧
  (r2 = 0 → (
    Q 1 h3))) E h 0
theorem sC_J0_isEmpty {X : jj_X} {N : Option jj_AV → jj_H → Prop} {XN : String → Nat → jj_H → Prop} (F : jj_F X RJ0 cJ0_isEmpty 1) (M : jj_M X (some (.boolean)) 1 20 N XN) (O : jj_no X) (J : jx_G X.1 X.2.2.1) (hi : X.2.2.2.2.2.2.2.2.2.1.name = yJ0_isEmpty.name) {Q : Int → jj_H → Prop} {E : String → Nat → jj_H → Prop} (hQ : ∀ r h, Q r h → N (some (.inl r)) h) (hE : ∀ e q h, E e q h → XN e q h) (x0 : Option Nat) : ∀ (h : jj_H) (k : Nat), fC_J0_isEmpty (jj_gk X.1) x0 Q E h k → jj_J X 1 0 [(0, .inr (.inr (.inl x0)))] [] h k := by
  intro h k w
  unfold fC_J0_isEmpty at w
  refine jr_aload_n (pc := 0) F (j := 0) dJ0_isEmpty_0 rfl ?_
  obtain ⟨hi9, w⟩ := w
  refine jr_cD (pc := 1) (n := 0) (As := []) (ci := 21) F M (lw_D q1788 q1790 q1796 q1797 q169 q1798) q1789 dJ0_isEmpty_1 (by decide +kernel) rfl (Nat.le_of_ble_eq_true rfl) (Nat.le_of_ble_eq_true rfl) (Nat.le_of_ble_eq_true rfl) rfl hi9 (Nat.zero_le _) (cC_J41_size J w) (fun v9 h3 q9 => ?_) (fun E9 q9 h9 w9 => jr_out F M O (hE _ _ _ w9))
  obtain ⟨r2, rfl, w⟩ := q9
  obtain ⟨hx9, w1, w2⟩ := w
  refine jr_if_ne (pc := 4) (tgt := 11) F hx9 dJ0_isEmpty_4 rfl (fun c9 => ?_) (fun c9 => ?_)
  · have w := w1 c9
    refine jr_iconst (pc := 11) F dJ0_isEmpty_11 ?_
    exact jr_zret (pc := 12) F M dJ0_isEmpty_12 (by decide) (hQ _ _ w)
  · have w := w2 c9
    refine jr_iconst (pc := 7) F dJ0_isEmpty_7 ?_
    refine jr_goto (pc := 8) (tgt := 12) F dJ0_isEmpty_8 rfl ?_
    exact jr_zret (pc := 12) F M dJ0_isEmpty_12 (by decide) (hQ _ _ w)

theorem cC_J0_isEmpty {G : jj_G} {l : Launch} (J : jx_G G l) {x0 : Option Nat} {Q : Int → jj_H → Prop} {E : String → Nat → jj_H → Prop} {h : jj_H} {k : Nat} (w : fC_J0_isEmpty (jj_gk G) x0 Q E h k) : jj_Ct G l yJ0_isEmpty (ws_ yJ0_isEmpty cJ0_isEmpty 1 (some (.boolean))) 1 20 [.inr (.inr (.inl x0))] h k (jc_i Q) E := by
  refine jj_Ct.of J.1 (by decide +kernel) (Nat.le_of_ble_eq_true rfl) rfl (fun X hG hl F M O hnm => ?_)
  subst hG; subst hl
  exact sC_J0_isEmpty F M O J hnm (fun r h q => ⟨r, rfl, q⟩) (fun _ _ _ q => q) _ _ _ w
theorem hC_J0_isEmpty : yJ0_isEmpty.cls = RJ0 ∧ yJ0_isEmpty.cls ≠ "java/lang/invoke/MethodHandle" ∧ yJ0_isEmpty.cls ≠ "java/lang/invoke/VarHandle" ∧ (parseMethodDescriptor yJ0_isEmpty.desc).map (fun d => d.parameters.length) = some 0 := by decide +kernel
/-! J40_init()V -/
def fC_J40_init (gk : Nat → Nat) (x0 : Option Nat) (Q : jj_H → Prop) (E : String → Nat → jj_H → Prop) (h : jj_H) (k : Nat) : Prop :=
  jp_so x0 ∧ fC_J0_init gk x0 (fun h3 =>
  Q h3) E h 0
theorem sC_J40_init {X : jj_X} {N : Option jj_AV → jj_H → Prop} {XN : String → Nat → jj_H → Prop} (F : jj_F X RJ40 cJ40_init 1) (M : jj_M X (none) 2 40 N XN) (O : jj_no X) (J : jx_G X.1 X.2.2.1) (hi : X.2.2.2.2.2.2.2.2.2.1.name = yJ40_init.name) {Q : jj_H → Prop} {E : String → Nat → jj_H → Prop} (hQ : ∀ h, Q h → N none h) (hE : ∀ e q h, E e q h → XN e q h) (x0 : Option Nat) : ∀ (h : jj_H) (k : Nat), fC_J40_init (jj_gk X.1) x0 Q E h k → jj_J X 1 0 [(0, .inr (.inr (.inl x0)))] [] h k := by
  intro h k w
  unfold fC_J40_init at w
  refine jr_aload_n (pc := 0) F (j := 0) dJ40_init_0 rfl ?_
  obtain ⟨hi9, w⟩ := w
  refine jr_cI (pc := 1) (As := []) F M q1709 q209 q122 q210 dJ40_init_1 rfl hC_J0_init.2 rfl (Nat.le_of_ble_eq_true rfl) (Nat.le_of_ble_eq_true rfl) (Nat.le_of_ble_eq_true rfl) hi9 (Nat.zero_le _) (cC_J0_init J w) (fun v9 h3 q9 => ?_) (fun E9 q9 h9 w9 => jr_out F M O (hE _ _ _ w9))
  obtain ⟨rfl, w⟩ := q9
  exact jr_vret (pc := 4) F M dJ40_init_4 (hQ _ w)

theorem cC_J40_init {G : jj_G} {l : Launch} (J : jx_G G l) {x0 : Option Nat} {Q : jj_H → Prop} {E : String → Nat → jj_H → Prop} {h : jj_H} {k : Nat} (w : fC_J40_init (jj_gk G) x0 Q E h k) : jj_Ct G l yJ40_init (ws_ yJ40_init cJ40_init 1 (none)) 2 40 [.inr (.inr (.inl x0))] h k (jc_v Q) E := by
  refine jj_Ct.of J.1 (by decide +kernel) (Nat.le_of_ble_eq_true rfl) rfl (fun X hG hl F M O hnm => ?_)
  subst hG; subst hl
  exact sC_J40_init F M O J hnm (fun h q => ⟨rfl, q⟩) (fun _ _ _ q => q) _ _ _ w
theorem hC_J40_init : yJ40_init.cls = RJ40 ∧ yJ40_init.cls ≠ "java/lang/invoke/MethodHandle" ∧ yJ40_init.cls ≠ "java/lang/invoke/VarHandle" ∧ (parseMethodDescriptor yJ40_init.desc).map (fun d => d.parameters.length) = some 0 := by decide +kernel
/-! J41_grow(I)V -/
def fC_J41_grow_j25 (gk : Nat → Nat) (x0 : Option Nat) (y0 : Int) (y1 : Int) (y2 : Int) (Q : jj_H → Prop) (E : String → Nat → jj_H → Prop) (h : jj_H) (k : Nat) : Prop :=
  fC_J11_newLength gk y0 y1 y2 (fun r2 h3 =>
  jp_gr h3 x0 21 0 (fun g4 =>
  ∃ c5, c5 ≤ k ∧ fC_J13_copyOf_2 gk g4 r2 (fun r6 h7 =>
  jp_pr h7 x0 21 0 r6 (fun h8 =>
  Q h8)) E h3 c5)) E h 0
def fC_J41_grow (gk : Nat → Nat) (x0 : Option Nat) (x1 : Int) (Q : jj_H → Prop) (E : String → Nat → jj_H → Prop) (h : jj_H) (k : Nat) : Prop :=
  jp_gr h x0 21 0 (fun g9 =>
  jp_ar h g9 0 (fun g10 =>
  jj_r g10 ∧ (64 ≤ g10 → (
    fC_J41_grow_j25 gk x0 g10 (x1 - g10) (jj_shr g10 1) Q E h k)) ∧
  (¬ 64 ≤ g10 → (
    fC_J41_grow_j25 gk x0 g10 (x1 - g10) (g10 + 2) Q E h k))))
theorem sC_J41_grow_j25 {X : jj_X} {N : Option jj_AV → jj_H → Prop} {XN : String → Nat → jj_H → Prop} (F : jj_F X RJ41 cJ41_grow 4) (M : jj_M X (none) 3 104 N XN) (O : jj_no X) (J : jx_G X.1 X.2.2.1) (hi : X.2.2.2.2.2.2.2.2.2.1.name = yJ41_grow.name) {Q : jj_H → Prop} {E : String → Nat → jj_H → Prop} (hQ : ∀ h, Q h → N none h) (hE : ∀ e q h, E e q h → XN e q h) (x0 : Option Nat) (y0 : Int) (y1 : Int) (y2 : Int) : ∀ (h : jj_H) (k : Nat), fC_J41_grow_j25 (jj_gk X.1) x0 y0 y1 y2 Q E h k → jj_J X 4 25 [(0, .inr (.inr (.inl x0)))] [.inl y2, .inl y1, .inl y0] h k := by
  intro h k w
  unfold fC_J41_grow_j25 at w
  refine jr_callS (pc := 25) (As := [_, _, _]) F M (lw_S q1752 q316 q133 q317) dJ41_grow_25 hC_J11_newLength.2 rfl (Nat.le_of_ble_eq_true rfl) (Nat.le_of_ble_eq_true rfl) (Nat.le_of_ble_eq_true rfl) (Nat.zero_le _) (cC_J11_newLength J w) (fun v9 h3 q9 => ?_) (fun E9 q9 h9 w9 => jr_out F M O (hE _ _ _ w9))
  obtain ⟨r2, rfl, w⟩ := q9
  refine jr_istore_n (pc := 28) F (vs' := [(3, .inl _), (0, .inr (.inr (.inl _)))]) dJ41_grow_28 (Nat.le_of_ble_eq_true rfl) rfl ?_
  refine jr_aload_n (pc := 29) F (j := 1) dJ41_grow_29 rfl ?_
  refine jr_aload_n (pc := 30) F (j := 1) dJ41_grow_30 rfl ?_
  refine jr_gr (pc := 31) (ci := 21) (f := 0) F rfl in_J41 (Nat.le_of_ble_eq_true rfl) q1723 dJ41_grow_31 w (fun g4 w => ?_)
  refine jr_iload_n (pc := 34) F (j := 0) dJ41_grow_34 rfl ?_
  obtain ⟨c5, hk9, w⟩ := w
  refine jr_callS (pc := 35) (As := [_, _]) F M (lw_S q1753 q839 q135 q840) dJ41_grow_35 hC_J13_copyOf_2.2 rfl (Nat.le_of_ble_eq_true rfl) (Nat.le_of_ble_eq_true rfl) (Nat.le_of_ble_eq_true rfl) hk9 (cC_J13_copyOf_2 J w) (fun v9 h7 q9 => ?_) (fun E9 q9 h9 w9 => jr_out F M O (hE _ _ _ w9))
  obtain ⟨r6, rfl, w⟩ := q9
  refine jr_pr (pc := 38) (ci := 21) (f := 0) F rfl in_J41 tyJ41_ok nmJ41 (Nat.le_of_ble_eq_true rfl) rfl rfl q1723 dJ41_grow_38 w (fun h8 w => ?_)
  exact jr_vret (pc := 41) F M dJ41_grow_41 (hQ _ w)

theorem sC_J41_grow {X : jj_X} {N : Option jj_AV → jj_H → Prop} {XN : String → Nat → jj_H → Prop} (F : jj_F X RJ41 cJ41_grow 4) (M : jj_M X (none) 3 104 N XN) (O : jj_no X) (J : jx_G X.1 X.2.2.1) (hi : X.2.2.2.2.2.2.2.2.2.1.name = yJ41_grow.name) {Q : jj_H → Prop} {E : String → Nat → jj_H → Prop} (hQ : ∀ h, Q h → N none h) (hE : ∀ e q h, E e q h → XN e q h) (x0 : Option Nat) (x1 : Int) : ∀ (h : jj_H) (k : Nat), fC_J41_grow (jj_gk X.1) x0 x1 Q E h k → jj_J X 4 0 [(0, .inr (.inr (.inl x0))), (1, .inl x1)] [] h k := by
  intro h k w
  unfold fC_J41_grow at w
  refine jr_aload_n (pc := 0) F (j := 0) dJ41_grow_0 rfl ?_
  refine jr_gr (pc := 1) (ci := 21) (f := 0) F rfl in_J41 (Nat.le_of_ble_eq_true rfl) q1723 dJ41_grow_1 w (fun g9 w => ?_)
  refine jr_alenR (pc := 4) F ⟨4, _, fun _ => rfl⟩ dJ41_grow_4 w (fun g10 w => ?_)
  refine jr_istore_n (pc := 5) F (vs' := [(2, .inl _), (0, .inr (.inr (.inl _))), (1, .inl _)]) dJ41_grow_5 (Nat.le_of_ble_eq_true rfl) rfl ?_
  refine jr_iload_n (pc := 6) F (j := 0) dJ41_grow_6 rfl ?_
  refine jr_iload_n (pc := 7) F (j := 2) dJ41_grow_7 rfl ?_
  refine jr_iload_n (pc := 8) F (j := 0) dJ41_grow_8 rfl ?_
  refine jr_isub (pc := 9) F dJ41_grow_9 ?_
  refine jr_iload_n (pc := 10) F (j := 0) dJ41_grow_10 rfl ?_
  refine jr_bipush (pc := 11) F dJ41_grow_11 (by decide +kernel) ?_
  obtain ⟨hx9, w1, w2⟩ := w
  refine jr_icmp_ge (pc := 13) (tgt := 22) F hx9 ⟨by decide, by decide⟩ dJ41_grow_13 rfl (fun c9 => ?_) (fun c9 => ?_)
  · have w := w1 c9
    refine jr_iload_n (pc := 22) F (j := 0) dJ41_grow_22 rfl ?_
    refine jr_iconst (pc := 23) F dJ41_grow_23 ?_
    refine jr_ishr (pc := 24) F dJ41_grow_24 ?_
    refine jj_J.sub [1] rfl ?_
    exact sC_J41_grow_j25 F M O J hi hQ hE _ _ _ _ _ _ w
  · have w := w2 c9
    refine jr_iload_n (pc := 16) F (j := 0) dJ41_grow_16 rfl ?_
    refine jr_iconst (pc := 17) F dJ41_grow_17 ?_
    refine jr_iadd (pc := 18) F dJ41_grow_18 ?_
    refine jr_goto (pc := 19) (tgt := 25) F dJ41_grow_19 rfl ?_
    refine jj_J.sub [1] rfl ?_
    exact sC_J41_grow_j25 F M O J hi hQ hE _ _ _ _ _ _ w

theorem cC_J41_grow {G : jj_G} {l : Launch} (J : jx_G G l) {x0 : Option Nat} {x1 : Int} {Q : jj_H → Prop} {E : String → Nat → jj_H → Prop} {h : jj_H} {k : Nat} (w : fC_J41_grow (jj_gk G) x0 x1 Q E h k) : jj_Ct G l yJ41_grow (ws_ yJ41_grow cJ41_grow 4 (none)) 3 104 [.inr (.inr (.inl x0)), .inl x1] h k (jc_v Q) E := by
  refine jj_Ct.of J.1 (by decide +kernel) (Nat.le_of_ble_eq_true rfl) rfl (fun X hG hl F M O hnm => ?_)
  subst hG; subst hl
  exact sC_J41_grow F M O J hnm (fun h q => ⟨rfl, q⟩) (fun _ _ _ q => q) _ _ _ _ w
theorem hC_J41_grow : yJ41_grow.cls = RJ41 ∧ yJ41_grow.cls ≠ "java/lang/invoke/MethodHandle" ∧ yJ41_grow.cls ≠ "java/lang/invoke/VarHandle" ∧ (parseMethodDescriptor yJ41_grow.desc).map (fun d => d.parameters.length) = some 1 := by decide +kernel
/-! J41_siftUpUsingComparator(ILjava/lang/Object;[Ljava/lang/Object;Ljava/util/Comparator;)V -/
def fC_J41_siftUpUsingComparator_l0 (gk : Nat → Nat) (x1 : Option Nat) (x2 : Option Nat) (x3 : Option Nat) (Q : jj_H → Prop) (E : String → Nat → jj_H → Prop) : Nat → Int → jj_H → Nat → Prop
  | 0, _, _, _ => False
  | n + 1, x0, h, k =>
  jj_r x0 ∧ (x0 ≤ 0 → (
    jp_ro h x2 x0 x1 (fun h1 =>
    Q h1))) ∧
  (¬ x0 ≤ 0 → (
    ∀ v2, v2 = jj_ushr (x0 - 1) 1 →
    jp_rl h x2 0 v2 (fun g3 =>
    jq_X15_compare x3 x1 g3 (fun r6 h4 k5 =>
    jj_r r6 ∧ (r6 < 0 → (
      jp_ro h4 x2 x0 g3 (fun h7 =>
      fC_J41_siftUpUsingComparator_l0 gk x1 x2 x3 Q E n v2 h7 k5))) ∧
    (¬ r6 < 0 → (
      jp_ro h4 x2 x0 x1 (fun h8 =>
      Q h8)))) h k)))
def fC_J41_siftUpUsingComparator (gk : Nat → Nat) (x0 : Int) (x1 : Option Nat) (x2 : Option Nat) (x3 : Option Nat) (Q : jj_H → Prop) (E : String → Nat → jj_H → Prop) (h : jj_H) (k : Nat) : Prop :=
  ∃ n9, fC_J41_siftUpUsingComparator_l0 gk x1 x2 x3 Q E n9 x0 h k
theorem sC_J41_siftUpUsingComparator_l0 {X : jj_X} {N : Option jj_AV → jj_H → Prop} {XN : String → Nat → jj_H → Prop} (F : jj_F X RJ41 cJ41_siftUpUsingComparator 6) (M : jj_M X (none) 2 45 N XN) (O : jj_no X) (J : jx_G X.1 X.2.2.1) (hi : X.2.2.2.2.2.2.2.2.2.1.name = yJ41_siftUpUsingComparator.name) {Q : jj_H → Prop} {E : String → Nat → jj_H → Prop} (hQ : ∀ h, Q h → N none h) (hE : ∀ e q h, E e q h → XN e q h) (x1 : Option Nat) (x2 : Option Nat) (x3 : Option Nat) : ∀ (n : Nat) (x0 : Int) (h : jj_H) (k : Nat), fC_J41_siftUpUsingComparator_l0 (jj_gk X.1) x1 x2 x3 Q E n x0 h k → jj_J X 6 0 [(0, .inl x0), (1, .inr (.inr (.inl x1))), (2, .inr (.inr (.inl x2))), (3, .inr (.inr (.inl x3)))] [] h k := by
  intro n
  induction n with
  | zero =>
    intro x0 h k w
    exact (show False from w).elim
  | succ n ih =>
    intro x0 h k w
    rw [fC_J41_siftUpUsingComparator_l0] at w
    refine jr_iload_n (pc := 0) F (j := 0) dJ41_siftUpUsingComparator_0 rfl ?_
    obtain ⟨hx9, w1, w2⟩ := w
    refine jr_if_le (pc := 1) (tgt := 43) F hx9 dJ41_siftUpUsingComparator_1 rfl (fun c9 => ?_) (fun c9 => ?_)
    · have w := w1 c9
      refine jr_aload_n (pc := 43) F (j := 2) dJ41_siftUpUsingComparator_43 rfl ?_
      refine jr_iload_n (pc := 44) F (j := 0) dJ41_siftUpUsingComparator_44 rfl ?_
      refine jr_aload_n (pc := 45) F (j := 1) dJ41_siftUpUsingComparator_45 rfl ?_
      refine jr_aastO (pc := 46) F dJ41_siftUpUsingComparator_46 w (fun h1 w => ?_)
      exact jr_vret (pc := 47) F M dJ41_siftUpUsingComparator_47 (hQ _ w)
    · have w := w2 c9
      refine jr_iload_n (pc := 4) F (j := 0) dJ41_siftUpUsingComparator_4 rfl ?_
      refine jr_iconst (pc := 5) F dJ41_siftUpUsingComparator_5 ?_
      refine jr_isub (pc := 6) F dJ41_siftUpUsingComparator_6 ?_
      refine jr_iconst (pc := 7) F dJ41_siftUpUsingComparator_7 ?_
      refine jr_iushr (pc := 8) F dJ41_siftUpUsingComparator_8 ?_
      have w := w _ rfl
      refine jr_istore (pc := 9) F (vs' := [(4, .inl _), (0, .inl _), (1, .inr (.inr (.inl _))), (2, .inr (.inr (.inl _))), (3, .inr (.inr (.inl _)))]) dJ41_siftUpUsingComparator_9 (Nat.le_of_ble_eq_true rfl) rfl ?_
      refine jr_aload_n (pc := 11) F (j := 3) dJ41_siftUpUsingComparator_11 rfl ?_
      refine jr_iload (pc := 12) F (j := 0) dJ41_siftUpUsingComparator_12 rfl ?_
      refine jr_aald (pc := 14) F ⟨4, _, fun _ => rfl⟩ dJ41_siftUpUsingComparator_14 w (fun g3 w => ?_)
      refine jr_astore (pc := 15) F (vs' := [(5, .inr (.inr (.inl _))), (4, .inl _), (0, .inl _), (1, .inr (.inr (.inl _))), (2, .inr (.inr (.inl _))), (3, .inr (.inr (.inl _)))]) dJ41_siftUpUsingComparator_15 (Nat.le_of_ble_eq_true rfl) rfl ?_
      refine jr_aload_n (pc := 17) F (j := 5) dJ41_siftUpUsingComparator_17 rfl ?_
      refine jr_aload_n (pc := 18) F (j := 3) dJ41_siftUpUsingComparator_18 rfl ?_
      refine jr_aload (pc := 19) F (j := 0) dJ41_siftUpUsingComparator_19 rfl ?_
      refine jr_jFR (pc := 21) (n := 2) (As := [_, _]) (ci := 9) F M (lw_F q1762 q1766 q1768 q185 q1770) (jx_fw J 4 rfl) dJ41_siftUpUsingComparator_21 (by decide +kernel) rfl (Nat.le_of_ble_eq_true rfl) (Nat.le_of_ble_eq_true rfl) (Nat.le_of_ble_eq_true rfl) rfl (cb_X15_compare J (fr := 1) (lo := 23) (Nat.le_of_ble_eq_true rfl) (Nat.le_of_ble_eq_true rfl) _ _ _ _ _ _ w) (fun v9 h4 k5 q9 => ?_)
      obtain ⟨r6, rfl, w⟩ := q9
      obtain ⟨hx9, w1, w2⟩ := w
      refine jr_if_lt (pc := 26) (tgt := 32) F hx9 dJ41_siftUpUsingComparator_26 rfl (fun c9 => ?_) (fun c9 => ?_)
      · have w := w1 c9
        refine jr_aload_n (pc := 32) F (j := 4) dJ41_siftUpUsingComparator_32 rfl ?_
        refine jr_iload_n (pc := 33) F (j := 2) dJ41_siftUpUsingComparator_33 rfl ?_
        refine jr_aload (pc := 34) F (j := 0) dJ41_siftUpUsingComparator_34 rfl ?_
        refine jr_aastO (pc := 36) F dJ41_siftUpUsingComparator_36 w (fun h7 w => ?_)
        refine jr_iload (pc := 37) F (j := 1) dJ41_siftUpUsingComparator_37 rfl ?_
        refine jr_istore_n (pc := 39) F (vs' := [(0, .inl _), (5, .inr (.inr (.inl _))), (4, .inl _), (1, .inr (.inr (.inl _))), (2, .inr (.inr (.inl _))), (3, .inr (.inr (.inl _)))]) dJ41_siftUpUsingComparator_39 (Nat.le_of_ble_eq_true rfl) rfl ?_
        refine jr_goto (pc := 40) (tgt := 0) F dJ41_siftUpUsingComparator_40 rfl ?_
        refine jj_J.sub [0, 3, 4, 5] rfl ?_
        exact ih _ _ _ w
      · have w := w2 c9
        refine jr_goto (pc := 29) (tgt := 43) F dJ41_siftUpUsingComparator_29 rfl ?_
        refine jr_aload_n (pc := 43) F (j := 4) dJ41_siftUpUsingComparator_43 rfl ?_
        refine jr_iload_n (pc := 44) F (j := 2) dJ41_siftUpUsingComparator_44 rfl ?_
        refine jr_aload_n (pc := 45) F (j := 3) dJ41_siftUpUsingComparator_45 rfl ?_
        refine jr_aastO (pc := 46) F dJ41_siftUpUsingComparator_46 w (fun h8 w => ?_)
        exact jr_vret (pc := 47) F M dJ41_siftUpUsingComparator_47 (hQ _ w)

theorem sC_J41_siftUpUsingComparator {X : jj_X} {N : Option jj_AV → jj_H → Prop} {XN : String → Nat → jj_H → Prop} (F : jj_F X RJ41 cJ41_siftUpUsingComparator 6) (M : jj_M X (none) 2 45 N XN) (O : jj_no X) (J : jx_G X.1 X.2.2.1) (hi : X.2.2.2.2.2.2.2.2.2.1.name = yJ41_siftUpUsingComparator.name) {Q : jj_H → Prop} {E : String → Nat → jj_H → Prop} (hQ : ∀ h, Q h → N none h) (hE : ∀ e q h, E e q h → XN e q h) (x0 : Int) (x1 : Option Nat) (x2 : Option Nat) (x3 : Option Nat) : ∀ (h : jj_H) (k : Nat), fC_J41_siftUpUsingComparator (jj_gk X.1) x0 x1 x2 x3 Q E h k → jj_J X 6 0 [(0, .inl x0), (1, .inr (.inr (.inl x1))), (2, .inr (.inr (.inl x2))), (3, .inr (.inr (.inl x3)))] [] h k := by
  intro h k w
  unfold fC_J41_siftUpUsingComparator at w
  obtain ⟨n9, w⟩ := w
  exact sC_J41_siftUpUsingComparator_l0 F M O J hi hQ hE _ _ _ n9 _ _ _ w

theorem cC_J41_siftUpUsingComparator {G : jj_G} {l : Launch} (J : jx_G G l) {x0 : Int} {x1 : Option Nat} {x2 : Option Nat} {x3 : Option Nat} {Q : jj_H → Prop} {E : String → Nat → jj_H → Prop} {h : jj_H} {k : Nat} (w : fC_J41_siftUpUsingComparator (jj_gk G) x0 x1 x2 x3 Q E h k) : jj_Ct G l yJ41_siftUpUsingComparator (ws_ yJ41_siftUpUsingComparator cJ41_siftUpUsingComparator 6 (none)) 2 45 [.inl x0, .inr (.inr (.inl x1)), .inr (.inr (.inl x2)), .inr (.inr (.inl x3))] h k (jc_v Q) E := by
  refine jj_Ct.of J.1 (by decide +kernel) (Nat.le_of_ble_eq_true rfl) rfl (fun X hG hl F M O hnm => ?_)
  subst hG; subst hl
  exact sC_J41_siftUpUsingComparator F M O J hnm (fun h q => ⟨rfl, q⟩) (fun _ _ _ q => q) _ _ _ _ _ _ w
theorem hC_J41_siftUpUsingComparator : yJ41_siftUpUsingComparator.cls = RJ41 ∧ yJ41_siftUpUsingComparator.cls ≠ "java/lang/invoke/MethodHandle" ∧ yJ41_siftUpUsingComparator.cls ≠ "java/lang/invoke/VarHandle" ∧ (parseMethodDescriptor yJ41_siftUpUsingComparator.desc).map (fun d => d.parameters.length) = some 4 := by decide +kernel
/-! J41_siftUp(ILjava/lang/Object;)V -/
def fC_J41_siftUp (gk : Nat → Nat) (x0 : Option Nat) (x1 : Int) (x2 : Option Nat) (Q : jj_H → Prop) (E : String → Nat → jj_H → Prop) (h : jj_H) (k : Nat) : Prop :=
  jp_gr h x0 21 2 (fun g1 =>
  (g1 = none → (
    jp_gr h x0 21 0 (fun g2 =>
    False))) ∧
  (¬ g1 = none → (
    jp_gr h x0 21 0 (fun g3 =>
    jp_gr h x0 21 2 (fun g4 =>
    fC_J41_siftUpUsingComparator gk x1 x2 g3 g4 (fun h7 =>
    Q h7) E h 0)))))
theorem sC_J41_siftUp {X : jj_X} {N : Option jj_AV → jj_H → Prop} {XN : String → Nat → jj_H → Prop} (F : jj_F X RJ41 cJ41_siftUp 3) (M : jj_M X (none) 3 70 N XN) (O : jj_no X) (J : jx_G X.1 X.2.2.1) (hi : X.2.2.2.2.2.2.2.2.2.1.name = yJ41_siftUp.name) {Q : jj_H → Prop} {E : String → Nat → jj_H → Prop} (hQ : ∀ h, Q h → N none h) (hE : ∀ e q h, E e q h → XN e q h) (x0 : Option Nat) (x1 : Int) (x2 : Option Nat) : ∀ (h : jj_H) (k : Nat), fC_J41_siftUp (jj_gk X.1) x0 x1 x2 Q E h k → jj_J X 3 0 [(0, .inr (.inr (.inl x0))), (1, .inl x1), (2, .inr (.inr (.inl x2)))] [] h k := by
  intro h k w
  unfold fC_J41_siftUp at w
  refine jr_aload_n (pc := 0) F (j := 0) dJ41_siftUp_0 rfl ?_
  refine jr_gr (pc := 1) (ci := 21) (f := 2) F rfl in_J41 (Nat.le_of_ble_eq_true rfl) q1726 dJ41_siftUp_1 w (fun g1 w => ?_)
  obtain ⟨w1, w2⟩ := w
  refine jr_ifnull (pc := 4) (tgt := 23) F dJ41_siftUp_4 rfl (fun c9 => ?_) (fun c9 => ?_)
  · have w := w1 c9
    refine jr_iload_n (pc := 23) F (j := 1) dJ41_siftUp_23 rfl ?_
    refine jr_aload_n (pc := 24) F (j := 2) dJ41_siftUp_24 rfl ?_
    refine jr_aload_n (pc := 25) F (j := 0) dJ41_siftUp_25 rfl ?_
    refine jr_gr (pc := 26) (ci := 21) (f := 0) F rfl in_J41 (Nat.le_of_ble_eq_true rfl) q1723 dJ41_siftUp_26 w (fun g2 w => ?_)
    exact (show False from w).elim
  · have w := w2 c9
    refine jr_iload_n (pc := 7) F (j := 1) dJ41_siftUp_7 rfl ?_
    refine jr_aload_n (pc := 8) F (j := 2) dJ41_siftUp_8 rfl ?_
    refine jr_aload_n (pc := 9) F (j := 0) dJ41_siftUp_9 rfl ?_
    refine jr_gr (pc := 10) (ci := 21) (f := 0) F rfl in_J41 (Nat.le_of_ble_eq_true rfl) q1723 dJ41_siftUp_10 w (fun g3 w => ?_)
    refine jr_aload_n (pc := 13) F (j := 0) dJ41_siftUp_13 rfl ?_
    refine jr_gr (pc := 14) (ci := 21) (f := 2) F rfl in_J41 (Nat.le_of_ble_eq_true rfl) q1726 dJ41_siftUp_14 w (fun g4 w => ?_)
    refine jr_callS (pc := 17) (As := [_, _, _, _]) F M (lw_S q1758 q1759 q169 q1760) dJ41_siftUp_17 hC_J41_siftUpUsingComparator.2 rfl (Nat.le_of_ble_eq_true rfl) (Nat.le_of_ble_eq_true rfl) (Nat.le_of_ble_eq_true rfl) (Nat.zero_le _) (cC_J41_siftUpUsingComparator J w) (fun v9 h7 q9 => ?_) (fun E9 q9 h9 w9 => jr_out F M O (hE _ _ _ w9))
    obtain ⟨rfl, w⟩ := q9
    refine jr_goto (pc := 20) (tgt := 32) F dJ41_siftUp_20 rfl ?_
    exact jr_vret (pc := 32) F M dJ41_siftUp_32 (hQ _ w)

theorem cC_J41_siftUp {G : jj_G} {l : Launch} (J : jx_G G l) {x0 : Option Nat} {x1 : Int} {x2 : Option Nat} {Q : jj_H → Prop} {E : String → Nat → jj_H → Prop} {h : jj_H} {k : Nat} (w : fC_J41_siftUp (jj_gk G) x0 x1 x2 Q E h k) : jj_Ct G l yJ41_siftUp (ws_ yJ41_siftUp cJ41_siftUp 3 (none)) 3 70 [.inr (.inr (.inl x0)), .inl x1, .inr (.inr (.inl x2))] h k (jc_v Q) E := by
  refine jj_Ct.of J.1 (by decide +kernel) (Nat.le_of_ble_eq_true rfl) rfl (fun X hG hl F M O hnm => ?_)
  subst hG; subst hl
  exact sC_J41_siftUp F M O J hnm (fun h q => ⟨rfl, q⟩) (fun _ _ _ q => q) _ _ _ _ _ w
theorem hC_J41_siftUp : yJ41_siftUp.cls = RJ41 ∧ yJ41_siftUp.cls ≠ "java/lang/invoke/MethodHandle" ∧ yJ41_siftUp.cls ≠ "java/lang/invoke/VarHandle" ∧ (parseMethodDescriptor yJ41_siftUp.desc).map (fun d => d.parameters.length) = some 2 := by decide +kernel
/-! J41_offer(Ljava/lang/Object;)Z -/
def fC_J41_offer_j43 (gk : Nat → Nat) (x0 : Option Nat) (x1 : Option Nat) (x2 : Int) (Q : Int → jj_H → Prop) (E : String → Nat → jj_H → Prop) (h : jj_H) (k : Nat) : Prop :=
  jp_is h x0 21 ∧ fC_J41_siftUp gk x0 x2 x1 (fun h3 =>
  jp_pi h3 x0 21 1 (x2 + 1) (fun h4 =>
  Q 1 h4)) E h 0
def fC_J41_offer (gk : Nat → Nat) (x0 : Option Nat) (x1 : Option Nat) (Q : Int → jj_H → Prop) (E : String → Nat → jj_H → Prop) (h : jj_H) (k : Nat) : Prop :=
  (¬ x1 = none → (
    jp_gi h x0 21 3 (fun g5 =>
    jp_pi h x0 21 3 (g5 + 1) (fun h6 =>
    jp_gi h6 x0 21 1 (fun g7 =>
    jp_gr h6 x0 21 0 (fun g8 =>
    jp_ar h6 g8 0 (fun g9 =>
    jj_r g7 ∧ jj_r g9 ∧ (g7 < g9 → (
      fC_J41_offer_j43 gk x0 x1 g7 Q E h6 k)) ∧
    (¬ g7 < g9 → (
      jp_is h6 x0 21 ∧ ∃ c10, c10 ≤ k ∧ fC_J41_grow gk x0 (g7 + 1) (fun h12 =>
      fC_J41_offer_j43 gk x0 x1 g7 Q E h12 (k - c10)) E h6 c10))))))))) ∧
  (x1 = none → (
    False))
theorem sC_J41_offer_j43 {X : jj_X} {N : Option jj_AV → jj_H → Prop} {XN : String → Nat → jj_H → Prop} (F : jj_F X RJ41 cJ41_offer 3) (M : jj_M X (some (.boolean)) 4 127 N XN) (O : jj_no X) (J : jx_G X.1 X.2.2.1) (hi : X.2.2.2.2.2.2.2.2.2.1.name = yJ41_offer.name) {Q : Int → jj_H → Prop} {E : String → Nat → jj_H → Prop} (hQ : ∀ r h, Q r h → N (some (.inl r)) h) (hE : ∀ e q h, E e q h → XN e q h) (x0 : Option Nat) (x1 : Option Nat) (x2 : Int) : ∀ (h : jj_H) (k : Nat), fC_J41_offer_j43 (jj_gk X.1) x0 x1 x2 Q E h k → jj_J X 3 43 [(0, .inr (.inr (.inl x0))), (1, .inr (.inr (.inl x1))), (2, .inl x2)] [] h k := by
  intro h k w
  unfold fC_J41_offer_j43 at w
  refine jr_aload_n (pc := 43) F (j := 0) dJ41_offer_43 rfl ?_
  refine jr_iload_n (pc := 44) F (j := 2) dJ41_offer_44 rfl ?_
  refine jr_aload_n (pc := 45) F (j := 1) dJ41_offer_45 rfl ?_
  obtain ⟨hi9, w⟩ := w
  refine jr_cV (pc := 46) (As := [_, _]) (ci := 21) F M (lw_V q1754 q1756 qs12 q169 q1757) dJ41_offer_46 hC_J41_siftUp rfl (Nat.le_of_ble_eq_true rfl) (Nat.le_of_ble_eq_true rfl) (Nat.le_of_ble_eq_true rfl) rfl hi9 (Nat.zero_le _) (cC_J41_siftUp J w) (fun v9 h3 q9 => ?_) (fun E9 q9 h9 w9 => jr_out F M O (hE _ _ _ w9))
  obtain ⟨rfl, w⟩ := q9
  refine jr_aload_n (pc := 49) F (j := 0) dJ41_offer_49 rfl ?_
  refine jr_iload_n (pc := 50) F (j := 2) dJ41_offer_50 rfl ?_
  refine jr_iconst (pc := 51) F dJ41_offer_51 ?_
  refine jr_iadd (pc := 52) F dJ41_offer_52 ?_
  refine jr_pi (pc := 53) (ci := 21) (f := 1) F rfl in_J41 tyJ41_ok nmJ41 (Nat.le_of_ble_eq_true rfl) rfl rfl q1725 dJ41_offer_53 w (fun h4 w => ?_)
  refine jr_iconst (pc := 56) F dJ41_offer_56 ?_
  exact jr_zret (pc := 57) F M dJ41_offer_57 (by decide) (hQ _ _ w)

theorem sC_J41_offer {X : jj_X} {N : Option jj_AV → jj_H → Prop} {XN : String → Nat → jj_H → Prop} (F : jj_F X RJ41 cJ41_offer 3) (M : jj_M X (some (.boolean)) 4 127 N XN) (O : jj_no X) (J : jx_G X.1 X.2.2.1) (hi : X.2.2.2.2.2.2.2.2.2.1.name = yJ41_offer.name) {Q : Int → jj_H → Prop} {E : String → Nat → jj_H → Prop} (hQ : ∀ r h, Q r h → N (some (.inl r)) h) (hE : ∀ e q h, E e q h → XN e q h) (x0 : Option Nat) (x1 : Option Nat) : ∀ (h : jj_H) (k : Nat), fC_J41_offer (jj_gk X.1) x0 x1 Q E h k → jj_J X 3 0 [(0, .inr (.inr (.inl x0))), (1, .inr (.inr (.inl x1)))] [] h k := by
  intro h k w
  unfold fC_J41_offer at w
  refine jr_aload_n (pc := 0) F (j := 1) dJ41_offer_0 rfl ?_
  obtain ⟨w1, w2⟩ := w
  refine jr_ifnonnull (pc := 1) (tgt := 12) F dJ41_offer_1 rfl (fun c9 => ?_) (fun c9 => ?_)
  · have w := w1 c9
    refine jr_aload_n (pc := 12) F (j := 0) dJ41_offer_12 rfl ?_
    refine jr_dup (pc := 13) F dJ41_offer_13 rfl ?_
    refine jr_gi (pc := 14) (ci := 21) (f := 3) F rfl in_J41 (Nat.le_of_ble_eq_true rfl) q1728 dJ41_offer_14 w (fun g5 w => ?_)
    refine jr_iconst (pc := 17) F dJ41_offer_17 ?_
    refine jr_iadd (pc := 18) F dJ41_offer_18 ?_
    refine jr_pi (pc := 19) (ci := 21) (f := 3) F rfl in_J41 tyJ41_ok nmJ41 (Nat.le_of_ble_eq_true rfl) rfl rfl q1728 dJ41_offer_19 w (fun h6 w => ?_)
    refine jr_aload_n (pc := 22) F (j := 0) dJ41_offer_22 rfl ?_
    refine jr_gi (pc := 23) (ci := 21) (f := 1) F rfl in_J41 (Nat.le_of_ble_eq_true rfl) q1725 dJ41_offer_23 w (fun g7 w => ?_)
    refine jr_istore_n (pc := 26) F (vs' := [(2, .inl _), (0, .inr (.inr (.inl _))), (1, .inr (.inr (.inl _)))]) dJ41_offer_26 (Nat.le_of_ble_eq_true rfl) rfl ?_
    refine jr_iload_n (pc := 27) F (j := 0) dJ41_offer_27 rfl ?_
    refine jr_aload_n (pc := 28) F (j := 1) dJ41_offer_28 rfl ?_
    refine jr_gr (pc := 29) (ci := 21) (f := 0) F rfl in_J41 (Nat.le_of_ble_eq_true rfl) q1723 dJ41_offer_29 w (fun g8 w => ?_)
    refine jr_alenR (pc := 32) F ⟨4, _, fun _ => rfl⟩ dJ41_offer_32 w (fun g9 w => ?_)
    obtain ⟨hx9, hy9, w1, w2⟩ := w
    refine jr_icmp_lt (pc := 33) (tgt := 43) F hx9 hy9 dJ41_offer_33 rfl (fun c9 => ?_) (fun c9 => ?_)
    · have w := w1 c9
      refine jj_J.sub [1, 2, 0] rfl ?_
      exact sC_J41_offer_j43 F M O J hi hQ hE _ _ _ _ _ w
    · have w := w2 c9
      refine jr_aload_n (pc := 36) F (j := 1) dJ41_offer_36 rfl ?_
      refine jr_iload_n (pc := 37) F (j := 0) dJ41_offer_37 rfl ?_
      refine jr_iconst (pc := 38) F dJ41_offer_38 ?_
      refine jr_iadd (pc := 39) F dJ41_offer_39 ?_
      obtain ⟨hi9, c10, hk9, w⟩ := w
      refine jr_cV (pc := 40) (As := [_]) (ci := 21) F M (lw_V q1748 q1750 qs11 q169 q1751) dJ41_offer_40 hC_J41_grow rfl (Nat.le_of_ble_eq_true rfl) (Nat.le_of_ble_eq_true rfl) (Nat.le_of_ble_eq_true rfl) rfl hi9 hk9 (cC_J41_grow J w) (fun v9 h12 q9 => ?_) (fun E9 q9 h9 w9 => jr_out F M O (hE _ _ _ w9))
      obtain ⟨rfl, w⟩ := q9
      refine jj_J.sub [1, 2, 0] rfl ?_
      exact sC_J41_offer_j43 F M O J hi hQ hE _ _ _ _ _ w
  · have w := w2 c9
    exact (show False from w).elim

theorem cC_J41_offer {G : jj_G} {l : Launch} (J : jx_G G l) {x0 : Option Nat} {x1 : Option Nat} {Q : Int → jj_H → Prop} {E : String → Nat → jj_H → Prop} {h : jj_H} {k : Nat} (w : fC_J41_offer (jj_gk G) x0 x1 Q E h k) : jj_Ct G l yJ41_offer (ws_ yJ41_offer cJ41_offer 3 (some (.boolean))) 4 127 [.inr (.inr (.inl x0)), .inr (.inr (.inl x1))] h k (jc_i Q) E := by
  refine jj_Ct.of J.1 (by decide +kernel) (Nat.le_of_ble_eq_true rfl) rfl (fun X hG hl F M O hnm => ?_)
  subst hG; subst hl
  exact sC_J41_offer F M O J hnm (fun r h q => ⟨r, rfl, q⟩) (fun _ _ _ q => q) _ _ _ _ w
theorem hC_J41_offer : yJ41_offer.cls = RJ41 ∧ yJ41_offer.cls ≠ "java/lang/invoke/MethodHandle" ∧ yJ41_offer.cls ≠ "java/lang/invoke/VarHandle" ∧ (parseMethodDescriptor yJ41_offer.desc).map (fun d => d.parameters.length) = some 1 := by decide +kernel
/-! J41_add(Ljava/lang/Object;)Z -/
def fC_J41_add (gk : Nat → Nat) (x0 : Option Nat) (x1 : Option Nat) (Q : Int → jj_H → Prop) (E : String → Nat → jj_H → Prop) (h : jj_H) (k : Nat) : Prop :=
  jp_is h x0 21 ∧ ∃ c1, c1 ≤ k ∧ fC_J41_offer gk x0 x1 (fun r2 h3 =>
  (r2 = 0 ∨ r2 = 1) ∧ Q r2 h3) E h c1
theorem sC_J41_add {X : jj_X} {N : Option jj_AV → jj_H → Prop} {XN : String → Nat → jj_H → Prop} (F : jj_F X RJ41 cJ41_add 2) (M : jj_M X (some (.boolean)) 5 149 N XN) (O : jj_no X) (J : jx_G X.1 X.2.2.1) (hi : X.2.2.2.2.2.2.2.2.2.1.name = yJ41_add.name) {Q : Int → jj_H → Prop} {E : String → Nat → jj_H → Prop} (hQ : ∀ r h, Q r h → N (some (.inl r)) h) (hE : ∀ e q h, E e q h → XN e q h) (x0 : Option Nat) (x1 : Option Nat) : ∀ (h : jj_H) (k : Nat), fC_J41_add (jj_gk X.1) x0 x1 Q E h k → jj_J X 2 0 [(0, .inr (.inr (.inl x0))), (1, .inr (.inr (.inl x1)))] [] h k := by
  intro h k w
  unfold fC_J41_add at w
  refine jr_aload_n (pc := 0) F (j := 0) dJ41_add_0 rfl ?_
  refine jr_aload_n (pc := 1) F (j := 1) dJ41_add_1 rfl ?_
  obtain ⟨hi9, c1, hk9, w⟩ := w
  refine jr_cV (pc := 2) (As := [_]) (ci := 21) F M (lw_V q1744 q1745 q1746 q169 q1747) dJ41_add_2 hC_J41_offer rfl (Nat.le_of_ble_eq_true rfl) (Nat.le_of_ble_eq_true rfl) (Nat.le_of_ble_eq_true rfl) rfl hi9 hk9 (cC_J41_offer J w) (fun v9 h3 q9 => ?_) (fun E9 q9 h9 w9 => jr_out F M O (hE _ _ _ w9))
  obtain ⟨r2, rfl, w⟩ := q9
  exact jr_zret (pc := 5) F M dJ41_add_5 w.1 (hQ _ _ w.2)

theorem cC_J41_add {G : jj_G} {l : Launch} (J : jx_G G l) {x0 : Option Nat} {x1 : Option Nat} {Q : Int → jj_H → Prop} {E : String → Nat → jj_H → Prop} {h : jj_H} {k : Nat} (w : fC_J41_add (jj_gk G) x0 x1 Q E h k) : jj_Ct G l yJ41_add (ws_ yJ41_add cJ41_add 2 (some (.boolean))) 5 149 [.inr (.inr (.inl x0)), .inr (.inr (.inl x1))] h k (jc_i Q) E := by
  refine jj_Ct.of J.1 (by decide +kernel) (Nat.le_of_ble_eq_true rfl) rfl (fun X hG hl F M O hnm => ?_)
  subst hG; subst hl
  exact sC_J41_add F M O J hnm (fun r h q => ⟨r, rfl, q⟩) (fun _ _ _ q => q) _ _ _ _ w
theorem hC_J41_add : yJ41_add.cls = RJ41 ∧ yJ41_add.cls ≠ "java/lang/invoke/MethodHandle" ∧ yJ41_add.cls ≠ "java/lang/invoke/VarHandle" ∧ (parseMethodDescriptor yJ41_add.desc).map (fun d => d.parameters.length) = some 1 := by decide +kernel
/-! J41_init_2(ILjava/util/Comparator;)V -/
def fC_J41_init_2 (gk : Nat → Nat) (x0 : Option Nat) (x1 : Int) (x2 : Option Nat) (Q : jj_H → Prop) (E : String → Nat → jj_H → Prop) (h : jj_H) (k : Nat) : Prop :=
  jp_so x0 ∧ fC_J40_init gk x0 (fun h3 =>
  jj_r x1 ∧ (1 ≤ x1 → (
    jp_nr h3 k 0 x1 (fun a4 h5 k6 =>
    jp_pr h5 x0 21 0 (some a4) (fun h7 =>
    jp_pr h7 x0 21 2 x2 (fun h8 =>
    Q h8))))) ∧
  (¬ 1 ≤ x1 → (
    False))) E h 0
theorem sC_J41_init_2 {X : jj_X} {N : Option jj_AV → jj_H → Prop} {XN : String → Nat → jj_H → Prop} (F : jj_F X RJ41 cJ41_init_2 3) (M : jj_M X (none) 3 60 N XN) (O : jj_no X) (J : jx_G X.1 X.2.2.1) (hi : X.2.2.2.2.2.2.2.2.2.1.name = yJ41_init_2.name) {Q : jj_H → Prop} {E : String → Nat → jj_H → Prop} (hQ : ∀ h, Q h → N none h) (hE : ∀ e q h, E e q h → XN e q h) (x0 : Option Nat) (x1 : Int) (x2 : Option Nat) : ∀ (h : jj_H) (k : Nat), fC_J41_init_2 (jj_gk X.1) x0 x1 x2 Q E h k → jj_J X 3 0 [(0, .inr (.inr (.inl x0))), (1, .inl x1), (2, .inr (.inr (.inl x2)))] [] h k := by
  intro h k w
  unfold fC_J41_init_2 at w
  refine jr_aload_n (pc := 0) F (j := 0) dJ41_init_2_0 rfl ?_
  obtain ⟨hi9, w⟩ := w
  refine jr_cI (pc := 1) (As := []) F M q1706 q1707 q168 q1708 dJ41_init_2_1 rfl hC_J40_init.2 rfl (Nat.le_of_ble_eq_true rfl) (Nat.le_of_ble_eq_true rfl) (Nat.le_of_ble_eq_true rfl) hi9 (Nat.zero_le _) (cC_J40_init J w) (fun v9 h3 q9 => ?_) (fun E9 q9 h9 w9 => jr_out F M O (hE _ _ _ w9))
  obtain ⟨rfl, w⟩ := q9
  refine jr_iload_n (pc := 4) F (j := 1) dJ41_init_2_4 rfl ?_
  refine jr_iconst (pc := 5) F dJ41_init_2_5 ?_
  obtain ⟨hx9, w1, w2⟩ := w
  refine jr_icmp_ge (pc := 6) (tgt := 17) F hx9 ⟨by decide, by decide⟩ dJ41_init_2_6 rfl (fun c9 => ?_) (fun c9 => ?_)
  · have w := w1 c9
    refine jr_aload_n (pc := 17) F (j := 0) dJ41_init_2_17 rfl ?_
    refine jr_iload_n (pc := 18) F (j := 1) dJ41_init_2_18 rfl ?_
    refine jr_newR (pc := 19) F (fun _ => rfl) q1721 (jx_ao0 J) dJ41_init_2_19 w (fun a4 h5 k6 w => ?_)
    refine jr_pr (pc := 22) (ci := 21) (f := 0) F rfl in_J41 tyJ41_ok nmJ41 (Nat.le_of_ble_eq_true rfl) rfl rfl q1723 dJ41_init_2_22 w (fun h7 w => ?_)
    refine jr_aload_n (pc := 25) F (j := 0) dJ41_init_2_25 rfl ?_
    refine jr_aload_n (pc := 26) F (j := 2) dJ41_init_2_26 rfl ?_
    refine jr_prF (pc := 27) (ci := 21) (f := 2) F rfl in_J41 tyJ41_ok nmJ41 (Nat.le_of_ble_eq_true rfl) rfl rfl rfl hi q1726 dJ41_init_2_27 w (fun h8 w => ?_)
    exact jr_vret (pc := 30) F M dJ41_init_2_30 (hQ _ w)
  · have w := w2 c9
    exact (show False from w).elim

theorem cC_J41_init_2 {G : jj_G} {l : Launch} (J : jx_G G l) {x0 : Option Nat} {x1 : Int} {x2 : Option Nat} {Q : jj_H → Prop} {E : String → Nat → jj_H → Prop} {h : jj_H} {k : Nat} (w : fC_J41_init_2 (jj_gk G) x0 x1 x2 Q E h k) : jj_Ct G l yJ41_init_2 (ws_ yJ41_init_2 cJ41_init_2 3 (none)) 3 60 [.inr (.inr (.inl x0)), .inl x1, .inr (.inr (.inl x2))] h k (jc_v Q) E := by
  refine jj_Ct.of J.1 (by decide +kernel) (Nat.le_of_ble_eq_true rfl) rfl (fun X hG hl F M O hnm => ?_)
  subst hG; subst hl
  exact sC_J41_init_2 F M O J hnm (fun h q => ⟨rfl, q⟩) (fun _ _ _ q => q) _ _ _ _ _ w
theorem hC_J41_init_2 : yJ41_init_2.cls = RJ41 ∧ yJ41_init_2.cls ≠ "java/lang/invoke/MethodHandle" ∧ yJ41_init_2.cls ≠ "java/lang/invoke/VarHandle" ∧ (parseMethodDescriptor yJ41_init_2.desc).map (fun d => d.parameters.length) = some 2 := by decide +kernel
/-! J41_init(Ljava/util/Comparator;)V -/
def fC_J41_init (gk : Nat → Nat) (x0 : Option Nat) (x1 : Option Nat) (Q : jj_H → Prop) (E : String → Nat → jj_H → Prop) (h : jj_H) (k : Nat) : Prop :=
  jp_so x0 ∧ ∃ c1, c1 ≤ k ∧ fC_J41_init_2 gk x0 11 x1 (fun h3 =>
  Q h3) E h c1
theorem sC_J41_init {X : jj_X} {N : Option jj_AV → jj_H → Prop} {XN : String → Nat → jj_H → Prop} (F : jj_F X RJ41 cJ41_init 2) (M : jj_M X (none) 4 82 N XN) (O : jj_no X) (J : jx_G X.1 X.2.2.1) (hi : X.2.2.2.2.2.2.2.2.2.1.name = yJ41_init.name) {Q : jj_H → Prop} {E : String → Nat → jj_H → Prop} (hQ : ∀ h, Q h → N none h) (hE : ∀ e q h, E e q h → XN e q h) (x0 : Option Nat) (x1 : Option Nat) : ∀ (h : jj_H) (k : Nat), fC_J41_init (jj_gk X.1) x0 x1 Q E h k → jj_J X 2 0 [(0, .inr (.inr (.inl x0))), (1, .inr (.inr (.inl x1)))] [] h k := by
  intro h k w
  unfold fC_J41_init at w
  refine jr_aload_n (pc := 0) F (j := 0) dJ41_init_0 rfl ?_
  refine jr_bipush (pc := 1) F dJ41_init_1 (by decide +kernel) ?_
  refine jr_aload_n (pc := 3) F (j := 1) dJ41_init_3 rfl ?_
  obtain ⟨hi9, c1, hk9, w⟩ := w
  refine jr_cI (pc := 4) (As := [_, _]) F M q1703 q1704 q169 q1705 dJ41_init_4 rfl hC_J41_init_2.2 rfl (Nat.le_of_ble_eq_true rfl) (Nat.le_of_ble_eq_true rfl) (Nat.le_of_ble_eq_true rfl) hi9 hk9 (cC_J41_init_2 J w) (fun v9 h3 q9 => ?_) (fun E9 q9 h9 w9 => jr_out F M O (hE _ _ _ w9))
  obtain ⟨rfl, w⟩ := q9
  exact jr_vret (pc := 7) F M dJ41_init_7 (hQ _ w)

theorem cC_J41_init {G : jj_G} {l : Launch} (J : jx_G G l) {x0 : Option Nat} {x1 : Option Nat} {Q : jj_H → Prop} {E : String → Nat → jj_H → Prop} {h : jj_H} {k : Nat} (w : fC_J41_init (jj_gk G) x0 x1 Q E h k) : jj_Ct G l yJ41_init (ws_ yJ41_init cJ41_init 2 (none)) 4 82 [.inr (.inr (.inl x0)), .inr (.inr (.inl x1))] h k (jc_v Q) E := by
  refine jj_Ct.of J.1 (by decide +kernel) (Nat.le_of_ble_eq_true rfl) rfl (fun X hG hl F M O hnm => ?_)
  subst hG; subst hl
  exact sC_J41_init F M O J hnm (fun h q => ⟨rfl, q⟩) (fun _ _ _ q => q) _ _ _ _ w
theorem hC_J41_init : yJ41_init.cls = RJ41 ∧ yJ41_init.cls ≠ "java/lang/invoke/MethodHandle" ∧ yJ41_init.cls ≠ "java/lang/invoke/VarHandle" ∧ (parseMethodDescriptor yJ41_init.desc).map (fun d => d.parameters.length) = some 1 := by decide +kernel
/-! J41_siftDownUsingComparator(ILjava/lang/Object;[Ljava/lang/Object;ILjava/util/Comparator;)V -/
def fC_J41_siftDownUsingComparator_j61 (gk : Nat → Nat) (K5 : Int → jj_H → Nat → Prop) (x0 : Int) (x1 : Option Nat) (x2 : Option Nat) (x3 : Int) (x4 : Option Nat) (x5 : Int) (x6 : Int) (x7 : Option Nat) (Q : jj_H → Prop) (E : String → Nat → jj_H → Prop) (h : jj_H) (k : Nat) : Prop :=
  jq_X15_compare x4 x1 x7 (fun r3 h1 k2 =>
  jj_r r3 ∧ (0 < r3 → (
    jp_ro h1 x2 x0 x7 (fun h4 =>
    K5 x6 h4 k2))) ∧
  (¬ 0 < r3 → (
    jp_ro h1 x2 x0 x1 (fun h5 =>
    Q h5)))) h k
def fC_J41_siftDownUsingComparator_l5 (gk : Nat → Nat) (x1 : Option Nat) (x2 : Option Nat) (x3 : Int) (x4 : Option Nat) (x5 : Int) (Q : jj_H → Prop) (E : String → Nat → jj_H → Prop) : Nat → Int → jj_H → Nat → Prop
  | 0, _, _, _ => False
  | n + 1, x0, h, k =>
  jj_r x0 ∧ jj_r x5 ∧ (x5 ≤ x0 → (
    jp_ro h x2 x0 x1 (fun h6 =>
    Q h6))) ∧
  (¬ x5 ≤ x0 → (
    ∀ v7, v7 = (jj_shl x0 1) + 1 →
    jp_rl h x2 0 v7 (fun g8 =>
    ∀ v9, v9 = v7 + 1 →
    jj_r v9 ∧ jj_r x3 ∧ (x3 ≤ v9 → (
      fC_J41_siftDownUsingComparator_j61 gk (fC_J41_siftDownUsingComparator_l5 gk x1 x2 x3 x4 x5 Q E n) x0 x1 x2 x3 x4 x5 v7 g8 Q E h k)) ∧
    (¬ x3 ≤ v9 → (
      jp_rl h x2 0 v9 (fun g10 =>
      jq_X15_compare x4 g8 g10 (fun r13 h11 k12 =>
      jj_r r13 ∧ (r13 ≤ 0 → (
        fC_J41_siftDownUsingComparator_j61 gk (fC_J41_siftDownUsingComparator_l5 gk x1 x2 x3 x4 x5 Q E n) x0 x1 x2 x3 x4 x5 v7 g8 Q E h11 k12)) ∧
      (¬ r13 ≤ 0 → (
        jp_rl h11 x2 0 v9 (fun g14 =>
        fC_J41_siftDownUsingComparator_j61 gk (fC_J41_siftDownUsingComparator_l5 gk x1 x2 x3 x4 x5 Q E n) x0 x1 x2 x3 x4 x5 v9 g14 Q E h11 k12)))) h k))))))
def fC_J41_siftDownUsingComparator (gk : Nat → Nat) (x0 : Int) (x1 : Option Nat) (x2 : Option Nat) (x3 : Int) (x4 : Option Nat) (Q : jj_H → Prop) (E : String → Nat → jj_H → Prop) (h : jj_H) (k : Nat) : Prop :=
  ∀ v15, v15 = jj_ushr x3 1 →
  ∃ n9, fC_J41_siftDownUsingComparator_l5 gk x1 x2 x3 x4 v15 Q E n9 x0 h k
theorem sC_J41_siftDownUsingComparator_j61 {X : jj_X} {N : Option jj_AV → jj_H → Prop} {XN : String → Nat → jj_H → Prop} (F : jj_F X RJ41 cJ41_siftDownUsingComparator 9) (M : jj_M X (none) 2 45 N XN) (O : jj_no X) (J : jx_G X.1 X.2.2.1) (hi : X.2.2.2.2.2.2.2.2.2.1.name = yJ41_siftDownUsingComparator.name) {Q : jj_H → Prop} {E : String → Nat → jj_H → Prop} (hQ : ∀ h, Q h → N none h) (hE : ∀ e q h, E e q h → XN e q h) (x0 : Int) (x1 : Option Nat) (x2 : Option Nat) (x3 : Int) (x4 : Option Nat) (x5 : Int) (x6 : Int) (x7 : Option Nat) {K5 : Int → jj_H → Nat → Prop} (hK5 : ∀ (z0 : Int) (h : jj_H) (k : Nat), K5 z0 h k → jj_J X 9 5 [(0, .inl z0), (1, .inr (.inr (.inl x1))), (2, .inr (.inr (.inl x2))), (3, .inl x3), (4, .inr (.inr (.inl x4))), (5, .inl x5)] [] h k) : ∀ (h : jj_H) (k : Nat), fC_J41_siftDownUsingComparator_j61 (jj_gk X.1) K5 x0 x1 x2 x3 x4 x5 x6 x7 Q E h k → jj_J X 9 61 [(0, .inl x0), (1, .inr (.inr (.inl x1))), (2, .inr (.inr (.inl x2))), (3, .inl x3), (4, .inr (.inr (.inl x4))), (5, .inl x5), (6, .inl x6), (7, .inr (.inr (.inl x7)))] [] h k := by
  intro h k w
  unfold fC_J41_siftDownUsingComparator_j61 at w
  refine jr_aload (pc := 61) F (j := 4) dJ41_siftDownUsingComparator_61 rfl ?_
  refine jr_aload_n (pc := 63) F (j := 1) dJ41_siftDownUsingComparator_63 rfl ?_
  refine jr_aload (pc := 64) F (j := 7) dJ41_siftDownUsingComparator_64 rfl ?_
  refine jr_jFR (pc := 66) (n := 2) (As := [_, _]) (ci := 9) F M (lw_F q1762 q1766 q1768 q185 q1770) (jx_fw J 4 rfl) dJ41_siftDownUsingComparator_66 (by decide +kernel) rfl (Nat.le_of_ble_eq_true rfl) (Nat.le_of_ble_eq_true rfl) (Nat.le_of_ble_eq_true rfl) rfl (cb_X15_compare J (fr := 1) (lo := 23) (Nat.le_of_ble_eq_true rfl) (Nat.le_of_ble_eq_true rfl) _ _ _ _ _ _ w) (fun v9 h1 k2 q9 => ?_)
  obtain ⟨r3, rfl, w⟩ := q9
  obtain ⟨hx9, w1, w2⟩ := w
  refine jr_if_gt (pc := 71) (tgt := 77) F hx9 dJ41_siftDownUsingComparator_71 rfl (fun c9 => ?_) (fun c9 => ?_)
  · have w := w1 c9
    refine jr_aload_n (pc := 77) F (j := 2) dJ41_siftDownUsingComparator_77 rfl ?_
    refine jr_iload_n (pc := 78) F (j := 0) dJ41_siftDownUsingComparator_78 rfl ?_
    refine jr_aload (pc := 79) F (j := 7) dJ41_siftDownUsingComparator_79 rfl ?_
    refine jr_aastO (pc := 81) F dJ41_siftDownUsingComparator_81 w (fun h4 w => ?_)
    refine jr_iload (pc := 82) F (j := 6) dJ41_siftDownUsingComparator_82 rfl ?_
    refine jr_istore_n (pc := 84) F (vs' := [(0, .inl _), (1, .inr (.inr (.inl _))), (2, .inr (.inr (.inl _))), (3, .inl _), (4, .inr (.inr (.inl _))), (5, .inl _), (6, .inl _), (7, .inr (.inr (.inl _)))]) dJ41_siftDownUsingComparator_84 (Nat.le_of_ble_eq_true rfl) rfl ?_
    refine jr_goto (pc := 85) (tgt := 5) F dJ41_siftDownUsingComparator_85 rfl ?_
    refine jj_J.sub [0, 1, 2, 3, 4, 5] rfl ?_
    exact hK5 _ _ _ w
  · have w := w2 c9
    refine jr_goto (pc := 74) (tgt := 88) F dJ41_siftDownUsingComparator_74 rfl ?_
    refine jr_aload_n (pc := 88) F (j := 2) dJ41_siftDownUsingComparator_88 rfl ?_
    refine jr_iload_n (pc := 89) F (j := 0) dJ41_siftDownUsingComparator_89 rfl ?_
    refine jr_aload_n (pc := 90) F (j := 1) dJ41_siftDownUsingComparator_90 rfl ?_
    refine jr_aastO (pc := 91) F dJ41_siftDownUsingComparator_91 w (fun h5 w => ?_)
    exact jr_vret (pc := 92) F M dJ41_siftDownUsingComparator_92 (hQ _ w)

theorem sC_J41_siftDownUsingComparator_l5 {X : jj_X} {N : Option jj_AV → jj_H → Prop} {XN : String → Nat → jj_H → Prop} (F : jj_F X RJ41 cJ41_siftDownUsingComparator 9) (M : jj_M X (none) 2 45 N XN) (O : jj_no X) (J : jx_G X.1 X.2.2.1) (hi : X.2.2.2.2.2.2.2.2.2.1.name = yJ41_siftDownUsingComparator.name) {Q : jj_H → Prop} {E : String → Nat → jj_H → Prop} (hQ : ∀ h, Q h → N none h) (hE : ∀ e q h, E e q h → XN e q h) (x1 : Option Nat) (x2 : Option Nat) (x3 : Int) (x4 : Option Nat) (x5 : Int) : ∀ (n : Nat) (x0 : Int) (h : jj_H) (k : Nat), fC_J41_siftDownUsingComparator_l5 (jj_gk X.1) x1 x2 x3 x4 x5 Q E n x0 h k → jj_J X 9 5 [(0, .inl x0), (1, .inr (.inr (.inl x1))), (2, .inr (.inr (.inl x2))), (3, .inl x3), (4, .inr (.inr (.inl x4))), (5, .inl x5)] [] h k := by
  intro n
  induction n with
  | zero =>
    intro x0 h k w
    exact (show False from w).elim
  | succ n ih =>
    intro x0 h k w
    rw [fC_J41_siftDownUsingComparator_l5] at w
    refine jr_iload_n (pc := 5) F (j := 0) dJ41_siftDownUsingComparator_5 rfl ?_
    refine jr_iload (pc := 6) F (j := 5) dJ41_siftDownUsingComparator_6 rfl ?_
    obtain ⟨hx9, hy9, w1, w2⟩ := w
    refine jr_icmp_ge (pc := 8) (tgt := 88) F hx9 hy9 dJ41_siftDownUsingComparator_8 rfl (fun c9 => ?_) (fun c9 => ?_)
    · have w := w1 c9
      refine jr_aload_n (pc := 88) F (j := 2) dJ41_siftDownUsingComparator_88 rfl ?_
      refine jr_iload_n (pc := 89) F (j := 0) dJ41_siftDownUsingComparator_89 rfl ?_
      refine jr_aload_n (pc := 90) F (j := 1) dJ41_siftDownUsingComparator_90 rfl ?_
      refine jr_aastO (pc := 91) F dJ41_siftDownUsingComparator_91 w (fun h6 w => ?_)
      exact jr_vret (pc := 92) F M dJ41_siftDownUsingComparator_92 (hQ _ w)
    · have w := w2 c9
      refine jr_iload_n (pc := 11) F (j := 0) dJ41_siftDownUsingComparator_11 rfl ?_
      refine jr_iconst (pc := 12) F dJ41_siftDownUsingComparator_12 ?_
      refine jr_ishl (pc := 13) F dJ41_siftDownUsingComparator_13 ?_
      refine jr_iconst (pc := 14) F dJ41_siftDownUsingComparator_14 ?_
      refine jr_iadd (pc := 15) F dJ41_siftDownUsingComparator_15 ?_
      have w := w _ rfl
      refine jr_istore (pc := 16) F (vs' := [(6, .inl _), (0, .inl _), (1, .inr (.inr (.inl _))), (2, .inr (.inr (.inl _))), (3, .inl _), (4, .inr (.inr (.inl _))), (5, .inl _)]) dJ41_siftDownUsingComparator_16 (Nat.le_of_ble_eq_true rfl) rfl ?_
      refine jr_aload_n (pc := 18) F (j := 3) dJ41_siftDownUsingComparator_18 rfl ?_
      refine jr_iload (pc := 19) F (j := 0) dJ41_siftDownUsingComparator_19 rfl ?_
      refine jr_aald (pc := 21) F ⟨4, _, fun _ => rfl⟩ dJ41_siftDownUsingComparator_21 w (fun g8 w => ?_)
      refine jr_astore (pc := 22) F (vs' := [(7, .inr (.inr (.inl _))), (6, .inl _), (0, .inl _), (1, .inr (.inr (.inl _))), (2, .inr (.inr (.inl _))), (3, .inl _), (4, .inr (.inr (.inl _))), (5, .inl _)]) dJ41_siftDownUsingComparator_22 (Nat.le_of_ble_eq_true rfl) rfl ?_
      refine jr_iload (pc := 24) F (j := 1) dJ41_siftDownUsingComparator_24 rfl ?_
      refine jr_iconst (pc := 26) F dJ41_siftDownUsingComparator_26 ?_
      refine jr_iadd (pc := 27) F dJ41_siftDownUsingComparator_27 ?_
      have w := w _ rfl
      refine jr_istore (pc := 28) F (vs' := [(8, .inl _), (7, .inr (.inr (.inl _))), (6, .inl _), (0, .inl _), (1, .inr (.inr (.inl _))), (2, .inr (.inr (.inl _))), (3, .inl _), (4, .inr (.inr (.inl _))), (5, .inl _)]) dJ41_siftDownUsingComparator_28 (Nat.le_of_ble_eq_true rfl) rfl ?_
      refine jr_iload (pc := 30) F (j := 0) dJ41_siftDownUsingComparator_30 rfl ?_
      refine jr_iload_n (pc := 32) F (j := 6) dJ41_siftDownUsingComparator_32 rfl ?_
      obtain ⟨hx9, hy9, w1, w2⟩ := w
      refine jr_icmp_ge (pc := 33) (tgt := 61) F hx9 hy9 dJ41_siftDownUsingComparator_33 rfl (fun c9 => ?_) (fun c9 => ?_)
      · have w := w1 c9
        refine jj_J.sub [3, 4, 5, 6, 7, 8, 2, 1] rfl ?_
        exact sC_J41_siftDownUsingComparator_j61 F M O J hi hQ hE _ _ _ _ _ _ _ _ ih _ _ w
      · have w := w2 c9
        refine jr_aload (pc := 36) F (j := 7) dJ41_siftDownUsingComparator_36 rfl ?_
        refine jr_aload (pc := 38) F (j := 1) dJ41_siftDownUsingComparator_38 rfl ?_
        refine jr_aload_n (pc := 40) F (j := 5) dJ41_siftDownUsingComparator_40 rfl ?_
        refine jr_iload (pc := 41) F (j := 0) dJ41_siftDownUsingComparator_41 rfl ?_
        refine jr_aald (pc := 43) F ⟨4, _, fun _ => rfl⟩ dJ41_siftDownUsingComparator_43 w (fun g10 w => ?_)
        refine jr_jFR (pc := 44) (n := 2) (As := [_, _]) (ci := 9) F M (lw_F q1762 q1766 q1768 q185 q1770) (jx_fw J 4 rfl) dJ41_siftDownUsingComparator_44 (by decide +kernel) rfl (Nat.le_of_ble_eq_true rfl) (Nat.le_of_ble_eq_true rfl) (Nat.le_of_ble_eq_true rfl) rfl (cb_X15_compare J (fr := 1) (lo := 23) (Nat.le_of_ble_eq_true rfl) (Nat.le_of_ble_eq_true rfl) _ _ _ _ _ _ w) (fun v9 h11 k12 q9 => ?_)
        obtain ⟨r13, rfl, w⟩ := q9
        obtain ⟨hx9, w1, w2⟩ := w
        refine jr_if_le (pc := 49) (tgt := 61) F hx9 dJ41_siftDownUsingComparator_49 rfl (fun c9 => ?_) (fun c9 => ?_)
        · have w := w1 c9
          refine jj_J.sub [3, 4, 5, 6, 7, 8, 2, 1] rfl ?_
          exact sC_J41_siftDownUsingComparator_j61 F M O J hi hQ hE _ _ _ _ _ _ _ _ ih _ _ w
        · have w := w2 c9
          refine jr_aload_n (pc := 52) F (j := 5) dJ41_siftDownUsingComparator_52 rfl ?_
          refine jr_iload (pc := 53) F (j := 0) dJ41_siftDownUsingComparator_53 rfl ?_
          refine jr_dup (pc := 55) F dJ41_siftDownUsingComparator_55 rfl ?_
          refine jr_istore (pc := 56) F (vs' := [(6, .inl _), (8, .inl _), (7, .inr (.inr (.inl _))), (0, .inl _), (1, .inr (.inr (.inl _))), (2, .inr (.inr (.inl _))), (3, .inl _), (4, .inr (.inr (.inl _))), (5, .inl _)]) dJ41_siftDownUsingComparator_56 (Nat.le_of_ble_eq_true rfl) rfl ?_
          refine jr_aald (pc := 58) F ⟨4, _, fun _ => rfl⟩ dJ41_siftDownUsingComparator_58 w (fun g14 w => ?_)
          refine jr_astore (pc := 59) F (vs' := [(7, .inr (.inr (.inl _))), (6, .inl _), (8, .inl _), (0, .inl _), (1, .inr (.inr (.inl _))), (2, .inr (.inr (.inl _))), (3, .inl _), (4, .inr (.inr (.inl _))), (5, .inl _)]) dJ41_siftDownUsingComparator_59 (Nat.le_of_ble_eq_true rfl) rfl ?_
          refine jj_J.sub [3, 4, 5, 6, 7, 8, 1, 0] rfl ?_
          exact sC_J41_siftDownUsingComparator_j61 F M O J hi hQ hE _ _ _ _ _ _ _ _ ih _ _ w

theorem sC_J41_siftDownUsingComparator {X : jj_X} {N : Option jj_AV → jj_H → Prop} {XN : String → Nat → jj_H → Prop} (F : jj_F X RJ41 cJ41_siftDownUsingComparator 9) (M : jj_M X (none) 2 45 N XN) (O : jj_no X) (J : jx_G X.1 X.2.2.1) (hi : X.2.2.2.2.2.2.2.2.2.1.name = yJ41_siftDownUsingComparator.name) {Q : jj_H → Prop} {E : String → Nat → jj_H → Prop} (hQ : ∀ h, Q h → N none h) (hE : ∀ e q h, E e q h → XN e q h) (x0 : Int) (x1 : Option Nat) (x2 : Option Nat) (x3 : Int) (x4 : Option Nat) : ∀ (h : jj_H) (k : Nat), fC_J41_siftDownUsingComparator (jj_gk X.1) x0 x1 x2 x3 x4 Q E h k → jj_J X 9 0 [(0, .inl x0), (1, .inr (.inr (.inl x1))), (2, .inr (.inr (.inl x2))), (3, .inl x3), (4, .inr (.inr (.inl x4)))] [] h k := by
  intro h k w
  unfold fC_J41_siftDownUsingComparator at w
  refine jr_iload_n (pc := 0) F (j := 3) dJ41_siftDownUsingComparator_0 rfl ?_
  refine jr_iconst (pc := 1) F dJ41_siftDownUsingComparator_1 ?_
  refine jr_iushr (pc := 2) F dJ41_siftDownUsingComparator_2 ?_
  have w := w _ rfl
  refine jr_istore (pc := 3) F (vs' := [(5, .inl _), (0, .inl _), (1, .inr (.inr (.inl _))), (2, .inr (.inr (.inl _))), (3, .inl _), (4, .inr (.inr (.inl _)))]) dJ41_siftDownUsingComparator_3 (Nat.le_of_ble_eq_true rfl) rfl ?_
  refine jj_J.sub [1, 2, 3, 4, 5, 0] rfl ?_
  obtain ⟨n9, w⟩ := w
  exact sC_J41_siftDownUsingComparator_l5 F M O J hi hQ hE _ _ _ _ _ n9 _ _ _ w

theorem cC_J41_siftDownUsingComparator {G : jj_G} {l : Launch} (J : jx_G G l) {x0 : Int} {x1 : Option Nat} {x2 : Option Nat} {x3 : Int} {x4 : Option Nat} {Q : jj_H → Prop} {E : String → Nat → jj_H → Prop} {h : jj_H} {k : Nat} (w : fC_J41_siftDownUsingComparator (jj_gk G) x0 x1 x2 x3 x4 Q E h k) : jj_Ct G l yJ41_siftDownUsingComparator (ws_ yJ41_siftDownUsingComparator cJ41_siftDownUsingComparator 9 (none)) 2 45 [.inl x0, .inr (.inr (.inl x1)), .inr (.inr (.inl x2)), .inl x3, .inr (.inr (.inl x4))] h k (jc_v Q) E := by
  refine jj_Ct.of J.1 (by decide +kernel) (Nat.le_of_ble_eq_true rfl) rfl (fun X hG hl F M O hnm => ?_)
  subst hG; subst hl
  exact sC_J41_siftDownUsingComparator F M O J hnm (fun h q => ⟨rfl, q⟩) (fun _ _ _ q => q) _ _ _ _ _ _ _ w
theorem hC_J41_siftDownUsingComparator : yJ41_siftDownUsingComparator.cls = RJ41 ∧ yJ41_siftDownUsingComparator.cls ≠ "java/lang/invoke/MethodHandle" ∧ yJ41_siftDownUsingComparator.cls ≠ "java/lang/invoke/VarHandle" ∧ (parseMethodDescriptor yJ41_siftDownUsingComparator.desc).map (fun d => d.parameters.length) = some 5 := by decide +kernel
/-! J41_poll()Ljava/lang/Object; -/
def fC_J41_poll (gk : Nat → Nat) (x0 : Option Nat) (Q : Option Nat → jj_H → Prop) (E : String → Nat → jj_H → Prop) (h : jj_H) (k : Nat) : Prop :=
  jp_gr h x0 21 0 (fun g1 =>
  jp_rl h g1 0 0 (fun g2 =>
  (g2 = none → (
    Q g2 h)) ∧
  (¬ g2 = none → (
    jp_gi h x0 21 3 (fun g3 =>
    jp_pi h x0 21 3 (g3 + 1) (fun h4 =>
    jp_gi h4 x0 21 1 (fun g5 =>
    jp_pi h4 x0 21 1 (g5 - 1) (fun h6 =>
    ∀ v7, v7 = g5 - 1 →
    jp_rl h6 g1 0 (g5 - 1) (fun g8 =>
    jp_ro h6 g1 v7 none (fun h9 =>
    jj_r v7 ∧ (v7 ≤ 0 → (
      Q g2 h9)) ∧
    (¬ v7 ≤ 0 → (
      jp_gr h9 x0 21 2 (fun g10 =>
      (¬ g10 = none → (
        fC_J41_siftDownUsingComparator gk 0 g8 g1 v7 g10 (fun h13 =>
        Q g2 h13) E h9 0)) ∧
      (g10 = none → (
        False)))))))))))))))
theorem sC_J41_poll {X : jj_X} {N : Option jj_AV → jj_H → Prop} {XN : String → Nat → jj_H → Prop} (F : jj_F X RJ41 cJ41_poll 6) (M : jj_M X (some ((.object "java/lang/Object"))) 3 73 N XN) (O : jj_no X) (J : jx_G X.1 X.2.2.1) (hi : X.2.2.2.2.2.2.2.2.2.1.name = yJ41_poll.name) {Q : Option Nat → jj_H → Prop} {E : String → Nat → jj_H → Prop} (hQ : ∀ r h, Q r h → N (some (.inr (.inr (.inl r)))) h) (hE : ∀ e q h, E e q h → XN e q h) (x0 : Option Nat) : ∀ (h : jj_H) (k : Nat), fC_J41_poll (jj_gk X.1) x0 Q E h k → jj_J X 6 0 [(0, .inr (.inr (.inl x0)))] [] h k := by
  intro h k w
  unfold fC_J41_poll at w
  refine jr_aload_n (pc := 0) F (j := 0) dJ41_poll_0 rfl ?_
  refine jr_gr (pc := 1) (ci := 21) (f := 0) F rfl in_J41 (Nat.le_of_ble_eq_true rfl) q1723 dJ41_poll_1 w (fun g1 w => ?_)
  refine jr_dup (pc := 4) F dJ41_poll_4 rfl ?_
  refine jr_astore_n (pc := 5) F (vs' := [(1, .inr (.inr (.inl _))), (0, .inr (.inr (.inl _)))]) dJ41_poll_5 (Nat.le_of_ble_eq_true rfl) rfl ?_
  refine jr_iconst (pc := 6) F dJ41_poll_6 ?_
  refine jr_aald (pc := 7) F ⟨4, _, fun _ => rfl⟩ dJ41_poll_7 w (fun g2 w => ?_)
  refine jr_dup (pc := 8) F dJ41_poll_8 rfl ?_
  refine jr_astore_n (pc := 9) F (vs' := [(2, .inr (.inr (.inl _))), (1, .inr (.inr (.inl _))), (0, .inr (.inr (.inl _)))]) dJ41_poll_9 (Nat.le_of_ble_eq_true rfl) rfl ?_
  obtain ⟨w1, w2⟩ := w
  refine jr_ifnull (pc := 10) (tgt := 79) F dJ41_poll_10 rfl (fun c9 => ?_) (fun c9 => ?_)
  · have w := w1 c9
    refine jr_aload_n (pc := 79) F (j := 0) dJ41_poll_79 rfl ?_
    exact jr_aret (pc := 80) F M (Or.inl ⟨_, rfl⟩) dJ41_poll_80 (hQ _ _ w)
  · have w := w2 c9
    refine jr_aload_n (pc := 13) F (j := 2) dJ41_poll_13 rfl ?_
    refine jr_dup (pc := 14) F dJ41_poll_14 rfl ?_
    refine jr_gi (pc := 15) (ci := 21) (f := 3) F rfl in_J41 (Nat.le_of_ble_eq_true rfl) q1728 dJ41_poll_15 w (fun g3 w => ?_)
    refine jr_iconst (pc := 18) F dJ41_poll_18 ?_
    refine jr_iadd (pc := 19) F dJ41_poll_19 ?_
    refine jr_pi (pc := 20) (ci := 21) (f := 3) F rfl in_J41 tyJ41_ok nmJ41 (Nat.le_of_ble_eq_true rfl) rfl rfl q1728 dJ41_poll_20 w (fun h4 w => ?_)
    refine jr_aload_n (pc := 23) F (j := 1) dJ41_poll_23 rfl ?_
    refine jr_aload_n (pc := 24) F (j := 2) dJ41_poll_24 rfl ?_
    refine jr_dup (pc := 25) F dJ41_poll_25 rfl ?_
    refine jr_gi (pc := 26) (ci := 21) (f := 1) F rfl in_J41 (Nat.le_of_ble_eq_true rfl) q1725 dJ41_poll_26 w (fun g5 w => ?_)
    refine jr_iconst (pc := 29) F dJ41_poll_29 ?_
    refine jr_isub (pc := 30) F dJ41_poll_30 ?_
    refine jr_dup_x1 (pc := 31) F dJ41_poll_31 rfl rfl ?_
    refine jr_pi (pc := 32) (ci := 21) (f := 1) F rfl in_J41 tyJ41_ok nmJ41 (Nat.le_of_ble_eq_true rfl) rfl rfl q1725 dJ41_poll_32 w (fun h6 w => ?_)
    refine jr_dup (pc := 35) F dJ41_poll_35 rfl ?_
    have w := w _ rfl
    refine jr_istore_n (pc := 36) F (vs' := [(3, .inl _), (2, .inr (.inr (.inl _))), (1, .inr (.inr (.inl _))), (0, .inr (.inr (.inl _)))]) dJ41_poll_36 (Nat.le_of_ble_eq_true rfl) rfl ?_
    refine jr_aald (pc := 37) F ⟨4, _, fun _ => rfl⟩ dJ41_poll_37 w (fun g8 w => ?_)
    refine jr_astore (pc := 38) F (vs' := [(4, .inr (.inr (.inl _))), (3, .inl _), (2, .inr (.inr (.inl _))), (1, .inr (.inr (.inl _))), (0, .inr (.inr (.inl _)))]) dJ41_poll_38 (Nat.le_of_ble_eq_true rfl) rfl ?_
    refine jr_aload_n (pc := 40) F (j := 3) dJ41_poll_40 rfl ?_
    refine jr_iload_n (pc := 41) F (j := 1) dJ41_poll_41 rfl ?_
    refine jr_null (pc := 42) F dJ41_poll_42 ?_
    refine jr_aastO (pc := 43) F dJ41_poll_43 w (fun h9 w => ?_)
    refine jr_iload_n (pc := 44) F (j := 1) dJ41_poll_44 rfl ?_
    obtain ⟨hx9, w1, w2⟩ := w
    refine jr_if_le (pc := 45) (tgt := 79) F hx9 dJ41_poll_45 rfl (fun c9 => ?_) (fun c9 => ?_)
    · have w := w1 c9
      refine jr_aload_n (pc := 79) F (j := 2) dJ41_poll_79 rfl ?_
      exact jr_aret (pc := 80) F M (Or.inl ⟨_, rfl⟩) dJ41_poll_80 (hQ _ _ w)
    · have w := w2 c9
      refine jr_aload_n (pc := 48) F (j := 4) dJ41_poll_48 rfl ?_
      refine jr_gr (pc := 49) (ci := 21) (f := 2) F rfl in_J41 (Nat.le_of_ble_eq_true rfl) q1726 dJ41_poll_49 w (fun g10 w => ?_)
      refine jr_dup (pc := 52) F dJ41_poll_52 rfl ?_
      refine jr_astore (pc := 53) F (vs' := [(5, .inr (.inr (.inl _))), (4, .inr (.inr (.inl _))), (3, .inl _), (2, .inr (.inr (.inl _))), (1, .inr (.inr (.inl _))), (0, .inr (.inr (.inl _)))]) dJ41_poll_53 (Nat.le_of_ble_eq_true rfl) rfl ?_
      obtain ⟨w1, w2⟩ := w
      refine jr_ifnonnull (pc := 55) (tgt := 69) F dJ41_poll_55 rfl (fun c9 => ?_) (fun c9 => ?_)
      · have w := w1 c9
        refine jr_iconst (pc := 69) F dJ41_poll_69 ?_
        refine jr_aload (pc := 70) F (j := 1) dJ41_poll_70 rfl ?_
        refine jr_aload_n (pc := 72) F (j := 4) dJ41_poll_72 rfl ?_
        refine jr_iload_n (pc := 73) F (j := 2) dJ41_poll_73 rfl ?_
        refine jr_aload (pc := 74) F (j := 0) dJ41_poll_74 rfl ?_
        refine jr_callS (pc := 76) (As := [_, _, _, _, _]) F M (lw_S q1821 q1822 q169 q1823) dJ41_poll_76 hC_J41_siftDownUsingComparator.2 rfl (Nat.le_of_ble_eq_true rfl) (Nat.le_of_ble_eq_true rfl) (Nat.le_of_ble_eq_true rfl) (Nat.zero_le _) (cC_J41_siftDownUsingComparator J w) (fun v9 h13 q9 => ?_) (fun E9 q9 h9 w9 => jr_out F M O (hE _ _ _ w9))
        obtain ⟨rfl, w⟩ := q9
        refine jr_aload_n (pc := 79) F (j := 3) dJ41_poll_79 rfl ?_
        exact jr_aret (pc := 80) F M (Or.inl ⟨_, rfl⟩) dJ41_poll_80 (hQ _ _ w)
      · have w := w2 c9
        refine jr_iconst (pc := 58) F dJ41_poll_58 ?_
        refine jr_aload (pc := 59) F (j := 1) dJ41_poll_59 rfl ?_
        refine jr_aload_n (pc := 61) F (j := 4) dJ41_poll_61 rfl ?_
        refine jr_iload_n (pc := 62) F (j := 2) dJ41_poll_62 rfl ?_
        exact (show False from w).elim

theorem cC_J41_poll {G : jj_G} {l : Launch} (J : jx_G G l) {x0 : Option Nat} {Q : Option Nat → jj_H → Prop} {E : String → Nat → jj_H → Prop} {h : jj_H} {k : Nat} (w : fC_J41_poll (jj_gk G) x0 Q E h k) : jj_Ct G l yJ41_poll (ws_ yJ41_poll cJ41_poll 6 (some ((.object "java/lang/Object")))) 3 73 [.inr (.inr (.inl x0))] h k (jc_r Q) E := by
  refine jj_Ct.of J.1 (by decide +kernel) (Nat.le_of_ble_eq_true rfl) rfl (fun X hG hl F M O hnm => ?_)
  subst hG; subst hl
  exact sC_J41_poll F M O J hnm (fun r h q => ⟨r, rfl, q⟩) (fun _ _ _ q => q) _ _ _ w
theorem hC_J41_poll : yJ41_poll.cls = RJ41 ∧ yJ41_poll.cls ≠ "java/lang/invoke/MethodHandle" ∧ yJ41_poll.cls ≠ "java/lang/invoke/VarHandle" ∧ (parseMethodDescriptor yJ41_poll.desc).map (fun d => d.parameters.length) = some 0 := by decide +kernel
