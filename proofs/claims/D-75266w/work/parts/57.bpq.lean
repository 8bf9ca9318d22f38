/-! PriorityQueue: sifting -/
noncomputable def ja_ky (h : jj_H) (cmp g : Nat) : Int × Int := @dite _ (∃ q, jj_gkey h cmp g q) (Classical.propDecidable _) (fun hq => Classical.choose hq) (fun _ => (0, 0))
theorem ja_ky_spec {h : jj_H} {cmp g : Nat} (hq : ∃ q, jj_gkey h cmp g q) : jj_gkey h cmp g (ja_ky h cmp g) := by
  unfold ja_ky
  rw [dif_pos hq]
  exact Classical.choose_spec hq
/-- a heap, by keys -/
def ja_heap (κ : Nat → Int × Int) (L : List Nat) : Prop := ∀ i : Nat, 0 < i → i < L.length → ¬ jj_klt (κ (L.getD i 0)) (κ (L.getD ((i - 1) / 2) 0))
theorem jj_ushrN {m : Nat} (s : Int) (c : Nat) (hs : (((Int32.ofInt s).toUInt32 &&& Int32.toUInt32 31).toBitVec % 32).toNat = c) (h : m < 2147483648) : jj_ushr (m : Int) s = ((m / 2 ^ c : Nat) : Int) := by
  have e : Int32.ofInt (m : Int) = nI m := Int32.ofInt_eq_ofNat
  have hle : m / 2 ^ c ≤ m := Nat.div_le_self _ _
  unfold jj_ushr
  have hz : ∀ z : Nat, z ≤ m → (Int32.ofInt (z : Int)).toInt = (z : Int) := fun z hz => jj_ti ⟨by omega, by omega⟩
  rw [e, pk_ushrN (by omega) _ c hs]
  have e2 : nI (m / 2 ^ c) = Int32.ofInt ((m / 2 ^ c : Nat) : Int) := Int32.ofInt_eq_ofNat.symm
  rw [e2]
  exact hz _ hle
theorem jj_ushr1 {m : Nat} (h : m < 2147483648) : jj_ushr (m : Int) 1 = ((m / 2 : Nat) : Int) := jj_ushrN 1 1 (by decide) h
theorem jj_swap_perm {l : List Nat} {i j : Nat} (hi : i < l.length) (hj : j < l.length) : ((l.set i (l.getD j 0)).set j (l.getD i 0)).Perm l := by
  have e1 : l.getD j 0 = l[j] := by rw [List.getD_eq_getElem?_getD, List.getElem?_eq_getElem hj]; rfl
  have e2 : l.getD i 0 = l[i] := by rw [List.getD_eq_getElem?_getD, List.getElem?_eq_getElem hi]; rfl
  rw [e1, e2]
  exact List.set_set_perm hi hj
theorem jj_getD_set {l : List Nat} {i j x : Nat} (hi : i < l.length) : (l.set i x).getD j 0 = if j = i then x else l.getD j 0 := by
  rw [List.getD_eq_getElem?_getD, List.getElem?_set]
  by_cases e : i = j
  · rw [if_pos e, if_pos (by omega), if_pos e.symm]
    rfl
  · rw [if_neg e, if_neg (fun e2 => e e2.symm), List.getD_eq_getElem?_getD]
theorem jj_getD_some {l : List Nat} {i : Nat} (hi : i < l.length) : l[i]? = some (l.getD i 0) := by
  rw [List.getD_eq_getElem?_getD, List.getElem?_eq_getElem hi]
  rfl
/-- upwards: all is well but for k and its parent -/
def ja_hup (κ : Nat → Int × Int) (L : List Nat) (k : Nat) : Prop := (∀ i : Nat, 0 < i → i < L.length → i ≠ k → ¬ jj_klt (κ (L.getD i 0)) (κ (L.getD ((i - 1) / 2) 0))) ∧ ∀ i : Nat, 0 < k → 0 < i → i < L.length → (i - 1) / 2 = k → ¬ jj_klt (κ (L.getD i 0)) (κ (L.getD ((k - 1) / 2) 0))
theorem ja_hup_step {κ : Nat → Int × Int} {L : List Nat} {k : Nat} (hk : 0 < k) (hkl : k < L.length) (hH : ja_hup κ L k) (hlt : jj_klt (κ (L.getD k 0)) (κ (L.getD ((k - 1) / 2) 0))) : ja_hup κ ((L.set k (L.getD ((k - 1) / 2) 0)).set ((k - 1) / 2) (L.getD k 0)) ((k - 1) / 2) := by
  have hp : (k - 1) / 2 < k := by omega
  have hpl : (k - 1) / 2 < (L.set k (L.getD ((k - 1) / 2) 0)).length := by rw [List.length_set]; omega
  have g : ∀ i, ((L.set k (L.getD ((k - 1) / 2) 0)).set ((k - 1) / 2) (L.getD k 0)).getD i 0 = if i = (k - 1) / 2 then L.getD k 0 else if i = k then L.getD ((k - 1) / 2) 0 else L.getD i 0 := fun i => by
    rw [jj_getD_set hpl, jj_getD_set hkl]
  refine ⟨fun i i0 i1 i2 => ?_, fun i k0 i0 i1 i2 => ?_⟩
  · rw [List.length_set, List.length_set] at i1
    rw [g i, g ((i - 1) / 2), if_neg i2]
    by_cases c : i = k
    · rw [if_pos c, c, if_pos rfl]
      exact jj_klt_as hlt
    · rw [if_neg c]
      by_cases c2 : (i - 1) / 2 = (k - 1) / 2
      · rw [if_pos c2]
        have := hH.1 i i0 i1 c
        rw [c2] at this
        exact fun h => this (jj_klt_tr h hlt)
      · rw [if_neg c2]
        by_cases c3 : (i - 1) / 2 = k
        · rw [if_pos c3]
          exact hH.2 i hk i0 i1 c3
        · rw [if_neg c3]
          exact hH.1 i i0 i1 c
  · rw [List.length_set, List.length_set] at i1
    have hpp : ((k - 1) / 2 - 1) / 2 ≠ (k - 1) / 2 := by omega
    have hppk : ((k - 1) / 2 - 1) / 2 ≠ k := by omega
    have hu := hH.1 ((k - 1) / 2) k0 (by omega) (by omega)
    rw [g i, g (((k - 1) / 2 - 1) / 2), if_neg hpp, if_neg hppk, if_neg (by omega)]
    by_cases c : i = k
    · rw [if_pos c]
      exact hu
    · rw [if_neg c]
      have := hH.1 i i0 i1 c
      rw [i2] at this
      exact jj_nlt_tr this hu
theorem ja_hup_end {κ : Nat → Int × Int} {L : List Nat} {k : Nat} (hH : ja_hup κ L k) (hge : k = 0 ∨ ¬ jj_klt (κ (L.getD k 0)) (κ (L.getD ((k - 1) / 2) 0))) : ja_heap κ L := by
  intro i i0 i1
  by_cases c : i = k
  · rcases hge with h | h
    · omega
    · rw [c]; exact h
  · exact hH.1 i i0 i1 c
/-- downwards: all is well but for k and its children -/
def ja_hdn (κ : Nat → Int × Int) (L : List Nat) (k : Nat) : Prop := (∀ i : Nat, 0 < i → i < L.length → (i - 1) / 2 ≠ k → ¬ jj_klt (κ (L.getD i 0)) (κ (L.getD ((i - 1) / 2) 0))) ∧ ∀ i : Nat, 0 < k → 0 < i → i < L.length → (i - 1) / 2 = k → ¬ jj_klt (κ (L.getD i 0)) (κ (L.getD ((k - 1) / 2) 0))
theorem ja_hdn_step {κ : Nat → Int × Int} {L : List Nat} {k c : Nat} (hc0 : 0 < c) (hcl : c < L.length) (hck : (c - 1) / 2 = k) (hH : ja_hdn κ L k) (hlt : jj_klt (κ (L.getD c 0)) (κ (L.getD k 0))) (hsib : ∀ i, 0 < i → i < L.length → (i - 1) / 2 = k → ¬ jj_klt (κ (L.getD i 0)) (κ (L.getD c 0))) : ja_hdn κ ((L.set k (L.getD c 0)).set c (L.getD k 0)) c := by
  have hkc : k < c := by omega
  have hkl : k < L.length := by omega
  have hcl' : c < (L.set k (L.getD c 0)).length := by rw [List.length_set]; exact hcl
  have g : ∀ i, ((L.set k (L.getD c 0)).set c (L.getD k 0)).getD i 0 = if i = c then L.getD k 0 else if i = k then L.getD c 0 else L.getD i 0 := fun i => by
    rw [jj_getD_set hcl', jj_getD_set hkl]
  refine ⟨fun i i0 i1 i2 => ?_, fun i k0 i0 i1 i2 => ?_⟩
  · rw [List.length_set, List.length_set] at i1
    rw [g i, g ((i - 1) / 2), if_neg i2]
    by_cases c1 : i = c
    · rw [if_pos c1, c1, if_pos hck]
      exact jj_klt_as hlt
    · rw [if_neg c1]
      by_cases c2 : (i - 1) / 2 = k
      · rw [if_pos c2]
        by_cases c3 : i = k
        · omega
        · rw [if_neg c3]
          exact hsib i i0 i1 c2
      · rw [if_neg c2]
        by_cases c3 : i = k
        · rw [if_pos c3, c3]
          have := hH.2 c (by omega) hc0 hcl hck
          exact this
        · rw [if_neg c3]
          exact hH.1 i i0 i1 c2
  · rw [List.length_set, List.length_set] at i1
    rw [g i, g ((c - 1) / 2), if_neg (by omega), if_neg (by omega), hck, if_neg (by omega), if_pos rfl]
    have := hH.1 i i0 i1 (by omega)
    rw [i2] at this
    exact this
theorem ja_hdn_end {κ : Nat → Int × Int} {L : List Nat} {k : Nat} (hH : ja_hdn κ L k) (hge : ∀ i, 0 < i → i < L.length → (i - 1) / 2 = k → ¬ jj_klt (κ (L.getD i 0)) (κ (L.getD k 0))) : ja_heap κ L := by
  intro i i0 i1
  by_cases c : (i - 1) / 2 = k
  · rw [c]; exact hge i i0 i1 c
  · exact hH.1 i i0 i1 c
section PQ1
variable {gk : Nat → Nat} {hb : jj_H} {cmp d cap x : Nat} {f0 : Int → Option Nat} {κ : Nat → Int × Int} {Q : jj_H → Prop} {E : String → Nat → jj_H → Prop}
theorem ja_gkd (hd : hb d = some (ja_ra cap f0)) {g : Nat} {p : Int × Int} (hp : jj_gkey hb cmp g p) (f : Int → Option Nat) : jj_gkey (jj_set hb d (ja_ra cap f)) cmp g p := hp.keep fun q z h1 _ h3 => (jj_set_ne _ _ (fun e => by
    rw [e, hd] at h1
    exact h3 _ _ _ (Option.some.inj h1).symm)).trans h1
theorem pJ_up (hd : hb d = some (ja_ra cap f0)) (hcap : cap < 100000) : ∀ (n k : Nat) (L : List Nat) (f : Int → Option Nat) (kk : Nat), k < n → k < L.length → L.length ≤ cap → (∀ j : Nat, j < cap → j ≠ k → f j = L[j]?) → (∀ g ∈ L, jj_gkey hb cmp g (κ g)) → L.getD k 0 = x → ja_hup κ L k → (∀ L' f', L'.Perm L → ja_heap κ L' → (∀ j : Nat, j < cap → f' j = L'[j]?) → Q (jj_set hb d (ja_ra cap f'))) → fC_J41_siftUpUsingComparator_l0 gk (some x) (some d) (some cmp) Q E n (k : Int) (jj_set hb d (ja_ra cap f)) kk := by
  intro n
  induction n with
  | zero => intro k L f kk hn; omega
  | succ n ih =>
    intro k L f kk hn hkl hlc hf hg hx hH q
    have hxm : x ∈ L := by rw [← hx]; exact List.mem_of_getElem? (jj_getD_some hkl)
    have hxk := ja_gkd hd (hg x hxm) f
    have hset : ∀ j : Nat, j < cap → (if (j : Int) = (k : Int) then some x else f j) = L[j]? := fun j hj => by
      by_cases e : j = k
      · rw [if_pos (by omega), e, jj_getD_some hkl, hx]
      · rw [if_neg (by omega)]
        exact hf j hj e
    rw [fC_J41_siftUpUsingComparator_l0]
    refine ⟨⟨by omega, by omega⟩, fun c => ⟨d, cap, f, rfl, jj_set_self _ _ _, by omega, by omega, hxk.el, ?_⟩, fun c v hv => ?_⟩
    · rw [jj_set_set]
      exact q L _ (List.Perm.refl _) (ja_hup_end hH (Or.inl (by omega))) hset
    · have hv2 : v = (((k - 1) / 2 : Nat) : Int) := by
        rw [hv, show ((k : Int) - 1) = ((k - 1 : Nat) : Int) by omega, jj_ushr1 (by omega)]
      subst hv2
      have hp : (k - 1) / 2 < k := by omega
      have hpl : (k - 1) / 2 < L.length := by omega
      have hem : L.getD ((k - 1) / 2) 0 ∈ L := List.mem_of_getElem? (jj_getD_some hpl)
      have hfe : f (((k - 1) / 2 : Nat) : Int) = some (L.getD ((k - 1) / 2) 0) := by rw [hf _ (by omega) (by omega), jj_getD_some hpl]
      have hek := ja_gkd hd (hg _ hem) f
      refine ⟨d, cap, f, rfl, jj_set_self _ _ _, by omega, by omega, ?_⟩
      rw [hfe]
      refine ⟨cmp, x, _, _, _, rfl, rfl, rfl, hxk, hek, ?_⟩
      refine ⟨?_, fun c2 => ⟨d, cap, f, rfl, jj_set_self _ _ _, by omega, by omega, hek.el, ?_⟩, fun c2 => ⟨d, cap, f, rfl, jj_set_self _ _ _, by omega, by omega, hxk.el, ?_⟩⟩
      · obtain ⟨-, -, -, -, -, -, -, -, -, -, -, -, -, -, -, -, -, g1, g2, g3, g4⟩ := hxk
        obtain ⟨-, -, -, -, -, -, -, -, -, -, -, -, -, -, -, -, -, g5, g6, g7, g8⟩ := hek
        unfold ja_cmp
        split <;> exact ⟨by omega, by omega⟩
      · rw [jj_set_set]
        have hlt : jj_klt (κ (L.getD k 0)) (κ (L.getD ((k - 1) / 2) 0)) := by rw [hx]; exact ja_cmp_lt.mp c2
        have hperm := jj_swap_perm hkl hpl
        have hpl' : (k - 1) / 2 < (L.set k (L.getD ((k - 1) / 2) 0)).length := by rw [List.length_set]; omega
        refine ih ((k - 1) / 2) ((L.set k (L.getD ((k - 1) / 2) 0)).set ((k - 1) / 2) (L.getD k 0)) _ _ (by omega) (by rw [List.length_set, List.length_set]; omega) (by rw [List.length_set, List.length_set]; omega) (fun j hj hne => ?_) (fun g hgm => hg g (hperm.mem_iff.mp hgm)) ?_ (ja_hup_step (by omega) hkl hH hlt) (fun L' f' p1 p2 p3 => q L' f' (p1.trans hperm) p2 p3)
        · rw [List.getElem?_set_ne (by omega), List.getElem?_set]
          show (if (j : Int) = (k : Int) then some (L.getD ((k - 1) / 2) 0) else f j) = _
          by_cases e : j = k
          · rw [if_pos (by omega), if_pos (by omega), if_pos hkl]
          · rw [if_neg (by omega), if_neg (by omega)]
            exact hf j hj e
        · rw [jj_getD_set hpl', if_pos rfl]
          exact hx
      · rw [jj_set_set]
        refine q L _ (List.Perm.refl _) (ja_hup_end hH (Or.inr fun h => c2 ?_)) hset
        rw [hx] at h
        exact ja_cmp_lt.mpr h
theorem pJ_down (hd : hb d = some (ja_ra cap f0)) (hcap : cap < 100000) : ∀ (n k : Nat) (L : List Nat) (f : Int → Option Nat) (kk : Nat), L.length - k < n → k < L.length → L.length ≤ cap → (∀ j : Nat, j < cap → j ≠ k → f j = L[j]?) → (∀ g ∈ L, jj_gkey hb cmp g (κ g)) → L.getD k 0 = x → ja_hdn κ L k → (∀ L' f', L'.Perm L → ja_heap κ L' → (∀ j : Nat, j < cap → f' j = L'[j]?) → Q (jj_set hb d (ja_ra cap f'))) → fC_J41_siftDownUsingComparator_l5 gk (some x) (some d) (L.length : Int) (some cmp) ((L.length / 2 : Nat) : Int) Q E n (k : Int) (jj_set hb d (ja_ra cap f)) kk := by
  intro n
  induction n with
  | zero => intro k L f kk hn; omega
  | succ n ih =>
    intro k L f kk hn hkl hlc hf hg hx hH q
    have hxm : x ∈ L := by rw [← hx]; exact List.mem_of_getElem? (jj_getD_some hkl)
    have hxk := ja_gkd hd (hg x hxm) f
    have hset : ∀ j : Nat, j < cap → (if (j : Int) = (k : Int) then some x else f j) = L[j]? := fun j hj => by
      by_cases e : j = k
      · rw [if_pos (by omega), e, jj_getD_some hkl, hx]
      · rw [if_neg (by omega)]
        exact hf j hj e
    -- with the child c chosen
    have step : ∀ c : Nat, 0 < c → c < L.length → (c - 1) / 2 = k → (∀ i, 0 < i → i < L.length → (i - 1) / 2 = k → ¬ jj_klt (κ (L.getD i 0)) (κ (L.getD c 0))) → ∀ kk', fC_J41_siftDownUsingComparator_j61 gk (fC_J41_siftDownUsingComparator_l5 gk (some x) (some d) (L.length : Int) (some cmp) ((L.length / 2 : Nat) : Int) Q E n) (k : Int) (some x) (some d) (L.length : Int) (some cmp) ((L.length / 2 : Nat) : Int) (c : Int) (some (L.getD c 0)) Q E (jj_set hb d (ja_ra cap f)) kk' := by
      intro c hc0 hcl hck hsib kk'
      have hcm : L.getD c 0 ∈ L := List.mem_of_getElem? (jj_getD_some hcl)
      have hek := ja_gkd hd (hg _ hcm) f
      refine ⟨cmp, x, _, _, _, rfl, rfl, rfl, hxk, hek, ?_, fun c2 => ⟨d, cap, f, rfl, jj_set_self _ _ _, by omega, by omega, hek.el, ?_⟩, fun c2 => ⟨d, cap, f, rfl, jj_set_self _ _ _, by omega, by omega, hxk.el, ?_⟩⟩
      · obtain ⟨-, -, -, -, -, -, -, -, -, -, -, -, -, -, -, -, -, g1, g2, g3, g4⟩ := hxk
        obtain ⟨-, -, -, -, -, -, -, -, -, -, -, -, -, -, -, -, -, g5, g6, g7, g8⟩ := hek
        unfold ja_cmp
        split <;> exact ⟨by omega, by omega⟩
      · rw [jj_set_set]
        have hlt : jj_klt (κ (L.getD c 0)) (κ (L.getD k 0)) := by rw [hx]; exact ja_cmp_gt.mp c2
        have hperm := jj_swap_perm hkl hcl
        have hcl' : c < (L.set k (L.getD c 0)).length := by rw [List.length_set]; omega
        have hlen : ((L.set k (L.getD c 0)).set c (L.getD k 0)).length = L.length := by rw [List.length_set, List.length_set]
        have := ih c ((L.set k (L.getD c 0)).set c (L.getD k 0)) (fun j => if j = (k : Int) then some (L.getD c 0) else f j) kk' (by rw [hlen]; omega) (by rw [hlen]; omega) (by rw [hlen]; omega) (fun j hj hne => ?_) (fun g hgm => hg g (hperm.mem_iff.mp hgm)) ?_ (ja_hdn_step hc0 hcl hck hH hlt hsib) (fun L' f' p1 p2 p3 => q L' f' (p1.trans hperm) p2 p3)
        · rw [hlen] at this
          exact this
        · rw [List.getElem?_set_ne (by omega), List.getElem?_set]
          show (if (j : Int) = (k : Int) then some (L.getD c 0) else f j) = _
          by_cases e : j = k
          · rw [if_pos (by omega), if_pos (by omega), if_pos hkl]
          · rw [if_neg (by omega), if_neg (by omega)]
            exact hf j hj e
        · rw [jj_getD_set hcl', if_pos rfl]
          exact hx
      · rw [jj_set_set]
        refine q L _ (List.Perm.refl _) (ja_hdn_end hH fun i i0 i1 i2 => ?_) hset
        have h1 := hsib i i0 i1 i2
        have h2 : ¬ jj_klt (κ (L.getD c 0)) (κ (L.getD k 0)) := fun h => c2 (by rw [hx] at h; exact ja_cmp_gt.mpr h)
        exact jj_nlt_tr h1 h2
    rw [fC_J41_siftDownUsingComparator_l5]
    refine ⟨⟨by omega, by omega⟩, ⟨by omega, by omega⟩, fun c => ⟨d, cap, f, rfl, jj_set_self _ _ _, by omega, by omega, hxk.el, ?_⟩, fun c v hv => ?_⟩
    · rw [jj_set_set]
      refine q L _ (List.Perm.refl _) (ja_hdn_end hH fun i i0 i1 i2 => ?_) hset
      omega
    · have hv2 : v = ((2 * k + 1 : Nat) : Int) := by
        rw [hv, jj_shlN 1 1 (by decide) (by omega)]
        omega
      subst hv2
      have hcl : 2 * k + 1 < L.length := by omega
      have hfc : f ((2 * k + 1 : Nat) : Int) = some (L.getD (2 * k + 1) 0) := by rw [hf _ (by omega) (by omega), jj_getD_some hcl]
      refine ⟨d, cap, f, rfl, jj_set_self _ _ _, by omega, by omega, ?_⟩
      rw [hfc]
      intro w hw
      have hw2 : w = ((2 * k + 2 : Nat) : Int) := by omega
      subst hw2
      refine ⟨⟨by omega, by omega⟩, ⟨by omega, by omega⟩, fun c2 => ?_, fun c2 => ?_⟩
      · refine step (2 * k + 1) (by omega) hcl (by omega) (fun i i0 i1 i2 => ?_) kk
        have : i = 2 * k + 1 := by omega
        rw [this]
        exact fun h => jj_klt_as h h
      · have hrl : 2 * k + 2 < L.length := by omega
        have hfr : f ((2 * k + 2 : Nat) : Int) = some (L.getD (2 * k + 2) 0) := by rw [hf _ (by omega) (by omega), jj_getD_some hrl]
        refine ⟨d, cap, f, rfl, jj_set_self _ _ _, by omega, by omega, ?_⟩
        rw [hfr]
        have h1 := ja_gkd hd (hg _ (List.mem_of_getElem? (jj_getD_some hcl))) f
        have h2 := ja_gkd hd (hg _ (List.mem_of_getElem? (jj_getD_some hrl))) f
        refine ⟨cmp, _, _, _, _, rfl, rfl, rfl, h1, h2, ?_, fun c3 => ?_, fun c3 => ?_⟩
        · obtain ⟨-, -, -, -, -, -, -, -, -, -, -, -, -, -, -, -, -, g1, g2, g3, g4⟩ := h1
          obtain ⟨-, -, -, -, -, -, -, -, -, -, -, -, -, -, -, -, -, g5, g6, g7, g8⟩ := h2
          unfold ja_cmp
          split <;> exact ⟨by omega, by omega⟩
        · refine step (2 * k + 1) (by omega) hcl (by omega) (fun i i0 i1 i2 => ?_) _
          have : i = 2 * k + 1 ∨ i = 2 * k + 2 := by omega
          rcases this with rfl | rfl
          · exact fun h => jj_klt_as h h
          · exact fun h => by
              have := ja_cmp_gt.mpr h
              omega
        · refine ⟨d, cap, f, rfl, jj_set_self _ _ _, by omega, by omega, ?_⟩
          rw [hfr]
          refine step (2 * k + 2) (by omega) hrl (by omega) (fun i i0 i1 i2 => ?_) _
          have : i = 2 * k + 1 ∨ i = 2 * k + 2 := by omega
          rcases this with rfl | rfl
          · exact jj_klt_as (ja_cmp_gt.mp (by omega))
          · exact fun h => jj_klt_as h h
end PQ1
