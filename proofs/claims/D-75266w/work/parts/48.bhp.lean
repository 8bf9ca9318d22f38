/-! HashMap: putting -/
/-- es' is es with e behind the others of its bucket -/
def ja_insE (es : List ja_E) (e : ja_E) (es' : List ja_E) : Prop := (∀ b, ja_F es' b = if b = ja_bk e then ja_F es b ++ [e] else ja_F es b) ∧ es'.Perm (es ++ [e])
def ja_nc (sp : Int) (b v : Nat) (n : Option Nat) : jj_C := .inl (17, [.inl sp, jj_rf (some b), jj_rf (some v), jj_rf n])
theorem ja_F_mem {es : List ja_E} {b : Nat} {e : ja_E} (h : e ∈ ja_F es b) : e ∈ es ∧ ja_bk e = b := by
  have := List.mem_filter.mp h
  exact ⟨this.1, by simpa using this.2⟩
def ja_nz (nx : Nat → Option Nat) (nd q : Nat) : Option Nat := if q = nd then none else nx q
theorem ja_nz_n {nx : Nat → Option Nat} {nd : Nat} : ja_nz nx nd nd = none := if_pos rfl
theorem ja_nz_o {nx : Nat → Option Nat} {nd q : Nat} (h : q ≠ nd) : ja_nz nx nd q = nx q := if_neg h
theorem ja_ndi {g : ja_E → Nat} : ∀ {l : List ja_E}, (l.map g).Nodup → ∀ {x y : ja_E}, x ∈ l → y ∈ l → g x = g y → x = y
  | [], _, _, _, hx, _, _ => by cases hx
  | e :: r, hd, x, y, hx, hy, hxy => by
    have hd' := List.nodup_cons.mp hd
    rcases List.mem_cons.mp hx with rfl | hx
    · rcases List.mem_cons.mp hy with rfl | hy
      · rfl
      · exact absurd (List.mem_map.mpr ⟨y, hy, hxy.symm⟩) hd'.1
    · rcases List.mem_cons.mp hy with h9 | hy
      · rw [← h9, ← hxy] at hd'
        exact absurd (List.mem_map.mpr ⟨x, hx, rfl⟩) hd'.1
      · exact ja_ndi hd'.2 hx hy hxy
section HP1
variable {gk : Nat → Nat} {hB h1 : jj_H} {a m : Nat} {es : List ja_E} {T : Option Nat} {f : Int → Option Nat} {nx : Nat → Option Nat} {ks : Option Nat} {mc : Int} {lf : UInt32} {b v : Nat} {cs : List Int} {Q : Option Nat → jj_H → Prop} {E : String → Nat → jj_H → Prop} {k : Nat}
theorem pJ_newNode {sp : Int} (hk : 1 ≤ k) (q : ∀ nd, h1 nd = none → Q (some nd) (jj_set h1 nd (ja_nc sp b v none))) : fC_J19_newNode gk (some m) sp (some b) (some v) none Q E h1 k := by
  refine ⟨hk, fun nd hn => ⟨⟨nd, rfl⟩, ⟨nd, rfl⟩, nd, _, rfl, jj_set_self _ _ _, nd, _, rfl, jj_set_self _ _ _, nd, _, rfl, jj_set_self _ _ _, nd, _, rfl, jj_set_self _ _ _, ?_⟩⟩
  rw [jj_set_set, jj_set_set, jj_set_set, jj_set_set]
  exact q nd hn
theorem pJ_put259 {n t : Nat} (hm : h1 m = some (.inl (16, ja_hf ks (some t) n mc lf))) (hn : n < 12) (q : Q none (jj_set h1 m (.inl (16, ja_hf ks (some t) (n + 1) (mc + 1) lf)))) : fC_J19_putVal_j259 gk (some m) 1 Q E h1 k := by
  refine ⟨m, _, mc, rfl, hm, rfl, m, _, rfl, hm, m, _, (n : Int), rfl, jj_set_self _ _ _, rfl, m, _, rfl, jj_set_self _ _ _, m, _, 12, rfl, jj_set_self _ _ _, rfl, ⟨by omega, by omega⟩, ⟨by decide, by decide⟩, fun _ => ⟨⟨m, _, rfl, jj_set_self _ _ _, rfl⟩, ?_⟩, fun c => absurd (by omega) c⟩
  rw [jj_set_set]
  exact q
/-- the walk along a chain -/
theorem pJ_putL (hO : ja_hop hB a h1 m es T f nx ks mc lf) (hk : ja_kok h1 es) (hb : h1 b = some (jj_str cs)) (hk1 : 1 ≤ k) : ∀ (n : Nat) (r : List ja_E) (p : ja_E) (x12 : Int), p ∈ es → (∀ e ∈ r, e ∈ es) → ja_chn nx (r.map (fun e => e.2.2.2)) (nx p.2.2.2) → r.length < n → 0 ≤ x12 → x12 + (r.length : Int) < 7 →
    (∀ e0 k', r.find? (ja_fd h1 cs) = some e0 → fC_J19_putVal_j222 gk (some m) (some v) 0 1 (some e0.2.2.2) Q E h1 k') →
    (r.find? (ja_fd h1 cs) = none → ∀ nd, h1 nd = none → ∀ p' r', p :: r = r' ++ [p'] → fC_J19_putVal_j222 gk (some m) (some v) 0 1 none Q E (jj_set (jj_set h1 nd (ja_nc (ja_sp (jj_hash cs)) b v none)) p'.2.2.2 (.inl (17, [.inl (ja_sp p'.2.2.1), jj_rf (some p'.1), jj_rf (some p'.2.1), jj_rf (some nd)]))) (k - 1)) →
    fC_J19_putVal_l134 gk (some m) (ja_sp (jj_hash cs)) (some b) (some v) 0 1 Q E n (some p.2.2.2) x12 h1 k := by
  intro n
  induction n with
  | zero => intro r p x12 _ _ _ hn; omega
  | succ n ih =>
    intro r p x12 hp hr hc hn x0 x1 qo qn
    obtain ⟨hcp, -⟩ := hO.2.2.1 p hp
    rw [fC_J19_putVal_l134]
    refine ⟨p.2.2.2, _, nx p.2.2.2, rfl, hcp, rfl, fun c => ?_, fun c => ?_⟩
    · obtain ⟨x, hx⟩ := Option.ne_none_iff_exists'.mp c
      rw [hx] at hc ⊢
      obtain ⟨r', e1, e2⟩ := ja_chn_some hc
      cases r with
      | nil => cases e1
      | cons e r =>
        rw [List.map_cons] at e1
        obtain ⟨rfl, rfl⟩ := List.cons.inj e1
        have he := hr e List.mem_cons_self
        obtain ⟨hcell, -⟩ := hO.2.2.1 e he
        obtain ⟨ds, d1, d2⟩ := hk e he
        have hlen : x12 + 1 + (r.length : Int) < 7 := by rw [List.length_cons] at x1; omega
        have next : ¬ h1 e.1 = some (jj_str cs) → ∀ w : Int, w = x12 + 1 → fC_J19_putVal_l134 gk (some m) (ja_sp (jj_hash cs)) (some b) (some v) 0 1 Q E n (some e.2.2.2) w h1 k := by
          intro hmiss w hw
          rw [ja_miss hmiss] at qo qn
          rw [hw]
          refine ih r e (x12 + 1) he (fun z hz => hr z (List.mem_cons_of_mem _ hz)) e2 (by rw [List.length_cons] at hn; omega) (by omega) hlen qo (fun hf nd hnd p' r' hpr => qn hf nd hnd p' (p :: r') (by rw [hpr]; rfl))
        refine ⟨e.2.2.2, _, _, rfl, hcell, rfl, ja_sp_r _, ja_sp_r _, fun c => next fun hq => ?_, fun c => ⟨e.2.2.2, _, some e.1, rfl, hcell, rfl, fun c2 => ?_, fun c2 => ⟨(fun c3 => by cases c3), fun _ => ⟨b, e.1, cs, ds, rfl, rfl, hb, d1, ?_⟩⟩⟩⟩
        · have : ds = cs := jj_str_inj (Option.some.inj (d1.symm.trans hq))
          exact c (by rw [d2, this])
        · have : e.1 = b := Option.some.inj c2
          exact qo e k (ja_hit (by rw [this]; exact hb))
        · by_cases e9 : cs = ds
          · rw [if_pos e9]
            exact ⟨⟨by decide, by decide⟩, fun c => absurd c (by decide), fun _ => qo e k (ja_hit (by rw [e9]; exact d1))⟩
          · rw [if_neg e9]
            exact ⟨⟨by decide, by decide⟩, fun _ => next fun hq => e9 (jj_str_inj (Option.some.inj (hq.symm.trans d1))), fun c => absurd rfl c⟩
    · rw [c] at hc ⊢
      have hr0 : r = [] := List.map_eq_nil_iff.mp (ja_chn_none hc)
      subst hr0
      refine ⟨⟨m, _, rfl, hO.1, rfl⟩, 1, hk1, pJ_newNode (Nat.le_refl _) fun nd hnd => ?_⟩
      have hpn : p.2.2.2 ≠ nd := fun e => by rw [e, hnd] at hcp; cases hcp
      exact ⟨p.2.2.2, _, rfl, (jj_set_ne _ _ hpn).trans hcp, ⟨by omega, by omega⟩, fun _ => qn rfl nd hnd p [] rfl, fun c => absurd (by simp at x1; omega) c⟩
/-- what the key finds, or the end of its chain -/
theorem pJ_put29 {t : Nat} (hO : ja_hop hB a h1 m es (some t) f nx ks mc lf) (hk : ja_kok h1 es) (hb : h1 b = some (jj_str cs)) (hk1 : 1 ≤ k) (hl : es.length < 7) {x0 : ja_E} (hx0 : x0.2.2.1 = jj_hash cs)
    (qo : ∀ e0 k', es.find? (ja_fd h1 cs) = some e0 → fC_J19_putVal_j222 gk (some m) (some v) 0 1 (some e0.2.2.2) Q E h1 k')
    (qn0 : es.find? (ja_fd h1 cs) = none → ja_F es (ja_bk x0) = [] → ∀ nd, h1 nd = none → fC_J19_putVal_j259 gk (some m) 1 Q E (jj_set (jj_set h1 nd (ja_nc (ja_sp (jj_hash cs)) b v none)) t (.inr (.inr (.inl (4, 16, fun j => if j = (ja_bk x0 : Int) then some nd else f j))))) (k - 1))
    (qn1 : es.find? (ja_fd h1 cs) = none → ∀ p' r', ja_F es (ja_bk x0) = r' ++ [p'] → ∀ nd, h1 nd = none → fC_J19_putVal_j222 gk (some m) (some v) 0 1 none Q E (jj_set (jj_set h1 nd (ja_nc (ja_sp (jj_hash cs)) b v none)) p'.2.2.2 (.inl (17, [.inl (ja_sp p'.2.2.1), jj_rf (some p'.1), jj_rf (some p'.2.1), jj_rf (some nd)]))) (k - 1)) :
    fC_J19_putVal_j29 gk (some m) (ja_sp (jj_hash cs)) (some b) (some v) 0 1 (some t) ((16 : Nat) : Int) Q E h1 k := by
  obtain ⟨o1, o2, o3, o4, ⟨o5, o6, o7⟩, o8, o9, o10⟩ := id hO
  obtain ⟨t1, t2⟩ := o2 t rfl
  have e15' : jj_and 15 (ja_sp (jj_hash cs)) = ((ja_bk x0 : Nat) : Int) := by rw [← hx0]; exact ja_bk_ix x0
  have hlt := ja_bk_lt x0
  rw [← ja_find_F (ja_fd_bk hk x0 hx0)] at qo qn0 qn1
  have hch := o7 (ja_bk x0) hlt
  intro v27 hv27
  rw [show jj_and (((16 : Nat) : Int) - 1) (ja_sp (jj_hash cs)) = jj_and 15 (ja_sp (jj_hash cs)) from rfl, e15'] at hv27 ⊢
  have hmem : ∀ e ∈ ja_F es (ja_bk x0), e ∈ es := fun e he => (ja_F_mem he).1
  have hlen : (ja_F es (ja_bk x0)).length < 7 := Nat.lt_of_le_of_lt (List.length_filter_le _ _) hl
  generalize ja_F es (ja_bk x0) = l at qo qn0 qn1 hch hmem hlen
  refine ⟨t, 16, f, rfl, t1, by omega, by omega, fun c => ?_, fun c => ?_⟩
  · obtain ⟨x, hx⟩ := Option.ne_none_iff_exists'.mp c
    rw [hx] at hch ⊢
    obtain ⟨r', e1, e2⟩ := ja_chn_some hch
    cases l with
    | nil => cases e1
    | cons e r =>
      rw [List.map_cons] at e1
      obtain ⟨rfl, rfl⟩ := List.cons.inj e1
      have he := hmem e List.mem_cons_self
      obtain ⟨hcell, -⟩ := o3 e he
      obtain ⟨ds, d1, d2⟩ := hk e he
      have next : ¬ h1 e.1 = some (jj_str cs) → fC_J19_putVal_j104 gk (some m) (ja_sp (jj_hash cs)) (some b) (some v) 0 1 (some e.2.2.2) Q E h1 k := by
        intro hmiss
        rw [ja_miss hmiss] at qo qn1
        refine ⟨⟨e.2.2.2, _, rfl, hcell, rfl⟩, ⟨by decide, by decide⟩, fun _ => ⟨r.length + 1, ?_⟩, fun c => absurd rfl c⟩
        exact pJ_putL hO hk hb hk1 (r.length + 1) r e 0 he (fun z hz => hmem z (List.mem_cons_of_mem _ hz)) e2 (Nat.lt_succ_self _) (by omega) (by rw [List.length_cons] at hlen; omega) qo (fun hf nd hnd p' r' hpr => qn1 hf p' r' hpr nd hnd)
      refine ⟨e.2.2.2, _, _, rfl, hcell, rfl, ja_sp_r _, ja_sp_r _, fun c => next fun hq => ?_, fun c => ⟨e.2.2.2, _, some e.1, rfl, hcell, rfl, fun c2 => ?_, fun c2 => ⟨(fun c3 => by cases c3), fun _ => ⟨b, e.1, cs, ds, rfl, rfl, hb, d1, ?_⟩⟩⟩⟩
      · have : ds = cs := jj_str_inj (Option.some.inj (d1.symm.trans hq))
        exact c (by rw [d2, this])
      · have : e.1 = b := Option.some.inj c2
        exact qo e k (ja_hit (by rw [this]; exact hb))
      · by_cases e9 : cs = ds
        · rw [if_pos e9]
          exact ⟨⟨by decide, by decide⟩, fun c => absurd c (by decide), fun _ => qo e k (ja_hit (by rw [e9]; exact d1))⟩
        · rw [if_neg e9]
          exact ⟨⟨by decide, by decide⟩, fun _ => next fun hq => e9 (jj_str_inj (Option.some.inj (hq.symm.trans d1))), fun c => absurd rfl c⟩
  · rw [c] at hch
    have hl0 : l = [] := List.map_eq_nil_iff.mp (ja_chn_none hch)
    subst hl0
    refine ⟨⟨m, _, rfl, o1, rfl⟩, 1, hk1, pJ_newNode (Nat.le_refl _) fun nd hnd => ?_⟩
    have htn : t ≠ nd := fun e => by rw [e, hnd] at t1; cases t1
    refine ⟨t, 16, f, nd, _, rfl, (jj_set_ne _ _ htn).trans t1, by omega, by omega, rfl, jj_set_self _ _ _, rfl, ?_⟩
    have := qn0 rfl rfl nd hnd
    rw [hv27]
    exact this
theorem ja_insE.mem {e : ja_E} {es' : List ja_E} (hi : ja_insE es e es') {x : ja_E} (hx : x ∈ es') : x ∈ es ∨ x = e := by
  have := hi.2.mem_iff.mp hx
  simpa using this
theorem ja_insE.len {e : ja_E} {es' : List ja_E} (hi : ja_insE es e es') : es'.length = es.length + 1 := by
  have := hi.2.length_eq
  simpa using this
theorem ja_insE.nd {e : ja_E} {es' : List ja_E} (hi : ja_insE es e es') (h : (es.map (fun e => e.2.2.2)).Nodup) (hn : ∀ x ∈ es, x.2.2.2 ≠ e.2.2.2) : (es'.map (fun e => e.2.2.2)).Nodup := by
  refine ((hi.2.map (fun e : ja_E => e.2.2.2)).nodup_iff).mpr ?_
  rw [List.map_append, List.nodup_append]
  refine ⟨h, by simp, fun x hx y hy => ?_⟩
  obtain ⟨z, hz, rfl⟩ := List.mem_map.mp hx
  have : y = e.2.2.2 := by simpa using hy
  rw [this]
  exact hn z hz
/-- the new entry stands alone in its bucket -/
theorem ja_new0 {t nd : Nat} {es' : List ja_E} (hO : ja_hop hB a h1 m es (some t) f nx ks mc lf) (hl : es.length < 7) (hnd : h1 nd = none) (hF : ja_F es (ja_bk (b, v, jj_hash cs, nd)) = []) (hi : ja_insE es (b, v, jj_hash cs, nd) es') :
    ja_hop hB a (jj_set (jj_set (jj_set h1 nd (ja_nc (ja_sp (jj_hash cs)) b v none)) t (.inr (.inr (.inl (4, 16, fun j => if j = (ja_bk (b, v, jj_hash cs, nd) : Int) then some nd else f j))))) m (.inl (16, ja_hf ks (some t) (es.length + 1) (mc + 1) lf))) m es' (some t) (fun j => if j = (ja_bk (b, v, jj_hash cs, nd) : Int) then some nd else f j) (ja_nz nx nd) ks (mc + 1) lf ∧
    ∀ q c, h1 q = some c → q ≠ m → q ≠ t → (∀ e ∈ es, q ≠ e.2.2.2) → (jj_set (jj_set (jj_set h1 nd (ja_nc (ja_sp (jj_hash cs)) b v none)) t (.inr (.inr (.inl (4, 16, fun j => if j = (ja_bk (b, v, jj_hash cs, nd) : Int) then some nd else f j))))) m (.inl (16, ja_hf ks (some t) (es.length + 1) (mc + 1) lf))) q = some c := by
  obtain ⟨o1, o2, o3, o4, ⟨o5, o6, o7⟩, o8, ⟨ca, o9⟩, o10⟩ := hO
  obtain ⟨t1, t2⟩ := o2 t rfl
  have ht : t ≠ m := fun e => by rw [e, o1] at t1; cases t1
  have hndm : nd ≠ m := fun e => by rw [e, o1] at hnd; cases hnd
  have hndt : nd ≠ t := fun e => by rw [e, t1] at hnd; cases hnd
  have hnda : nd ≠ a := fun e => by rw [e, o9] at hnd; cases hnd
  have hen : ∀ x ∈ es, x.2.2.2 ≠ nd ∧ x.2.2.2 ≠ t ∧ x.2.2.2 ≠ m := fun x hx => by
    have h3 := (o3 x hx).1
    exact ⟨(fun e => by rw [e, hnd] at h3; cases h3), (fun e => by rw [e, t1] at h3; cases h3), (fun e => by rw [e, o1] at h3; cases h3)⟩
  have hBn : hB nd = none := by
    cases hc : hB nd with
    | none => rfl
    | some c => rw [o8 nd c hnda hc] at hnd; cases hnd
  refine ⟨⟨?_, ?_, ?_, hi.nd o4 (fun x hx => (hen x hx).1), ⟨(fun c => by cases c), (by rw [hi.len]; omega), ?_⟩, ?_, ?_, o10⟩, ?_⟩
  · rw [jj_set_self, hi.len]
  · intro t' e
    cases e
    exact ⟨(jj_set_ne _ _ ht).trans (jj_set_self _ _ _), t2⟩
  · intro x hx
    rcases hi.mem hx with hx | rfl
    · obtain ⟨n1, n2, n3⟩ := hen x hx
      refine ⟨?_, (o3 x hx).2⟩
      rw [jj_set_ne _ _ n3, jj_set_ne _ _ n2, jj_set_ne _ _ n1, (o3 x hx).1]
      unfold ja_nd
      rw [ja_nz_o n1]
    · refine ⟨?_, hBn⟩
      show jj_set _ m _ nd = _
      rw [jj_set_ne _ _ hndm, jj_set_ne _ _ hndt, jj_set_self]
      unfold ja_nd ja_nc
      rw [ja_nz_n]
  · intro b' hb'
    rw [hi.1 b']
    by_cases e : b' = ja_bk (b, v, jj_hash cs, nd)
    · show ja_chn _ _ (if (b' : Int) = (ja_bk (b, v, jj_hash cs, nd) : Int) then some nd else f (b' : Int))
      rw [if_pos e, e, hF, if_pos rfl]
      exact ⟨rfl, ja_nz_n⟩
    · show ja_chn _ _ (if (b' : Int) = (ja_bk (b, v, jj_hash cs, nd) : Int) then some nd else f (b' : Int))
      rw [if_neg e, if_neg (by omega)]
      refine ja_chn_congr _ _ (fun q hq => ?_) (o7 b' hb')
      obtain ⟨x, hx, rfl⟩ := List.mem_map.mp hq
      exact ja_nz_o (hen x (ja_F_mem hx).1).1
  · intro q c hq hc
    have h4 := o8 q c hq hc
    rw [jj_set_ne _ _ (fun e => ?_), jj_set_ne _ _ (fun e => by rw [e, t2] at hc; cases hc), jj_set_ne _ _ (fun e => by rw [e, hnd] at h4; cases h4)]
    · exact h4
    · rcases o10 with e2 | e2
      · exact hq (e.trans e2)
      · rw [e, e2] at hc; cases hc
  · by_cases e : a = m
    · exact ⟨_, by rw [e, jj_set_self]⟩
    · by_cases e2 : a = t
      · exact ⟨_, by rw [jj_set_ne _ _ e, e2, jj_set_self]⟩
      · exact ⟨ca, by rw [jj_set_ne _ _ e, jj_set_ne _ _ e2, jj_set_ne _ _ (Ne.symm hnda), o9]⟩
  · intro q c hq h2 h3 h4
    rw [jj_set_ne _ _ h2, jj_set_ne _ _ h3, jj_set_ne _ _ (fun e => by rw [e, hnd] at hq; cases hq)]
    exact hq
/-- the new entry stands behind p -/
theorem ja_new1 {t nd : Nat} {p : ja_E} {r : List ja_E} {es' : List ja_E} (hO : ja_hop hB a h1 m es (some t) f nx ks mc lf) (hl : es.length < 7) (hnd : h1 nd = none) (hF : ja_F es (ja_bk (b, v, jj_hash cs, nd)) = r ++ [p]) (hi : ja_insE es (b, v, jj_hash cs, nd) es') :
    ja_hop hB a (jj_set (jj_set (jj_set h1 nd (ja_nc (ja_sp (jj_hash cs)) b v none)) p.2.2.2 (.inl (17, [.inl (ja_sp p.2.2.1), jj_rf (some p.1), jj_rf (some p.2.1), jj_rf (some nd)]))) m (.inl (16, ja_hf ks (some t) (es.length + 1) (mc + 1) lf))) m es' (some t) f (ja_nx nx p.2.2.2 nd) ks (mc + 1) lf ∧
    ∀ q c, h1 q = some c → q ≠ m → q ≠ t → (∀ e ∈ es, q ≠ e.2.2.2) → (jj_set (jj_set (jj_set h1 nd (ja_nc (ja_sp (jj_hash cs)) b v none)) p.2.2.2 (.inl (17, [.inl (ja_sp p.2.2.1), jj_rf (some p.1), jj_rf (some p.2.1), jj_rf (some nd)]))) m (.inl (16, ja_hf ks (some t) (es.length + 1) (mc + 1) lf))) q = some c := by
  obtain ⟨o1, o2, o3, o4, ⟨o5, o6, o7⟩, o8, ⟨ca, o9⟩, o10⟩ := hO
  obtain ⟨t1, t2⟩ := o2 t rfl
  have hpm : p ∈ es := (ja_F_mem (b := ja_bk (b, v, jj_hash cs, nd)) (by rw [hF]; simp)).1
  have ht : t ≠ m := fun e => by rw [e, o1] at t1; cases t1
  have hndm : nd ≠ m := fun e => by rw [e, o1] at hnd; cases hnd
  have hnda : nd ≠ a := fun e => by rw [e, o9] at hnd; cases hnd
  have hen : ∀ x ∈ es, x.2.2.2 ≠ nd ∧ x.2.2.2 ≠ t ∧ x.2.2.2 ≠ m := fun x hx => by
    have h3 := (o3 x hx).1
    exact ⟨(fun e => by rw [e, hnd] at h3; cases h3), (fun e => by rw [e, t1] at h3; cases h3), (fun e => by rw [e, o1] at h3; cases h3)⟩
  obtain ⟨p1, p2, p3⟩ := hen p hpm
  have hBn : hB nd = none := by
    cases hc : hB nd with
    | none => rfl
    | some c => rw [o8 nd c hnda hc] at hnd; cases hnd
  refine ⟨⟨?_, ?_, ?_, hi.nd o4 (fun x hx => (hen x hx).1), ⟨(fun c => by cases c), (by rw [hi.len]; omega), ?_⟩, ?_, ?_, o10⟩, ?_⟩
  · rw [jj_set_self, hi.len]
  · intro t' e
    cases e
    exact ⟨by rw [jj_set_ne _ _ ht, jj_set_ne _ _ (Ne.symm p2), jj_set_ne _ _ (fun e => by rw [e, hnd] at t1; cases t1)]; exact t1, t2⟩
  · intro x hx
    rcases hi.mem hx with hx | rfl
    · obtain ⟨n1, n2, n3⟩ := hen x hx
      refine ⟨?_, (o3 x hx).2⟩
      rw [jj_set_ne _ _ n3]
      by_cases e : x.2.2.2 = p.2.2.2
      · have hxp : x = p := by
          have h5 := (o3 x hx).1
          have h6 := ja_ndi o4 hx hpm e
          exact h6
        rw [hxp, jj_set_self]
        unfold ja_nd
        rw [ja_nx_p]
      · rw [jj_set_ne _ _ e, jj_set_ne _ _ n1, (o3 x hx).1]
        unfold ja_nd
        rw [ja_nx_o e n1]
    · refine ⟨?_, hBn⟩
      show jj_set _ m _ nd = _
      rw [jj_set_ne _ _ hndm, jj_set_ne _ _ (Ne.symm p1), jj_set_self]
      unfold ja_nd ja_nc
      rw [ja_nx_nd (Ne.symm p1)]
  · intro b' hb'
    rw [hi.1 b']
    by_cases e : b' = ja_bk (b, v, jj_hash cs, nd)
    · have h7 := o7 b' hb'
      rw [e, hF, List.map_append] at h7
      rw [if_pos e, e, hF, List.map_append, List.map_append]
      refine ja_chn_app _ _ h7 ?_ ?_
      · rw [← List.map_singleton (f := fun e : ja_E => e.2.2.2), ← List.map_append, ← hF]
        exact o4.sublist (List.Sublist.map _ List.filter_sublist)
      · intro hc
        rw [← List.map_singleton (f := fun e : ja_E => e.2.2.2), ← List.map_append, ← hF] at hc
        obtain ⟨x, hx, hxe⟩ := List.mem_map.mp hc
        exact (hen x (ja_F_mem hx).1).1 hxe
    · rw [if_neg e]
      refine ja_chn_congr _ _ (fun q hq => ?_) (o7 b' hb')
      obtain ⟨x, hx, rfl⟩ := List.mem_map.mp hq
      refine ja_nx_o (fun e2 => e ?_) (hen x (ja_F_mem hx).1).1
      have h6 := ja_ndi o4 (ja_F_mem hx).1 hpm e2
      have h8 : p ∈ ja_F es (ja_bk (b, v, jj_hash cs, nd)) := by rw [hF]; simp
      rw [← (ja_F_mem hx).2, h6, (ja_F_mem h8).2]
  · intro q c hq hc
    have h4 := o8 q c hq hc
    rw [jj_set_ne _ _ (fun e => ?_), jj_set_ne _ _ (fun e => by rw [e, (o3 p hpm).2] at hc; cases hc), jj_set_ne _ _ (fun e => by rw [e, hnd] at h4; cases h4)]
    · exact h4
    · rcases o10 with e2 | e2
      · exact hq (e.trans e2)
      · rw [e, e2] at hc; cases hc
  · by_cases e : a = m
    · exact ⟨_, by rw [e, jj_set_self]⟩
    · by_cases e2 : a = p.2.2.2
      · exact ⟨_, by rw [jj_set_ne _ _ e, e2, jj_set_self]⟩
      · exact ⟨ca, by rw [jj_set_ne _ _ e, jj_set_ne _ _ e2, jj_set_ne _ _ (Ne.symm hnda), o9]⟩
  · intro q c hq h2 h3 h4
    rw [jj_set_ne _ _ h2, jj_set_ne _ _ (h4 p hpm), jj_set_ne _ _ (fun e => by rw [e, hnd] at hq; cases hq)]
    exact hq
end HP1
