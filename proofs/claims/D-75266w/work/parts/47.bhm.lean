/-! HashMap: chains and buckets; looking up, putting -/
theorem jj_and15 (x : Int) : 0 ≤ jj_and 15 x ∧ jj_and 15 x < 16 := by
  unfold jj_and
  rw [Int32.and_comm, pk_and (Int32.ofInt x) (m := Int32.ofInt 15) 4 (by decide)]
  have e : nI ((Int32.ofInt x).toBitVec.toNat % 2 ^ 4) = Int32.ofInt (((Int32.ofInt x).toBitVec.toNat % 2 ^ 4 : Nat) : Int) := Int32.ofInt_eq_ofNat.symm
  have hb : (Int32.ofInt x).toBitVec.toNat % 2 ^ 4 < 16 := Nat.mod_lt _ (by decide)
  rw [e, jj_ti ⟨by omega, by omega⟩]
  omega
theorem ja_bk_lt (e : ja_E) : ja_bk e < 16 := by
  have := jj_and15 (ja_sp e.2.2.1)
  unfold ja_bk
  omega
theorem ja_bk_ix (e : ja_E) : jj_and 15 (ja_sp e.2.2.1) = (ja_bk e : Int) := by
  have := jj_and15 (ja_sp e.2.2.1)
  unfold ja_bk
  omega
theorem ja_sp_r (x : Int) : jj_r (ja_sp x) := ⟨Int32.le_toInt _, Int32.toInt_lt _⟩
theorem jj_str_inj {cs ds : List Int} (e : jj_str cs = jj_str ds) : cs = ds := by
  simp only [jj_str, Sum.inr.injEq, Prod.mk.injEq, true_and] at e
  exact (List.map_inj_right (fun x y hxy => Sum.inl.inj hxy)).mp e
theorem ja_chn_congr {nx nx' : Nat → Option Nat} : ∀ (l : List Nat) (s : Option Nat), (∀ q ∈ l, nx' q = nx q) → ja_chn nx l s → ja_chn nx' l s
  | [], _, _, h => h
  | n :: r, s, hc, h => ⟨h.1, by rw [hc n List.mem_cons_self]; exact ja_chn_congr r _ (fun q hq => hc q (List.mem_cons_of_mem _ hq)) h.2⟩
theorem ja_chn_none {nx : Nat → Option Nat} {l : List Nat} (h : ja_chn nx l none) : l = [] := by
  cases l with
  | nil => rfl
  | cons n r => cases h.1
theorem ja_chn_some {nx : Nat → Option Nat} {l : List Nat} {x : Nat} (h : ja_chn nx l (some x)) : ∃ r, l = x :: r ∧ ja_chn nx r (nx x) := by
  cases l with
  | nil => cases h
  | cons n r =>
    have : x = n := Option.some.inj h.1
    subst this
    exact ⟨r, rfl, h.2⟩
/-- a chain grows at its end -/
def ja_nx (nx : Nat → Option Nat) (p nd : Nat) (q : Nat) : Option Nat := if q = p then some nd else if q = nd then none else nx q
theorem ja_nx_p {nx : Nat → Option Nat} {p nd : Nat} : ja_nx nx p nd p = some nd := if_pos rfl
theorem ja_nx_nd {nx : Nat → Option Nat} {p nd : Nat} (h : nd ≠ p) : ja_nx nx p nd nd = none := by
  unfold ja_nx
  rw [if_neg h, if_pos rfl]
theorem ja_nx_o {nx : Nat → Option Nat} {p nd q : Nat} (h : q ≠ p) (h2 : q ≠ nd) : ja_nx nx p nd q = nx q := by
  unfold ja_nx
  rw [if_neg h, if_neg h2]
theorem ja_chn_app {nx : Nat → Option Nat} {nd p : Nat} : ∀ (l : List Nat) (s : Option Nat), ja_chn nx (l ++ [p]) s → (l ++ [p]).Nodup → nd ∉ l ++ [p] → ja_chn (ja_nx nx p nd) (l ++ [p] ++ [nd]) s
  | [], s, h, _, hn => ⟨h.1, ja_nx_p, ja_nx_nd (fun e => hn (by simp [e]))⟩
  | q :: r, s, h, hd, hn => by
    have h9 : ja_chn nx (r ++ [p]) (nx q) := h.2
    have hd' := List.nodup_cons.mp hd
    refine ⟨h.1, ?_⟩
    rw [ja_nx_o (fun e => hd'.1 (by simp [e])) (fun e => hn (by simp [e]))]
    exact ja_chn_app r _ h9 hd'.2 (fun e => hn (List.mem_cons_of_mem _ e))
theorem ja_chn_one {nx : Nat → Option Nat} {nd : Nat} (h : nx nd = none) : ja_chn nx [nd] (some nd) := ⟨rfl, h⟩
noncomputable def ja_fd (h : jj_H) (cs : List Int) (e : ja_E) : Bool := @decide (h e.1 = some (jj_str cs)) (Classical.propDecidable _)
theorem ja_fd_iff {h : jj_H} {cs : List Int} {e : ja_E} : ja_fd h cs e = true ↔ h e.1 = some (jj_str cs) := by
  unfold ja_fd
  exact @decide_eq_true_iff _ (Classical.propDecidable _)
theorem ja_find_F {es : List ja_E} {P : ja_E → Bool} {b : Nat} (hp : ∀ e ∈ es, P e = true → ja_bk e = b) : (ja_F es b).find? P = es.find? P := by
  induction es with
  | nil => rfl
  | cons e r ih =>
    have ih' := ih (fun x hx => hp x (List.mem_cons_of_mem _ hx))
    unfold ja_F at ih' ⊢
    by_cases hb : ja_bk e = b
    · rw [List.filter_cons_of_pos (by simpa using hb), List.find?_cons, List.find?_cons, ih']
    · rw [List.filter_cons_of_neg (by simpa using hb), ih', List.find?_cons]
      have : P e = false := by
        cases hq : P e with
        | false => rfl
        | true => exact absurd (hp e List.mem_cons_self hq) hb
      rw [this]
/-- keys are texts, with their hashes -/
def ja_kok (h : jj_H) (es : List ja_E) : Prop := ∀ e ∈ es, ∃ ds, h e.1 = some (jj_str ds) ∧ e.2.2.1 = jj_hash ds
/-- how a map stands, open: hB: the heap with the abstract cell a; m: the map's object -/
def ja_hop (hB : jj_H) (a : Nat) (h1 : jj_H) (m : Nat) (es : List ja_E) (T : Option Nat) (f : Int → Option Nat) (nx : Nat → Option Nat) (ks : Option Nat) (mc : Int) (lf : UInt32) : Prop :=
  h1 m = some (.inl (16, ja_hf ks T es.length mc lf)) ∧ (∀ t, T = some t → h1 t = some (.inr (.inr (.inl (4, 16, f)))) ∧ hB t = none) ∧ (∀ e ∈ es, h1 e.2.2.2 = some (ja_nd nx e) ∧ hB e.2.2.2 = none) ∧ (es.map (fun e => e.2.2.2)).Nodup ∧ ja_hc es T f nx ∧ (∀ q c, q ≠ a → hB q = some c → h1 q = some c) ∧ (∃ ca, h1 a = some ca) ∧ (m = a ∨ hB m = none)
section HM1
variable {gk : Nat → Nat} {hB h1 : jj_H} {a m : Nat} {es : List ja_E} {T : Option Nat} {f : Int → Option Nat} {nx : Nat → Option Nat} {ks : Option Nat} {mc : Int} {lf : UInt32} {b : Nat} {cs : List Int} {Q : Option Nat → jj_H → Prop} {E : String → Nat → jj_H → Prop} {k : Nat}
theorem ja_fd_bk (hk : ja_kok h1 es) (x : ja_E) (hx : x.2.2.1 = jj_hash cs) : ∀ e ∈ es, ja_fd h1 cs e = true → ja_bk e = ja_bk x := by
  intro e he hp
  obtain ⟨ds, h2, h3⟩ := hk e he
  have := ja_fd_iff.mp hp
  have e1 : ds = cs := jj_str_inj (Option.some.inj (h2.symm.trans this))
  unfold ja_bk
  rw [h3, hx, e1]
theorem pJ_hash19 (hb : h1 b = some (jj_str cs)) (hne : cs ≠ []) {Q : Int → jj_H → Prop} (q : Q (ja_sp (jj_hash cs)) h1) : fC_J19_hash gk (some b) Q E h1 k :=
  ⟨fun _ => ⟨b, cs, rfl, hb, hne, q⟩, fun c => by cases c⟩
theorem ja_miss {e : ja_E} {r : List ja_E} (hn : ¬ h1 e.1 = some (jj_str cs)) : ((e :: r).find? (ja_fd h1 cs)) = r.find? (ja_fd h1 cs) := by
  rw [List.find?_cons]
  cases hq : ja_fd h1 cs e with
  | false => rfl
  | true => exact absurd (ja_fd_iff.mp hq) hn
theorem ja_hit {e : ja_E} {r : List ja_E} (hn : h1 e.1 = some (jj_str cs)) : ((e :: r).find? (ja_fd h1 cs)) = some e := by
  rw [List.find?_cons, ja_fd_iff.mpr hn]
theorem pJ_getL (hO : ja_hop hB a h1 m es T f nx ks mc lf) (hk : ja_kok h1 es) (hb : h1 b = some (jj_str cs)) : ∀ (n : Nat) (l : List ja_E) (x : Nat), (∀ e ∈ l, e ∈ es) → ja_chn nx (l.map (fun e => e.2.2.2)) (some x) → l.length < n → Q ((l.find? (ja_fd h1 cs)).map (fun e => e.2.2.2)) h1 → fC_J19_getNode_l99 gk (some b) (ja_sp (jj_hash cs)) Q E n (some x) h1 k := by
  intro n
  induction n with
  | zero => intro l x _ _ hn; omega
  | succ n ih =>
    intro l x hl hc hn q
    obtain ⟨r', e1, e2⟩ := ja_chn_some hc
    cases l with
    | nil => cases e1
    | cons e r =>
      rw [List.map_cons] at e1
      obtain ⟨rfl, rfl⟩ := List.cons.inj e1
      have he := hl e List.mem_cons_self
      obtain ⟨hcell, -⟩ := hO.2.2.1 e he
      obtain ⟨ds, d1, d2⟩ := hk e he
      have next : ¬ h1 e.1 = some (jj_str cs) → fC_J19_getNode_j137 gk (fC_J19_getNode_l99 gk (some b) (ja_sp (jj_hash cs)) Q E n) (some b) (some e.2.2.2) (ja_sp (jj_hash cs)) Q E h1 k := by
        intro hmiss
        rw [ja_miss hmiss] at q
        refine ⟨e.2.2.2, _, nx e.2.2.2, rfl, hcell, rfl, fun c => ?_, fun c => ?_⟩
        · obtain ⟨y, hy⟩ := Option.ne_none_iff_exists'.mp c
          rw [hy]
          rw [hy] at e2
          exact ih r y (fun z hz => hl z (List.mem_cons_of_mem _ hz)) e2 (by simp at hn; omega) q
        · rw [c] at e2
          have : r = [] := List.map_eq_nil_iff.mp (ja_chn_none e2)
          rw [this] at q
          exact q
      rw [fC_J19_getNode_l99]
      refine ⟨e.2.2.2, _, _, rfl, hcell, rfl, ja_sp_r _, ja_sp_r _, fun c => next fun hq => ?_, fun c => ⟨e.2.2.2, _, some e.1, rfl, hcell, rfl, fun c2 => ?_, fun c2 => ⟨(fun c3 => by cases c3), fun _ => ⟨b, e.1, cs, ds, rfl, rfl, hb, d1, ?_⟩⟩⟩⟩
      · have : ds = cs := jj_str_inj (Option.some.inj (d1.symm.trans hq))
        exact c (by rw [d2, this])
      · have : e.1 = b := Option.some.inj c2
        rw [ja_hit (by rw [this]; exact hb)] at q
        exact q
      · by_cases e9 : cs = ds
        · rw [if_pos e9]
          rw [ja_hit (by rw [e9]; exact d1)] at q
          exact ⟨⟨by decide, by decide⟩, fun c => absurd c (by decide), fun _ => q⟩
        · rw [if_neg e9]
          exact ⟨⟨by decide, by decide⟩, fun _ => next fun hq => e9 (jj_str_inj (Option.some.inj (hq.symm.trans d1))), fun c => absurd rfl c⟩
theorem pJ_getNode (hO : ja_hop hB a h1 m es T f nx ks mc lf) (hk : ja_kok h1 es) (hb : h1 b = some (jj_str cs)) (hne : cs ≠ []) (q : Q ((es.find? (ja_fd h1 cs)).map (fun e => e.2.2.2)) h1) : fC_J19_getNode gk (some m) (some b) Q E h1 k := by
  obtain ⟨o1, o2, o3, o4, ⟨o5, o6, o7⟩, o8, o9, o10⟩ := id hO
  refine ⟨m, _, T, rfl, o1, rfl, fun c => ?_, fun c => ?_⟩
  · rw [o5 c] at q
    exact q
  · obtain ⟨t, rfl⟩ := Option.ne_none_iff_exists'.mp c
    obtain ⟨t1, t2⟩ := o2 t rfl
    refine ⟨t, 16, f, rfl, t1, ⟨by decide, by decide⟩, fun c => absurd c (by decide), fun _ => pJ_hash19 hb hne ⟨t, 16, f, rfl, t1, ?_⟩⟩
    show 0 ≤ jj_and 15 (ja_sp (jj_hash cs)) ∧ jj_and 15 (ja_sp (jj_hash cs)) < ((16 : Nat) : Int) ∧ _
    have e15 := ja_bk_ix (b, 0, jj_hash cs, 0)
    have hlt := ja_bk_lt (b, 0, jj_hash cs, 0)
    have e15' : jj_and 15 (ja_sp (jj_hash cs)) = ((ja_bk (b, 0, jj_hash cs, 0) : Nat) : Int) := e15
    rw [← ja_find_F (ja_fd_bk hk (b, 0, jj_hash cs, 0) rfl)] at q
    have hch := o7 (ja_bk (b, 0, jj_hash cs, 0)) hlt
    rw [show jj_and (((16 : Nat) : Int) - 1) (ja_sp (jj_hash cs)) = jj_and 15 (ja_sp (jj_hash cs)) from rfl, e15']
    have hmem : ∀ e ∈ ja_F es (ja_bk (b, 0, jj_hash cs, 0)), e ∈ es := fun e he => (List.mem_filter.mp he).1
    generalize ja_F es (ja_bk (b, 0, jj_hash cs, 0)) = l at q hch hmem
    refine ⟨by omega, by omega, fun c => ?_, fun c => ?_⟩
    · rw [c] at hch
      have : l = [] := List.map_eq_nil_iff.mp (ja_chn_none hch)
      rw [this] at q
      exact q
    · obtain ⟨x, hx⟩ := Option.ne_none_iff_exists'.mp c
      rw [hx] at hch ⊢
      obtain ⟨r', e1, e2⟩ := ja_chn_some hch
      cases l with
      | nil => cases e1
      | cons e r =>
        rw [List.map_cons] at e1
        obtain ⟨rfl, rfl⟩ := List.cons.inj e1
        have he := hmem e List.mem_cons_self
        obtain ⟨hcell, -⟩ := o3 e he
        obtain ⟨ds, d1, d2⟩ := hk e he
        have next : ¬ h1 e.1 = some (jj_str cs) → fC_J19_getNode_j71 gk (some b) (some e.2.2.2) (ja_sp (jj_hash cs)) Q E h1 k := by
          intro hmiss
          rw [ja_miss hmiss] at q
          refine ⟨e.2.2.2, _, nx e.2.2.2, rfl, hcell, rfl, fun c => ?_, fun c => ⟨⟨e.2.2.2, _, rfl, hcell, rfl⟩, ⟨by decide, by decide⟩, fun _ => ?_, fun c => absurd rfl c⟩⟩
          · rw [c] at e2
            have : r = [] := List.map_eq_nil_iff.mp (ja_chn_none e2)
            rw [this] at q
            exact q
          · obtain ⟨y, hy⟩ := Option.ne_none_iff_exists'.mp c
            rw [hy]
            rw [hy] at e2
            exact ⟨r.length + 1, pJ_getL hO hk hb (r.length + 1) r y (fun z hz => hmem z (List.mem_cons_of_mem _ hz)) e2 (Nat.lt_succ_self _) q⟩
        refine ⟨e.2.2.2, _, _, rfl, hcell, rfl, ja_sp_r _, ja_sp_r _, fun c => next fun hq => ?_, fun c => ⟨e.2.2.2, _, some e.1, rfl, hcell, rfl, fun c2 => ?_, fun c2 => ⟨(fun c3 => by cases c3), fun _ => ⟨b, e.1, cs, ds, rfl, rfl, hb, d1, ?_⟩⟩⟩⟩
        · have : ds = cs := jj_str_inj (Option.some.inj (d1.symm.trans hq))
          exact c (by rw [d2, this])
        · have : e.1 = b := Option.some.inj c2
          rw [ja_hit (by rw [this]; exact hb)] at q
          exact q
        · by_cases e9 : cs = ds
          · rw [if_pos e9]
            rw [ja_hit (by rw [e9]; exact d1)] at q
            exact ⟨⟨by decide, by decide⟩, fun c => absurd c (by decide), fun _ => q⟩
          · rw [if_neg e9]
            exact ⟨⟨by decide, by decide⟩, fun _ => next fun hq => e9 (jj_str_inj (Option.some.inj (hq.symm.trans d1))), fun c => absurd rfl c⟩
end HM1
