/-! HashMap: its contracts -/
section HC1
variable {gk : Nat → Nat} {hB h1 : jj_H} {a m : Nat} {es : List ja_E} {T : Option Nat} {f : Int → Option Nat} {nx : Nat → Option Nat} {ks : Option Nat} {mc : Int} {lf : UInt32} {b v : Nat} {cs : List Int} {Q : Option Nat → jj_H → Prop} {E : String → Nat → jj_H → Prop} {k : Nat}
theorem pJ_resize (hO : ja_hop hB a h1 m [] none f nx ks mc lf) (hk : 5 ≤ k) (q : ∀ t' h', h1 t' = none → ja_hop hB a h' m [] (some t') (fun _ => none) nx ks mc lf → (∀ q c, h1 q = some c → q ≠ m → h' q = some c) → Q (some t') h') : fC_J19_resize gk (some m) Q E h1 k := by
  obtain ⟨o1, o2, o3, o4, ⟨o5, o6, o7⟩, o8, ⟨ca, o9⟩, o10⟩ := hO
  refine ⟨m, _, none, rfl, o1, rfl, fun c => absurd rfl c, fun _ => ⟨m, _, 0, rfl, o1, rfl, fun _ => ⟨⟨by decide, by decide⟩, fun _ => ⟨fun _ => ⟨m, _, rfl, o1, by decide, by decide, hk, fun t' ht' => ?_⟩, fun c => absurd c (by decide)⟩, fun c => absurd (by decide) c⟩, fun c => absurd (by decide) c⟩⟩
  have htm : t' ≠ m := fun e => by rw [e, jj_set_self] at ht'; cases ht'
  have ht1 : h1 t' = none := by rw [jj_set_ne _ _ htm] at ht'; exact ht'
  have hta : t' ≠ a := fun e => by rw [e, o9] at ht1; cases ht1
  have hBt : hB t' = none := by
    cases hc : hB t' with
    | none => rfl
    | some c => rw [o8 t' c hta hc] at ht1; cases ht1
  refine ⟨m, _, rfl, (jj_set_ne _ _ (Ne.symm htm)).trans (jj_set_self _ _ _), fun _ => q t' _ ht1 ⟨?_, ?_, (fun e he => by cases he), o4, ⟨(fun c => by cases c), o6, fun b hb => rfl⟩, ?_, ?_, o10⟩ ?_, fun c => absurd rfl c⟩
  · rw [jj_set_self]; rfl
  · intro t'' e
    cases e
    exact ⟨(jj_set_ne _ _ htm).trans (jj_set_self _ _ _), hBt⟩
  · intro q c hq hc
    rw [jj_set_ne _ _ (fun e => ?_), jj_set_ne _ _ (fun e => by rw [e, hBt] at hc; cases hc), jj_set_ne _ _ (fun e => ?_)]
    · exact o8 q c hq hc
    · rcases o10 with e2 | e2
      · exact hq (e.trans e2)
      · rw [e, e2] at hc; cases hc
    · rcases o10 with e2 | e2
      · exact hq (e.trans e2)
      · rw [e, e2] at hc; cases hc
  · by_cases e : a = m
    · exact ⟨_, by rw [e, jj_set_self]⟩
    · exact ⟨ca, by rw [jj_set_ne _ _ e, jj_set_ne _ _ (Ne.symm hta), jj_set_ne _ _ e, o9]⟩
  · intro q c hq hqm
    rw [jj_set_ne _ _ hqm, jj_set_ne _ _ (fun e => by rw [e, ht1] at hq; cases hq), jj_set_ne _ _ hqm]
    exact hq
theorem ja_find_none {h : jj_H} (hn : es.find? (ja_fd h cs) = none) : ∀ e ∈ es, ¬ h e.1 = some (jj_str cs) := fun e he hp => by
  have := List.find?_eq_none.mp hn e he
  exact this (ja_fd_iff.mpr hp)
theorem ja_find_congr {h h' : jj_H} (hh : ∀ e ∈ es, h e.1 = h' e.1) : es.find? (ja_fd h cs) = es.find? (ja_fd h' cs) := by
  induction es with
  | nil => rfl
  | cons e r ih =>
    rw [List.find?_cons, List.find?_cons, ih (fun x hx => hh x (List.mem_cons_of_mem _ hx))]
    have : ja_fd h cs e = ja_fd h' cs e := by
      unfold ja_fd
      rw [hh e List.mem_cons_self]
    rw [this]
/-- a new key, where the table stands -/
theorem pJ_put29N {t : Nat} (hO : ja_hop hB a h1 m es (some t) f nx ks mc lf) (hk : ja_kok h1 es) (hb : h1 b = some (jj_str cs)) (hno : es.find? (ja_fd h1 cs) = none) (hk1 : 1 ≤ k) (hl : es.length < 7) {ins : Nat → List ja_E} (hins : ∀ nd, ja_insE es (b, v, jj_hash cs, nd) (ins nd))
    (q : ∀ nd h' f' nx', ja_hop hB a h' m (ins nd) (some t) f' nx' ks (mc + 1) lf → (∀ q c, h1 q = some c → q ≠ m → q ≠ t → (∀ e ∈ es, q ≠ e.2.2.2) → h' q = some c) → Q none h') :
    fC_J19_putVal_j29 gk (some m) (ja_sp (jj_hash cs)) (some b) (some v) 0 1 (some t) ((16 : Nat) : Int) Q E h1 k := by
  have o1 := hO.1
  refine pJ_put29 hO hk hb hk1 hl (x0 := (b, v, jj_hash cs, 0)) rfl (fun e0 k' he => by rw [hno] at he; cases he) (fun _ hF nd hnd => ?_) (fun _ p' r' hF nd hnd => ?_)
  · have hbk : ja_bk (b, v, jj_hash cs, 0) = ja_bk (b, v, jj_hash cs, nd) := rfl
    rw [hbk] at hF ⊢
    obtain ⟨w1, w2⟩ := ja_new0 hO hl hnd hF (hins nd)
    have t1 := (hO.2.1 t rfl).1
    have hmt : m ≠ t := fun e => by rw [e, t1] at o1; cases o1
    have hmn : m ≠ nd := fun e => by rw [e, hnd] at o1; cases o1
    exact pJ_put259 (by rw [jj_set_ne _ _ hmt, jj_set_ne _ _ hmn]; exact o1) (by omega) (q nd _ _ _ w1 w2)
  · have hbk : ja_bk (b, v, jj_hash cs, 0) = ja_bk (b, v, jj_hash cs, nd) := rfl
    rw [hbk] at hF
    obtain ⟨w1, w2⟩ := ja_new1 hO hl hnd hF (hins nd)
    have hpm : p' ∈ es := (ja_F_mem (b := ja_bk (b, v, jj_hash cs, nd)) (by rw [hF]; simp)).1
    have hp := (hO.2.2.1 p' hpm).1
    have hmp : m ≠ p'.2.2.2 := fun e => by rw [← e, o1] at hp; cases hp
    have hmn : m ≠ nd := fun e => by rw [e, hnd] at o1; cases o1
    exact ⟨fun _ => pJ_put259 (by rw [jj_set_ne _ _ hmp, jj_set_ne _ _ hmn]; exact o1) (by omega) (q nd _ _ _ w1 w2), fun c => absurd rfl c⟩
theorem pJ_putNew (hO : ja_hop hB a h1 m es T f nx ks mc lf) (hk : ja_kok h1 es) (hb : h1 b = some (jj_str cs)) (hne : cs ≠ []) (hno : es.find? (ja_fd h1 cs) = none) (hk6 : T = none → 6 ≤ k) (hk1 : 1 ≤ k) (hl : es.length < 7) {ins : Nat → List ja_E} (hins : ∀ nd, ja_insE es (b, v, jj_hash cs, nd) (ins nd))
    (q : ∀ nd h' T' f' nx', ja_hop hB a h' m (ins nd) T' f' nx' ks (mc + 1) lf → (∀ q c, h1 q = some c → q ≠ m → (∀ t, T = some t → q ≠ t) → (∀ e ∈ es, q ≠ e.2.2.2) → h' q = some c) → Q none h') :
    fC_J19_put gk (some m) (some b) (some v) Q E h1 k := by
  have o1 := hO.1
  refine pJ_hash19 hb hne ⟨⟨m, _, rfl, o1, rfl⟩, k, Nat.le_refl _, m, _, T, rfl, o1, rfl, fun c => ?_, fun c => ?_⟩
  · subst c
    have he : es = [] := hO.2.2.2.2.1.1 rfl
    subst he
    have hk6 := hk6 rfl
    refine ⟨⟨m, _, rfl, o1, rfl⟩, 5, by omega, pJ_resize hO (Nat.le_refl _) fun t' h' ht' hO' hkeep => ?_⟩
    have hbm : b ≠ m := fun e => by rw [e, o1] at hb; cases hb
    refine ⟨t', 16, _, rfl, (hO'.2.1 t' rfl).1, ?_⟩
    exact pJ_put29N hO' (fun e he => by cases he) (hkeep b _ hb hbm) rfl (by omega) hl hins fun nd h'' f' nx' q1 q2 => q nd h'' (some t') f' nx' q1 fun q c hq h2 h3 h4 => q2 q c (hkeep q c hq h2) h2 (fun e => by rw [e, ht'] at hq; cases hq) h4
  · obtain ⟨t, rfl⟩ := Option.ne_none_iff_exists'.mp c
    refine ⟨t, 16, f, rfl, (hO.2.1 t rfl).1, ⟨by decide, by decide⟩, fun _ => ?_, fun c => absurd c (by decide)⟩
    exact pJ_put29N hO hk hb hno (by omega) hl hins fun nd h'' f' nx' q1 q2 => q nd h'' (some t) f' nx' q1 fun q c hq h2 h3 h4 => q2 q c hq h2 (h3 t rfl) h4
/-- a key that is there, with its own value -/
theorem pJ_putOld {e0 : ja_E} (hO : ja_hop hB a h1 m es T f nx ks mc lf) (hk : ja_kok h1 es) (hb : h1 b = some (jj_str cs)) (hne : cs ≠ []) (hno : es.find? (ja_fd h1 cs) = some e0) (hv : e0.2.1 = v) (hk1 : 1 ≤ k) (hl : es.length < 7) (q : Q (some v) h1) :
    fC_J19_put gk (some m) (some b) (some v) Q E h1 k := by
  have o1 := hO.1
  have hem := List.mem_of_find?_eq_some hno
  refine pJ_hash19 hb hne ⟨⟨m, _, rfl, o1, rfl⟩, k, Nat.le_refl _, m, _, T, rfl, o1, rfl, fun c => ?_, fun c => ?_⟩
  · rw [hO.2.2.2.2.1.1 c] at hem
    cases hem
  · obtain ⟨t, rfl⟩ := Option.ne_none_iff_exists'.mp c
    refine ⟨t, 16, f, rfl, (hO.2.1 t rfl).1, ⟨by decide, by decide⟩, fun _ => ?_, fun c => absurd c (by decide)⟩
    refine pJ_put29 hO hk hb hk1 hl (x0 := (b, v, jj_hash cs, 0)) rfl (fun e1 k' he => ?_) (fun hn => by rw [hno] at hn; cases hn) (fun hn => by rw [hno] at hn; cases hn)
    rw [hno] at he
    cases he
    have hcell := (hO.2.2.1 e0 hem).1
    refine ⟨(fun c => by cases c), fun _ => ⟨e0.2.2.2, _, some e0.2.1, rfl, hcell, rfl, ⟨by decide, by decide⟩, fun _ => ⟨e0.2.2.2, _, rfl, hcell, ?_⟩, fun c => absurd rfl c⟩⟩
    have hs : jj_set h1 e0.2.2.2 (.inl (17, ([.inl (ja_sp e0.2.2.1), jj_rf (some e0.1), jj_rf (some e0.2.1), jj_rf (nx e0.2.2.2)] : List jj_AV).set 2 (.inr (.inr (.inl (some v)))))) = h1 := by
      refine jj_set_same ?_
      rw [hcell]
      unfold ja_nd
      rw [hv]
      rfl
    rw [hs]
    refine ⟨⟨m, _, rfl, o1, rfl⟩, ?_⟩
    rw [hv]
    exact q
end HC1
/-! opening and closing -/
theorem ja_ov_mem {h : jj_H} : ∀ {L : List (Nat × jj_C)}, (L.map Prod.fst).Nodup → ∀ {z : Nat × jj_C}, z ∈ L → ja_ov h L z.1 = some z.2
  | [], _, _, hz => by cases hz
  | y :: r, hd, z, hz => by
    have hd' := List.nodup_cons.mp hd
    by_cases e : y.1 = z.1
    · rcases List.mem_cons.mp hz with rfl | hz
      · simp [ja_ov, List.find?]
      · exact absurd (List.mem_map.mpr ⟨z, hz, e.symm⟩) hd'.1
    · rcases List.mem_cons.mp hz with rfl | hz
      · exact absurd rfl e
      · have := ja_ov_mem (h := h) hd'.2 hz
        unfold ja_ov at this ⊢
        rw [List.find?_cons]
        have e2 : decide (y.1 = z.1) = false := decide_eq_false e
        rw [e2]
        exact this
theorem ja_ov_out {h : jj_H} {L : List (Nat × jj_C)} {q : Nat} (hq : ∀ z ∈ L, z.1 ≠ q) : ja_ov h L q = h q := by
  unfold ja_ov
  have : L.find? (fun z => decide (z.1 = q)) = none := List.find?_eq_none.mpr fun z hz => by simpa using hq z hz
  rw [this]
theorem ja_hop_of {hB h1 : jj_H} {a m : Nat} {es : List ja_E} {T : Option Nat} {f : Int → Option Nat} {nx : Nat → Option Nat} {ks : Option Nat} {mc : Int} {lf : UInt32} (hm : h1 m = some (.inl (16, ja_hf ks T es.length mc lf))) (hR : ∀ z ∈ ja_hR es T f nx, h1 z.1 = some z.2 ∧ hB z.1 = none) (hnd : ((ja_hR es T f nx).map Prod.fst).Nodup) (hc : ja_hc es T f nx) (hk : ∀ q c, q ≠ a → hB q = some c → h1 q = some c) (ha : ∃ ca, h1 a = some ca) (hma : m = a ∨ hB m = none) : ja_hop hB a h1 m es T f nx ks mc lf := by
  refine ⟨hm, fun t e => ?_, fun e he => ?_, ?_, hc, hk, ha, hma⟩
  · subst e
    exact hR (t, _) (List.mem_append_left _ List.mem_cons_self)
  · exact hR (e.2.2.2, ja_nd nx e) (List.mem_append_right _ (List.mem_map.mpr ⟨e, he, rfl⟩))
  · unfold ja_hR at hnd
    rw [List.map_append] at hnd
    have := (List.nodup_append.mp hnd).2.1
    rwa [List.map_map] at this
theorem ja_hop_R {hB h1 : jj_H} {a m : Nat} {es : List ja_E} {T : Option Nat} {f : Int → Option Nat} {nx : Nat → Option Nat} {ks : Option Nat} {mc : Int} {lf : UInt32} (hO : ja_hop hB a h1 m es T f nx ks mc lf) : (∀ z ∈ ja_hR es T f nx, h1 z.1 = some z.2 ∧ hB z.1 = none ∧ ja_w z.2 ∧ ∀ o, z.2 = .inl o → o.1 = 17) ∧ ((ja_hR es T f nx).map Prod.fst).Nodup := by
  obtain ⟨o1, o2, o3, o4, o5, o6, o7, o8⟩ := hO
  constructor
  · intro z hz
    rcases List.mem_append.mp hz with hz | hz
    · cases T with
      | none => cases hz
      | some t =>
        have : z = (t, .inr (.inr (.inl (4, 16, f)))) := by simpa [ja_hT] using hz
        subst this
        exact ⟨(o2 t rfl).1, (o2 t rfl).2, trivial, fun o e => by cases e⟩
    · obtain ⟨e, he, rfl⟩ := List.mem_map.mp hz
      exact ⟨(o3 e he).1, (o3 e he).2, trivial, fun o e => by cases e; rfl⟩
  · unfold ja_hR
    rw [List.map_append, List.map_map, List.nodup_append]
    refine ⟨?_, o4, fun x hx y hy => ?_⟩
    · cases T <;> simp [ja_hT]
    · cases T with
      | none => cases hx
      | some t =>
        have : x = t := by simpa [ja_hT] using hx
        subst this
        obtain ⟨e, he, rfl⟩ := List.mem_map.mp hy
        intro e2
        have h3 := (o3 e he).1
        have h4 := (o2 x rfl).1
        have e3 : x = e.2.2.2 := e2
        rw [← e3, h4] at h3
        cases h3
theorem jj_flat3 {α : Type} {g : α → List jj_AV} (hg : ∀ x, (g x).length = 3) (hi : ∀ x y, g x = g y → x = y) : ∀ {xs ys : List α}, (xs.map g).flatten = (ys.map g).flatten → xs = ys
  | [], [], _ => rfl
  | [], y :: ys, h => by
    have := congrArg List.length h
    simp [hg] at this
    omega
  | x :: xs, [], h => by
    have := congrArg List.length h
    simp [hg] at this
  | x :: xs, y :: ys, h => by
    rw [List.map_cons, List.map_cons, List.flatten_cons, List.flatten_cons] at h
    obtain ⟨e1, e2⟩ := List.append_inj h ((hg x).trans (hg y).symm)
    rw [hi x y e1, jj_flat3 hg hi e2]
def ja_kv (e : ja_E) : Nat × Nat × Int := (e.1, e.2.1, e.2.2.1)
theorem jj_hm_eq {es : List ja_E} : jj_hm (es.map ja_kv) = .inr (.inr (.inr (.inr (3, (es.map (fun q => [jj_rf (some q.1), jj_rf (some q.2.1), .inl q.2.2.1])).flatten)))) := by
  unfold jj_hm
  rw [List.map_map]
  rfl
section HC2
variable {G : jj_G} {l : Launch}
theorem ja_hmc (J : jx_G G l) {hB h' : jj_H} {H : Heap} {a : Nat} {es : List ja_E} {T : Option Nat} {f : Int → Option Nat} {nx : Nat → Option Nat} {mc : Int} {lf : UInt32} (hO : ja_hop hB a h' a es T f nx none mc lf) (hR : jj_R G h' H) : jj_R G (jj_set hB a (jj_hm (es.map ja_kv))) H := by
  rw [jj_hm_eq]
  obtain ⟨w1, w2⟩ := ja_hop_R hO
  have hna : ∀ z ∈ ja_hR es T f nx, z.1 ≠ a := fun z hz e => by
    have h1 := (w1 z hz).1
    rw [e, hO.1] at h1
    have := (w1 z hz).2.2.2 _ (Option.some.inj h1).symm
    cases this
  refine ja_close J.2.1.1 (x := (3, _)) (L := (a, .inl (16, ja_hf none T es.length mc lf)) :: ja_hR es T f nx) hR ⟨16, _, _, rfl, rfl, es, T, f, nx, mc, lf, rfl, rfl, rfl, ?_, hO.2.2.2.2.1⟩ ?_ ?_ hO.2.2.2.2.2.1
  · refine List.nodup_cons.mpr ⟨fun hm => ?_, w2⟩
    obtain ⟨z, hz, e⟩ := List.mem_map.mp hm
    exact hna z hz e
  · intro z hz
    rcases List.mem_cons.mp hz with rfl | hz
    · exact ⟨hO.1, trivial⟩
    · exact ⟨(w1 z hz).1, (w1 z hz).2.2.1⟩
  · intro z hz hne
    rcases List.mem_cons.mp hz with rfl | hz
    · exact absurd rfl hne
    · exact (w1 z hz).2.1
theorem jb_hm (J : jx_G G l) {y : MethodName} {ws : List Cond} {fr lo : Nat} {As : List jj_AV} {h : jj_H} {K a : Nat} {kvs : List (Nat × Nat × Int)} (ha : h a = some (jj_hm kvs)) {N : Option jj_AV → jj_H → Prop}
    (C : ∀ es T f nx mc lf h1, kvs = es.map ja_kv → ja_hop h a h1 a es T f nx none mc lf → jj_Ct G l y ws fr lo As h1 K (fun v h' => ∃ hB es' T' f' nx' mc' lf', ja_hop hB a h' a es' T' f' nx' none mc' lf' ∧ N v (jj_set hB a (jj_hm (es'.map ja_kv)))) jj_F0) : jj_Ct G l y ws fr lo As h K N jj_F0 := by
  refine jj_Ct.ex (I := List ja_E × Option Nat × (Int → Option Nat) × (Nat → Option Nat) × Int × UInt32 × jj_H) (Pi := fun i => kvs = i.1.map ja_kv ∧ ja_hop h a i.2.2.2.2.2.2 a i.1 i.2.1 i.2.2.1 i.2.2.2.1 none i.2.2.2.2.1 i.2.2.2.2.2.1) (hh := fun i => i.2.2.2.2.2.2) ?_ (fun i hi => C _ _ _ _ _ _ _ hi.1 hi.2) ?_ (fun _ _ _ _ _ _ q => q.elim)
  · intro U hK hR
    rcases ja_open J.2.1.1 hR ha with ⟨L, ⟨ci, fs, R, rfl, hc, hT⟩, hn, hR'⟩ | ⟨-, hx, -⟩ | ⟨-, cell, -, -, -, hx⟩ | hx
    · obtain ⟨es, T, f, nx, mc, lf, e1, rfl, rfl, hnd, hcc⟩ := hT
      cases hc
      have e2 : kvs = es.map ja_kv := by
        refine jj_flat3 (g := fun q : Nat × Nat × Int => [jj_rf (some q.1), jj_rf (some q.2.1), .inl q.2.2]) (fun _ => rfl) (fun x y hxy => ?_) ?_
        · simp only [jj_rf, List.cons.injEq, Sum.inr.injEq, Sum.inl.injEq, Option.some.injEq, and_true] at hxy
          exact Prod.ext hxy.1 (Prod.ext hxy.2.1 hxy.2.2)
        · rw [List.map_map]
          exact e1
      have hnd' : (((a, (.inl (16, ja_hf none T es.length mc lf) : jj_C)) :: ja_hR es T f nx).map Prod.fst).Nodup := hnd
      have hna : ∀ z ∈ ja_hR es T f nx, z.1 ≠ a := fun z hz e => (List.nodup_cons.mp hnd).1 (List.mem_map.mpr ⟨z, hz, e⟩)
      refine ⟨(es, T, f, nx, mc, lf, _), ⟨e2, ja_hop_of ?_ ?_ (List.nodup_cons.mp hnd).2 hcc ?_ ?_ (Or.inl rfl)⟩, hR'⟩
      · exact ja_ov_mem hnd' (z := (a, _)) List.mem_cons_self
      · exact fun z hz => ⟨ja_ov_mem hnd' (List.mem_cons_of_mem _ hz), hn z (List.mem_cons_of_mem _ hz) (hna z hz)⟩
      · intro q c hq hqc
        refine (ja_ov_out fun z hz e => ?_).trans hqc
        rcases List.mem_cons.mp hz with rfl | hz
        · exact hq e.symm
        · have := hn z (List.mem_cons_of_mem _ hz) (hna z hz)
          rw [e, hqc] at this
          cases this
      · exact ⟨_, ja_ov_mem hnd' (z := (a, _)) List.mem_cons_self⟩
    · rcases hx with hx | hx <;> cases hx
    · cases hx
    · cases hx
  · rintro i v h' H hi ⟨hB, es', T', f', nx', mc', lf', hO', hN⟩ hR
    exact ⟨_, hN, ja_hmc J hO' hR⟩
/-- keys, open -/
theorem ja_kok_of {h h1 : jj_H} {a m : Nat} {es : List ja_E} {T : Option Nat} {f : Int → Option Nat} {nx : Nat → Option Nat} {ks : Option Nat} {mc : Int} {lf : UInt32} (hO : ja_hop h a h1 m es T f nx ks mc lf) (hs : ∀ cs, h a ≠ some (jj_str cs)) (hk : jj_hok h (es.map ja_kv)) : ja_kok h1 es ∧ ∀ cs, es.find? (ja_fd h1 cs) = es.find? (ja_fd h cs) := by
  have key : ∀ e ∈ es, ∃ ds, h e.1 = some (jj_str ds) ∧ e.2.2.1 = jj_hash ds := fun e he => hk (ja_kv e) (List.mem_map.mpr ⟨e, he, rfl⟩)
  have k2 : ∀ e ∈ es, ∀ ds, h e.1 = some (jj_str ds) → h1 e.1 = some (jj_str ds) := fun e he ds h2 => hO.2.2.2.2.2.1 e.1 _ (fun e3 => hs ds (by rw [← e3]; exact h2)) h2
  refine ⟨fun e he => ?_, fun cs => ja_find_congr fun e he => ?_⟩
  · obtain ⟨ds, h2, h3⟩ := key e he
    exact ⟨ds, k2 e he ds h2, h3⟩
  · obtain ⟨ds, h2, h3⟩ := key e he
    rw [h2, k2 e he ds h2]
theorem jj_hget_eq {h : jj_H} {cs : List Int} {es : List ja_E} : jj_hget h cs (es.map ja_kv) = (es.find? (ja_fd h cs)).map (fun e => e.2.1) := by
  unfold jj_hget
  rw [List.find?_map, Option.map_map]
  rfl
theorem jj_hm_str {kvs : List (Nat × Nat × Int)} (cs : List Int) : (some (jj_hm kvs) : Option jj_C) ≠ some (jj_str cs) := fun e => by
  have := Option.some.inj e
  simp [jj_hm, jj_str] at this
theorem jb_J19_init (J : jx_G G l) : jJ_J19_init G l := by
  intro o Q h k w
  obtain ⟨a, f, rfl, ha, w⟩ := w
  refine ⟨a, 0, rfl, Nat.zero_le _, ?_⟩
  refine jj_Ct.ex (I := Unit) (Pi := fun _ => True) (hh := fun _ => h) (fun _ _ hR => ⟨(), trivial, hR⟩) (fun _ _ => (cC_J19_init J (Q := fun h' => h' = jj_set h a (.inl (16, ja_hf none none 0 0 1061158912))) (E := jj_F0) ?_).room (by decide) (by decide)) ?_ (fun _ _ _ _ _ _ q => q.elim)
  · exact ⟨⟨a, rfl⟩, ⟨a, rfl⟩, a, _, rfl, ha, rfl⟩
  · rintro - v h' H - ⟨rfl, rfl⟩ hR
    refine ⟨_, ⟨rfl, w⟩, ja_hmc J (es := []) (T := none) (f := fun _ => none) (nx := fun _ => none) (mc := 0) (lf := 1061158912) (ja_hop_of (jj_set_self _ _ _) (fun z hz => by cases hz) List.nodup_nil ⟨fun _ => rfl, Nat.zero_le _, fun b _ => rfl⟩ (fun q c hq hc => (jj_set_ne _ _ hq).trans hc) ⟨_, jj_set_self _ _ _⟩ (Or.inl rfl)) hR⟩
theorem jb_J19_get (J : jx_G G l) : jJ_J19_get G l := by
  intro o x Q h k w
  obtain ⟨a, b, kvs, cs, rfl, rfl, ha, hb, hne, hk, w⟩ := w
  have hba : b ≠ a := fun e => by rw [e, ha] at hb; exact jj_hm_str cs hb
  refine ⟨a, _, 0, rfl, ha, rfl, Nat.zero_le _, jb_hm J ha fun es T f nx mc lf h1 e1 hO => ?_⟩
  subst e1
  obtain ⟨k1, k2⟩ := ja_kok_of hO (fun cs e => jj_hm_str cs (ha.symm.trans e)) hk
  refine (cC_J19_get J (Q := fun r h' => r = jj_hget h cs (es.map ja_kv) ∧ h' = h1) (E := jj_F0) ⟨⟨a, _, rfl, hO.1, rfl⟩, pJ_getNode hO k1 (hO.2.2.2.2.2.1 b _ hba hb) hne ?_⟩).to ?_ (fun _ _ _ q => q)
  · rw [jj_hget_eq, k2]
    cases hf : es.find? (ja_fd h cs) with
    | none => exact ⟨fun c => absurd rfl c, fun _ => ⟨rfl, rfl⟩⟩
    | some e =>
      have he := List.mem_of_find?_eq_some hf
      exact ⟨fun _ => ⟨e.2.2.2, _, some e.2.1, rfl, (hO.2.2.1 e he).1, rfl, rfl, rfl⟩, fun c => by cases c⟩
  · rintro v h' ⟨r, rfl, rfl, rfl⟩
    exact ⟨h, es, T, f, nx, mc, lf, hO, _, rfl, by rw [jj_set_same ha]; exact w⟩
theorem jb_J19_containsKey (J : jx_G G l) : jJ_J19_containsKey G l := by
  intro o x Q h k w
  obtain ⟨a, b, kvs, cs, rfl, rfl, ha, hb, hne, hk, w⟩ := w
  have hba : b ≠ a := fun e => by rw [e, ha] at hb; exact jj_hm_str cs hb
  refine ⟨a, _, 0, rfl, ha, rfl, Nat.zero_le _, jb_hm J ha fun es T f nx mc lf h1 e1 hO => ?_⟩
  subst e1
  obtain ⟨k1, k2⟩ := ja_kok_of hO (fun cs e => jj_hm_str cs (ha.symm.trans e)) hk
  refine (cC_J19_containsKey J (Q := fun r h' => r = (if jj_hget h cs (es.map ja_kv) = none then 0 else 1) ∧ h' = h1) (E := jj_F0) ⟨⟨a, _, rfl, hO.1, rfl⟩, pJ_getNode hO k1 (hO.2.2.2.2.2.1 b _ hba hb) hne ?_⟩).to ?_ (fun _ _ _ q => q)
  · rw [jj_hget_eq, k2]
    cases hf : es.find? (ja_fd h cs) with
    | none => exact ⟨fun _ => ⟨rfl, rfl⟩, fun c => absurd rfl c⟩
    | some e => exact ⟨(fun c => by cases c), fun _ => ⟨rfl, rfl⟩⟩
  · rintro v h' ⟨r, rfl, rfl, rfl⟩
    exact ⟨h, es, T, f, nx, mc, lf, hO, _, rfl, by rw [jj_set_same ha]; exact w⟩
theorem ja_insE_end {es : List ja_E} {e : ja_E} : ja_insE es e (es ++ [e]) := by
  refine ⟨fun b => ?_, List.Perm.refl _⟩
  unfold ja_F
  rw [List.filter_append]
  by_cases hb : b = ja_bk e
  · rw [if_pos hb, List.filter_cons_of_pos (by simp [hb])]
    rfl
  · rw [if_neg hb, List.filter_cons_of_neg (by simpa using Ne.symm hb)]
    simp
theorem jb_J19_put (J : jx_G G l) : jJ_J19_put G l := by
  intro o x y Q h k w
  obtain ⟨a, b, v, kvs, cs, rfl, rfl, rfl, ha, hb, hne, hk, hno, hl, hk7, w⟩ := w
  have hba : b ≠ a := fun e => by rw [e, ha] at hb; exact jj_hm_str cs hb
  refine ⟨a, _, 7, rfl, ha, rfl, hk7, jb_hm J ha fun es T f nx mc lf h1 e1 hO => ?_⟩
  subst e1
  obtain ⟨k1, k2⟩ := ja_kok_of hO (fun cs e => jj_hm_str cs (ha.symm.trans e)) hk
  rw [jj_hget_eq] at hno
  have hno' : es.find? (ja_fd h1 cs) = none := by
    rw [k2]
    cases hf : es.find? (ja_fd h cs) with
    | none => rfl
    | some e => rw [hf] at hno; cases hno
  refine (cC_J19_put J (Q := fun r h' => r = none ∧ ∃ nd T' f' nx', ja_hop h a h' a (es ++ [(b, v, jj_hash cs, nd)]) T' f' nx' none (mc + 1) lf) (E := jj_F0) (pJ_putNew hO k1 (hO.2.2.2.2.2.1 b _ hba hb) hne hno' (fun _ => by omega) (by omega) (by simpa using hl) (fun nd => ja_insE_end) fun nd h' T' f' nx' q1 _ => ⟨rfl, nd, T', f', nx', q1⟩)).to ?_ (fun _ _ _ q => q)
  rintro v' h' ⟨r, rfl, rfl, nd, T', f', nx', q1⟩
  refine ⟨h, _, T', f', nx', mc + 1, lf, q1, _, rfl, ?_⟩
  rw [List.map_append]
  exact w
end HC2
