/-! TREES, purely: a search tree by positions -/
def jt_u {α : Type} (f : Nat → α) (x : Nat) (v : α) : Nat → α := fun z => if z = x then v else f z
theorem jt_u_eq {α : Type} {f : Nat → α} {x : Nat} {v : α} : jt_u f x v x = v := if_pos rfl
theorem jt_u_ne {α : Type} {f : Nat → α} {x z : Nat} {v : α} (h : z ≠ x) : jt_u f x v z = f z := if_neg h
theorem jt_rot {ns : List Nat} {vl : Nat → Int} {lf rg pa lf' rg' pa' : Nat → Option Nat} {rt rt' : Option Nat} {pos a b : Nat → Int} {A B : Int} (W : jt_W ns vl lf rg pa rt pos a b A B) {p r : Nat} (hp : p ∈ ns) (hr : rg p = some r)
    (hrg : ∀ x ∈ ns, rg' x = if x = p then lf r else if rg x = some p then some r else rg x)
    (hlf : ∀ x ∈ ns, lf' x = if x = r then some p else if lf x = some p then some r else lf x)
    (hpa : ∀ x ∈ ns, pa' x = if x = p then some r else if x = r then pa p else if lf r = some x then some p else pa x)
    (hrt : rt' = if rt = some p then some r else rt) : jt_W ns vl lf' rg' pa' rt' pos (jt_u a r (a p)) (jt_u b p (pos r - 1)) A B := by
  obtain ⟨iv, ln, ls, rn, rs, pn, ps, tn, ts, mo, ij⟩ := W
  obtain ⟨hrn, hrp, hrb, hra⟩ := rs p hp r hr
  have i1 := iv p hp
  have i2 := iv r hrn
  have hne : p ≠ r := fun e => by rw [← e] at hra; omega
  refine ⟨?_, ?_, ?_, ?_, ?_, ?_, ?_, ?_, ?_, mo, ij⟩
  · intro x hx
    have := iv x hx
    unfold jt_u
    grind
  · intro x hx
    rw [hlf x hx]
    unfold jt_u
    grind
  · intro x hx y
    rw [hlf x hx]
    unfold jt_u
    grind
  · intro x hx
    rw [hrg x hx]
    unfold jt_u
    grind
  · intro x hx y
    rw [hrg x hx]
    unfold jt_u
    grind
  · intro x hx
    rw [hpa x hx]
    grind
  · intro x hx y
    rw [hpa x hx]
    grind (splits := 30)
  · grind
  · intro x
    unfold jt_u
    grind
theorem jt_mir {ns : List Nat} {vl : Nat → Int} {lf rg pa : Nat → Option Nat} {rt : Option Nat} {pos a b : Nat → Int} {A B : Int} (W : jt_W ns vl lf rg pa rt pos a b A B) : jt_W ns (fun x => - vl x) rg lf pa rt (fun x => - pos x) (fun x => - b x) (fun x => - a x) (-B) (-A) := by
  obtain ⟨iv, ln, ls, rn, rs, pn, ps, tn, ts, mo, ij⟩ := W
  refine ⟨fun x hx => ?_, fun x hx h => ?_, fun x hx y h => ?_, fun x hx h => ?_, fun x hx y h => ?_, pn, fun x hx p h => ?_, tn, fun x h => ?_, fun x hx z hz h => ?_, fun x hx z hz h => ?_⟩
  · have := iv x hx; grind
  · have := rn x hx h; grind
  · have := rs x hx y h
    exact ⟨this.1, this.2.1, by grind, by grind⟩
  · have := ln x hx h; grind
  · have := ls x hx y h
    exact ⟨this.1, this.2.1, by grind, by grind⟩
  · exact ⟨(ps x hx p h).1, (ps x hx p h).2.symm⟩
  · have := ts x h
    exact ⟨this.1, this.2.1, by grind, by grind⟩
  · have := mo z hz x hx (by grind); grind
  · exact ij x hx z hz (by grind)
theorem jt_rotR {ns : List Nat} {vl : Nat → Int} {lf rg pa lf' rg' pa' : Nat → Option Nat} {rt rt' : Option Nat} {pos a b : Nat → Int} {A B : Int} (W : jt_W ns vl lf rg pa rt pos a b A B) {p r : Nat} (hp : p ∈ ns) (hr : lf p = some r)
    (hlf : ∀ x ∈ ns, lf' x = if x = p then rg r else if lf x = some p then some r else lf x)
    (hrg : ∀ x ∈ ns, rg' x = if x = r then some p else if rg x = some p then some r else rg x)
    (hpa : ∀ x ∈ ns, pa' x = if x = p then some r else if x = r then pa p else if rg r = some x then some p else pa x)
    (hrt : rt' = if rt = some p then some r else rt) : ∃ a' b', jt_W ns vl lf' rg' pa' rt' pos a' b' A B := by
  have h := jt_mir (jt_rot (jt_mir W) hp hr hlf hrg hpa hrt)
  have e1 : (fun x => - - vl x) = vl := by funext x; omega
  have e2 : (fun x => - - pos x) = pos := by funext x; omega
  rw [e1, e2, Int.neg_neg, Int.neg_neg] at h
  exact ⟨_, _, h⟩
theorem jt_ins {ns : List Nat} {vl : Nat → Int} {lf rg pa : Nat → Option Nat} {rt : Option Nat} {pos a b : Nat → Int} {A B : Int} (W : jt_W ns vl lf rg pa rt pos a b A B) {p e : Nat} {v : Int} (hp : p ∈ ns) (hl : lf p = none) (he : e ∉ ns) (h1 : ∀ z ∈ ns, pos z < pos p → vl z < v) (h2 : ∀ z ∈ ns, pos p ≤ pos z → v < vl z) :
    ∃ pos' a' b', jt_W (e :: ns) (jt_u vl e v) (jt_u (jt_u lf e none) p (some e)) (jt_u rg e none) (jt_u pa e (some p)) rt pos' a' b' A (B + 1) := by
  obtain ⟨iv, ln, ls, rn, rs, pn, ps, tn, ts, mo, ij⟩ := W
  have hpe : p ≠ e := fun h => he (by rw [← h]; exact hp)
  have hne : ∀ x ∈ ns, x ≠ e := fun x hx h => he (by rw [← h]; exact hx)
  have i1 := iv p hp
  have l1 := ln p hp hl
  refine ⟨fun x => if x = e then pos p else if pos p ≤ pos x then pos x + 1 else pos x, fun x => if x = e then pos p else if pos p < a x then a x + 1 else a x, fun x => if x = e then pos p else if pos p ≤ b x then b x + 1 else b x, ?_, ?_, ?_, ?_, ?_, ?_, ?_, ?_, ?_, ?_, ?_⟩
  · intro x hx
    have := iv x
    grind
  · intro x hx
    unfold jt_u
    grind
  · intro x hx y
    unfold jt_u
    grind (splits := 30)
  · intro x hx
    unfold jt_u
    grind
  · intro x hx y
    unfold jt_u
    grind
  · intro x hx
    unfold jt_u
    grind
  · intro x hx y
    unfold jt_u
    grind
  · intro h
    rw [tn h] at hp
    cases hp
  · intro x h
    have := ts x h
    have := iv x
    unfold jt_u
    grind
  · intro x hx z hz
    unfold jt_u
    grind
  · intro x hx z hz
    grind
theorem jt_insR {ns : List Nat} {vl : Nat → Int} {lf rg pa : Nat → Option Nat} {rt : Option Nat} {pos a b : Nat → Int} {A B : Int} (W : jt_W ns vl lf rg pa rt pos a b A B) {p e : Nat} {v : Int} (hp : p ∈ ns) (hl : rg p = none) (he : e ∉ ns) (h1 : ∀ z ∈ ns, pos p < pos z → v < vl z) (h2 : ∀ z ∈ ns, pos z ≤ pos p → vl z < v) :
    ∃ pos' a' b' A', jt_W (e :: ns) (jt_u vl e v) (jt_u lf e none) (jt_u (jt_u rg e none) p (some e)) (jt_u pa e (some p)) rt pos' a' b' A' B := by
  obtain ⟨pos', a', b', h⟩ := jt_ins (v := -v) (jt_mir W) hp hl he (fun z hz h => by have := h1 z hz (by omega); omega) (fun z hz h => by have := h2 z hz (by omega); omega)
  have h := jt_mir h
  have e1 : (fun x => - jt_u (fun x => - vl x) e (-v) x) = jt_u vl e v := by
    funext x
    unfold jt_u
    split <;> grind
  rw [e1, Int.neg_neg] at h
  exact ⟨_, _, _, _, h⟩
theorem jt_one {e : Nat} {vl : Nat → Int} {lf rg pa : Nat → Option Nat} (h1 : lf e = none) (h2 : rg e = none) (h3 : pa e = none) : jt_W [e] vl lf rg pa (some e) (fun _ => 0) (fun _ => 0) (fun _ => 0) 0 0 := by
  refine ⟨?_, ?_, ?_, ?_, ?_, ?_, ?_, ?_, ?_, ?_, ?_⟩ <;> grind
theorem jt_nil {vl : Nat → Int} {lf rg pa : Nat → Option Nat} {pos a b : Nat → Int} {A B : Int} : jt_W [] vl lf rg pa none pos a b A B := by
  refine ⟨?_, ?_, ?_, ?_, ?_, ?_, ?_, ?_, ?_, ?_, ?_⟩ <;> grind
