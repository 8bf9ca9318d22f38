/-! THE JDK's OPERATIONS over the pure heap: what the component's programs say of them (jq_), their contracts (jJ_, a bundle jj_GJ), their rows -/
def jj_rf (x : Option Nat) : jj_AV := .inr (.inr (.inl x))
/-- lists, builders, maps, sets .. as abstract cells -/
def jj_al (mc : Int) (xs : List (Option Nat)) : jj_C := .inr (.inr (.inr (.inr (0, .inl mc :: xs.map jj_rf))))
def jj_sb (cs : List Int) : jj_C := .inr (.inr (.inr (.inr (2, cs.map (fun c => (.inl c : jj_AV))))))
def jj_hm (kvs : List (Nat × Nat × Int)) : jj_C := .inr (.inr (.inr (.inr (3, (kvs.map (fun q => [jj_rf (some q.1), jj_rf (some q.2.1), .inl q.2.2])).flatten))))
/-- a HashSet's entries in their order: key, its hash, node -/
def jj_hcs (es : List (Nat × Int × Nat)) : List jj_AV := (es.map (fun q => [jj_rf (some q.1), .inl q.2.1, jj_rf (some q.2.2)])).flatten
def jj_ht (mp : Nat) (es : List (Nat × Int × Nat)) : jj_C := .inr (.inr (.inr (.inr (4, jj_rf (some mp) :: jj_hcs es))))
def jj_hi (j : Nat) (s : Nat) (mp : Nat) (es : List (Nat × Int × Nat)) : jj_C := .inr (.inr (.inr (.inr (8, .inl j :: jj_rf (some s) :: jj_rf (some mp) :: jj_hcs es))))
def jj_pq (cmp : Nat) (es : List Nat) : jj_C := .inr (.inr (.inr (.inr (5, jj_rf (some cmp) :: es.map (fun a => jj_rf (some a))))))
def jj_ts (es : List (Nat × Int)) : jj_C := .inr (.inr (.inr (.inr (6, (es.map (fun q => [jj_rf (some q.1), .inl q.2])).flatten))))
def jj_bx (x : Int) : jj_C := .inr (.inr (.inr (.inr (9, [.inl x]))))
def jj_bz (x : Int) : jj_C := .inr (.inr (.inr (.inr (10, [.inl x]))))
def jj_kd (x : Int) (w : Nat) : jj_C := .inr (.inr (.inr (.inr (11, [.inl x, jj_rf (some w)]))))
/-- String.hashCode -/
def jj_hash (cs : List Int) : Int := cs.foldl (fun a c => (Int32.ofInt (31 * a + c)).toInt) 0
def jj_gO (o : Option Nat) (h : jj_H) (c : jj_C) : Prop := ∃ a, o = some a ∧ h a = some c
/-- what may lie in a list -/
def jj_el (h : jj_H) (x : Option Nat) : Prop := ∀ b, x = some b → ∃ c ci, h b = some c ∧ jj_cls c = some ci ∧ ci < 33
/-- ArrayList -/
def jq_J2_init (o : Option Nat) (n : Int) (Q : jj_H → Nat → Prop) (h : jj_H) (k : Nat) : Prop := ∃ a, o = some a ∧ h a = some (.inl (14, [.inl 0, jj_rf none, .inl 0])) ∧ 0 < n ∧ n < 64 ∧ 1 + n.toNat / 4 ≤ k ∧ Q (jj_set h a (jj_al 0 [])) (k - (1 + n.toNat / 4))
def jq_J2_add (o x : Option Nat) (Q : Int → jj_H → Nat → Prop) (h : jj_H) (k : Nat) : Prop := ∃ a mc xs, o = some a ∧ h a = some (jj_al mc xs) ∧ (∀ y ∈ x :: xs, jj_el h y) ∧ xs.length < 1000 ∧ 2 + xs.length / 2 ≤ k ∧ Q 1 (jj_set h a (jj_al (mc + 1) (xs ++ [x]))) (k - (2 + xs.length / 2))
def jq_J2_add_3 (o : Option Nat) (i : Int) (x : Option Nat) (Q : jj_H → Nat → Prop) (h : jj_H) (k : Nat) : Prop := ∃ a mc xs, o = some a ∧ h a = some (jj_al mc xs) ∧ 0 ≤ i ∧ i ≤ (xs.length : Int) ∧ (∀ y ∈ x :: xs, jj_el h y) ∧ xs.length < 1000 ∧ 2 + xs.length / 2 ≤ k ∧ Q (jj_set h a (jj_al (mc + 1) (xs.take i.toNat ++ x :: xs.drop i.toNat))) (k - (2 + xs.length / 2))
def jq_J2_addAll (o c : Option Nat) (Q : Int → jj_H → Nat → Prop) (h : jj_H) (k : Nat) : Prop := ∃ a b mc md xs ys, o = some a ∧ c = some b ∧ a ≠ b ∧ h a = some (jj_al mc xs) ∧ h b = some (jj_al md ys) ∧ (∀ y ∈ xs ++ ys, jj_el h y) ∧ xs.length < 1000 ∧ ys.length < 1000 ∧ 3 + xs.length + ys.length ≤ k ∧ ∀ r, Q r (jj_set h a (jj_al (mc + 1) (xs ++ ys))) (k - (3 + xs.length + ys.length))
def jq_J2_get (o : Option Nat) (i : Int) (Q : Option Nat → jj_H → Nat → Prop) (h : jj_H) (k : Nat) : Prop := ∃ a mc xs, o = some a ∧ h a = some (jj_al mc xs) ∧ 0 ≤ i ∧ i < (xs.length : Int) ∧ Q (xs.getD i.toNat none) h k
def jq_J2_set (o : Option Nat) (i : Int) (x : Option Nat) (Q : Option Nat → jj_H → Nat → Prop) (h : jj_H) (k : Nat) : Prop := ∃ a mc xs, o = some a ∧ h a = some (jj_al mc xs) ∧ 0 ≤ i ∧ i < (xs.length : Int) ∧ jj_el h x ∧ Q (xs.getD i.toNat none) (jj_set h a (jj_al mc (xs.set i.toNat x))) k
def jq_J2_remove (o : Option Nat) (i : Int) (Q : Option Nat → jj_H → Nat → Prop) (h : jj_H) (k : Nat) : Prop := ∃ a mc xs, o = some a ∧ h a = some (jj_al mc xs) ∧ 0 ≤ i ∧ i < (xs.length : Int) ∧ (∀ y ∈ xs, jj_el h y) ∧ xs.length < 1000 ∧ Q (xs.getD i.toNat none) (jj_set h a (jj_al (mc + 1) (xs.eraseIdx i.toNat))) k
def jq_J2_size (o : Option Nat) (Q : Int → jj_H → Nat → Prop) (h : jj_H) (k : Nat) : Prop := ∃ a mc xs, o = some a ∧ h a = some (jj_al mc xs) ∧ Q (xs.length : Int) h k
def jq_J2_isEmpty (o : Option Nat) (Q : Int → jj_H → Nat → Prop) (h : jj_H) (k : Nat) : Prop := ∃ a mc xs, o = some a ∧ h a = some (jj_al mc xs) ∧ Q (if xs.length = 0 then 1 else 0) h k
def jq_J2_iterator (o : Option Nat) (Q : Option Nat → jj_H → Nat → Prop) (h : jj_H) (k : Nat) : Prop := ∃ a mc xs, o = some a ∧ h a = some (jj_al mc xs) ∧ 2 ≤ k ∧ ∀ b, h b = none → Q (some b) (jj_set h b (.inl (15, [.inl 0, .inl (-1), .inl mc, jj_rf (some a)]))) (k - 2)
def jq_J21_hasNext (o : Option Nat) (Q : Int → jj_H → Nat → Prop) (h : jj_H) (k : Nat) : Prop := ∃ b a mc xs i l, o = some b ∧ h b = some (.inl (15, [.inl i, .inl l, .inl mc, jj_rf (some a)])) ∧ h a = some (jj_al mc xs) ∧ 0 ≤ i ∧ i ≤ (xs.length : Int) ∧ Q (if i = (xs.length : Int) then 0 else 1) h k
def jq_J21_next (o : Option Nat) (Q : Option Nat → jj_H → Nat → Prop) (h : jj_H) (k : Nat) : Prop := ∃ b a mc xs i l, o = some b ∧ h b = some (.inl (15, [.inl i, .inl l, .inl mc, jj_rf (some a)])) ∧ h a = some (jj_al mc xs) ∧ 0 ≤ i ∧ i < (xs.length : Int) ∧ Q (xs.getD i.toNat none) (jj_set h b (.inl (15, [.inl (i + 1), .inl i, .inl mc, jj_rf (some a)]))) k
/-- the set's iterator -/
def jq_J24_hasNext (o : Option Nat) (Q : Int → jj_H → Nat → Prop) (h : jj_H) (k : Nat) : Prop := ∃ b s mp es j, o = some b ∧ h b = some (jj_hi j s mp es) ∧ h s = some (jj_ht mp es) ∧ j ≤ es.length ∧ Q (if j = es.length then 0 else 1) h k
def jq_J25_next (o : Option Nat) (Q : Option Nat → jj_H → Nat → Prop) (h : jj_H) (k : Nat) : Prop := ∃ b s mp es j e, o = some b ∧ h b = some (jj_hi j s mp es) ∧ h s = some (jj_ht mp es) ∧ es[j]? = some e ∧ Q (some e.1) (jj_set h b (jj_hi (j + 1) s mp es)) k
/-- String -/
def jq_J9_length (o : Option Nat) (Q : Int → jj_H → Nat → Prop) (h : jj_H) (k : Nat) : Prop := ∃ a cs, o = some a ∧ h a = some (jj_str cs) ∧ Q (cs.length : Int) h k
def jq_J9_charAt (o : Option Nat) (i : Int) (Q : Int → jj_H → Nat → Prop) (h : jj_H) (k : Nat) : Prop := ∃ a cs, o = some a ∧ h a = some (jj_str cs) ∧ 0 ≤ i ∧ i < (cs.length : Int) ∧ Q (cs.getD i.toNat 0) h k
def jq_J9_equals (o x : Option Nat) (Q : Int → jj_H → Nat → Prop) (h : jj_H) (k : Nat) : Prop := ∃ a b cs ds, o = some a ∧ x = some b ∧ h a = some (jj_str cs) ∧ h b = some (jj_str ds) ∧ Q (if cs = ds then 1 else 0) h k
def jq_J9_hashCode (o : Option Nat) (Q : Int → jj_H → Nat → Prop) (h : jj_H) (k : Nat) : Prop := ∃ a cs, o = some a ∧ h a = some (jj_str cs) ∧ cs ≠ [] ∧ Q (jj_hash cs) h k
/-- StringBuilder -/
def jq_J8_init (o : Option Nat) (Q : jj_H → Nat → Prop) (h : jj_H) (k : Nat) : Prop := ∃ a, o = some a ∧ h a = some (.inl (26, [jj_rf none, .inl 0, .inl 0, .inl 0])) ∧ 5 ≤ k ∧ Q (jj_set h a (jj_sb [])) (k - 5)
def jq_J8_append_3 (o : Option Nat) (x : Int) (Q : Option Nat → jj_H → Nat → Prop) (h : jj_H) (k : Nat) : Prop := ∃ a cs, o = some a ∧ h a = some (jj_sb cs) ∧ cs.length < 100000 ∧ 0 ≤ x ∧ x < 256 ∧ 2 + cs.length ≤ k ∧ Q (some a) (jj_set h a (jj_sb (cs ++ [x]))) (k - (2 + cs.length))
def jq_J8_append (o x : Option Nat) (Q : Option Nat → jj_H → Nat → Prop) (h : jj_H) (k : Nat) : Prop := ∃ a b cs ds, o = some a ∧ x = some b ∧ h a = some (jj_sb cs) ∧ h b = some (jj_str ds) ∧ cs.length < 100000 ∧ ds.length < 100000 ∧ 2 + cs.length + ds.length ≤ k ∧ Q (some a) (jj_set h a (jj_sb (cs ++ ds))) (k - (2 + cs.length + ds.length))
def jq_J8_charAt (o : Option Nat) (i : Int) (Q : Int → jj_H → Nat → Prop) (h : jj_H) (k : Nat) : Prop := ∃ a cs, o = some a ∧ h a = some (jj_sb cs) ∧ 0 ≤ i ∧ i < (cs.length : Int) ∧ Q (cs.getD i.toNat 0) h k
def jq_J8_length (o : Option Nat) (Q : Int → jj_H → Nat → Prop) (h : jj_H) (k : Nat) : Prop := ∃ a cs, o = some a ∧ h a = some (jj_sb cs) ∧ Q (cs.length : Int) h k
def jq_J8_setLength (o : Option Nat) (n : Int) (Q : jj_H → Nat → Prop) (h : jj_H) (k : Nat) : Prop := ∃ a cs, o = some a ∧ h a = some (jj_sb cs) ∧ n = 0 ∧ Q (jj_set h a (jj_sb [])) k
def jq_J8_toString (o : Option Nat) (Q : Option Nat → jj_H → Nat → Prop) (h : jj_H) (k : Nat) : Prop := ∃ a cs, o = some a ∧ h a = some (jj_sb cs) ∧ 3 + cs.length / 4 ≤ k ∧ ∀ b, h b = none → Q (some b) (jj_set h b (jj_str cs)) (k - (3 + cs.length / 4))
/-- boxes: constants -/
def jq_J34_valueOf (gk : Nat → Nat) (x : Int) (Q : Option Nat → jj_H → Nat → Prop) (h : jj_H) (k : Nat) : Prop := (x = 0 ∨ x = 1) ∧ Q (some (gk (20 + x.toNat))) h k
def jq_J34_booleanValue (o : Option Nat) (Q : Int → jj_H → Nat → Prop) (h : jj_H) (k : Nat) : Prop := ∃ a x, o = some a ∧ h a = some (jj_bz x) ∧ (x = 0 ∨ x = 1) ∧ Q x h k
def jq_J17_valueOf (gk : Nat → Nat) (x : Int) (Q : Option Nat → jj_H → Nat → Prop) (h : jj_H) (k : Nat) : Prop := -128 ≤ x ∧ x < 128 ∧ Q (some (gk (228 + x).toNat)) h k
def jq_J17_intValue (o : Option Nat) (Q : Int → jj_H → Nat → Prop) (h : jj_H) (k : Nat) : Prop := ∃ a x, o = some a ∧ h a = some (jj_bx x) ∧ Q x h k
/-- HashMap: keys are strings, told apart by their texts; numbers as values -/
def jj_hok (h : jj_H) (kvs : List (Nat × Nat × Int)) : Prop := ∀ q ∈ kvs, ∃ cs, h q.1 = some (jj_str cs) ∧ q.2.2 = jj_hash cs
noncomputable def jj_hget (h : jj_H) (cs : List Int) (kvs : List (Nat × Nat × Int)) : Option Nat := (kvs.find? (fun q => @decide (h q.1 = some (jj_str cs)) (Classical.propDecidable _))).map (fun q => q.2.1)
def jq_J19_init (o : Option Nat) (Q : jj_H → Nat → Prop) (h : jj_H) (k : Nat) : Prop := ∃ a f, o = some a ∧ h a = some (.inl (16, [jj_rf none, jj_rf none, jj_rf none, jj_rf none, .inl 0, .inl 0, .inl 0, .inr (.inr (.inr f))])) ∧ Q (jj_set h a (jj_hm [])) k
def jq_J19_containsKey (o x : Option Nat) (Q : Int → jj_H → Nat → Prop) (h : jj_H) (k : Nat) : Prop := ∃ a b kvs cs, o = some a ∧ x = some b ∧ h a = some (jj_hm kvs) ∧ h b = some (jj_str cs) ∧ cs ≠ [] ∧ jj_hok h kvs ∧ Q (if jj_hget h cs kvs = none then 0 else 1) h k
def jq_J19_get (o x : Option Nat) (Q : Option Nat → jj_H → Nat → Prop) (h : jj_H) (k : Nat) : Prop := ∃ a b kvs cs, o = some a ∧ x = some b ∧ h a = some (jj_hm kvs) ∧ h b = some (jj_str cs) ∧ cs ≠ [] ∧ jj_hok h kvs ∧ Q (jj_hget h cs kvs) h k
def jq_J19_put (o x y : Option Nat) (Q : Option Nat → jj_H → Nat → Prop) (h : jj_H) (k : Nat) : Prop := ∃ a b v kvs cs, o = some a ∧ x = some b ∧ y = some v ∧ h a = some (jj_hm kvs) ∧ h b = some (jj_str cs) ∧ cs ≠ [] ∧ jj_hok h kvs ∧ jj_hget h cs kvs = none ∧ kvs.length < 7 ∧ 7 ≤ k ∧ Q none (jj_set h a (jj_hm (kvs ++ [(b, v, jj_hash cs)]))) (k - 7)
/-- HashSet of strings -/
def jj_sok (h : jj_H) (es : List (Nat × Int × Nat)) : Prop := ∀ q ∈ es, ∃ cs, h q.1 = some (jj_str cs) ∧ q.2.1 = jj_hash cs
def jj_shas (h : jj_H) (cs : List Int) (es : List (Nat × Int × Nat)) : Prop := ∃ q ∈ es, h q.1 = some (jj_str cs)
def jq_J33_init (o : Option Nat) (Q : jj_H → Nat → Prop) (h : jj_H) (k : Nat) : Prop := ∃ a, o = some a ∧ h a = some (.inl (20, [jj_rf none])) ∧ 3 ≤ k ∧ ∀ mp, Q (jj_set h a (jj_ht mp [])) (k - 3)
def jj_sadd (h : jj_H) (xs : List (Option Nat)) (es : List (Nat × Int × Nat)) : Prop := jj_sok h es ∧ (∀ q ∈ es, some q.1 ∈ xs) ∧ (∀ x ∈ xs, ∃ b cs, x = some b ∧ h b = some (jj_str cs) ∧ jj_shas h cs es) ∧ ∀ (i j : Nat) (p q : Nat × Int × Nat), es[i]? = some p → es[j]? = some q → h p.1 = h q.1 → i = j
def jq_J0_addAll (o x : Option Nat) (Q : Int → jj_H → Nat → Prop) (h : jj_H) (k : Nat) : Prop := ∃ a b mp mc xs, o = some a ∧ x = some b ∧ h a = some (jj_ht mp []) ∧ h b = some (jj_al mc xs) ∧ xs.length ≤ 6 ∧ (∀ y ∈ xs, ∃ c cs, y = some c ∧ h c = some (jj_str cs) ∧ cs ≠ []) ∧ 8 + 2 * xs.length ≤ k ∧ ∀ r es, jj_sadd h xs es → Q r (jj_set h a (jj_ht mp es)) (k - (8 + 2 * xs.length))
def jq_J33_contains (o x : Option Nat) (Q : Int → jj_H → Nat → Prop) (h : jj_H) (k : Nat) : Prop := ∃ a b mp es cs, o = some a ∧ x = some b ∧ h a = some (jj_ht mp es) ∧ h b = some (jj_str cs) ∧ cs ≠ [] ∧ jj_sok h es ∧ ∀ r : Int, ((r = 1 ∧ jj_shas h cs es) ∨ (r = 0 ∧ ¬ jj_shas h cs es)) → Q r h k
def jq_J33_size (o : Option Nat) (Q : Int → jj_H → Nat → Prop) (h : jj_H) (k : Nat) : Prop := ∃ a mp es, o = some a ∧ h a = some (jj_ht mp es) ∧ Q (es.length : Int) h k
def jq_J33_iterator (o : Option Nat) (Q : Option Nat → jj_H → Nat → Prop) (h : jj_H) (k : Nat) : Prop := ∃ a mp es, o = some a ∧ h a = some (jj_ht mp es) ∧ 3 ≤ k ∧ ∀ b, h b = none → Q (some b) (jj_set h b (jj_hi 0 a mp es)) (k - 3)
/-- PriorityQueue of groups, by the line of the first word, then by the number -/
def jj_gkey (h : jj_H) (cmp g : Nat) (q : Int × Int) : Prop := ∃ e fs lo n f gs i, h cmp = some (.inl (9, [jj_rf (some e)])) ∧ h e = some (.inl (3, fs)) ∧ fs[4]? = some (jj_rf (some lo)) ∧ h lo = some (.inr (.inl (0, n, f))) ∧ h g = some (.inl (7, gs)) ∧ gs[3]? = some (.inl i) ∧ 0 ≤ i ∧ i < (n : Int) ∧ f i = q.1 ∧ gs[0]? = some (.inl q.2) ∧ 0 ≤ q.1 ∧ q.1 < 1000000 ∧ 0 ≤ q.2 ∧ q.2 < 1000000
def jj_klt (p q : Int × Int) : Prop := p.1 < q.1 ∨ (p.1 = q.1 ∧ p.2 < q.2)
def jj_hord (h : jj_H) (cmp : Nat) (es : List Nat) : Prop := (∀ g ∈ es, ∃ q, jj_gkey h cmp g q) ∧ ∀ (i : Nat) (a b : Nat) (p q : Int × Int), 0 < i → es[i]? = some b → es[(i - 1) / 2]? = some a → jj_gkey h cmp a p → jj_gkey h cmp b q → ¬ jj_klt q p
def jq_J41_init (o x : Option Nat) (Q : jj_H → Nat → Prop) (h : jj_H) (k : Nat) : Prop := ∃ a b, o = some a ∧ x = some b ∧ h a = some (.inl (21, [jj_rf none, .inl 0, jj_rf none, .inl 0])) ∧ (∃ e, h b = some (.inl (9, [jj_rf (some e)]))) ∧ 3 ≤ k ∧ Q (jj_set h a (jj_pq b [])) (k - 3)
def jq_J41_add (o x : Option Nat) (Q : Int → jj_H → Nat → Prop) (h : jj_H) (k : Nat) : Prop := ∃ a b cmp es, o = some a ∧ x = some b ∧ h a = some (jj_pq cmp es) ∧ jj_hord h cmp es ∧ (∃ q, jj_gkey h cmp b q) ∧ es.length < 60 ∧ 2 + es.length / 2 ≤ k ∧ ∀ es', es'.Perm (b :: es) → jj_hord h cmp es' → Q 1 (jj_set h a (jj_pq cmp es')) (k - (2 + es.length / 2))
def jq_J0_isEmpty (o : Option Nat) (Q : Int → jj_H → Nat → Prop) (h : jj_H) (k : Nat) : Prop := ∃ a cmp es, o = some a ∧ h a = some (jj_pq cmp es) ∧ Q (if es.length = 0 then 1 else 0) h k
def jq_J41_poll (o : Option Nat) (Q : Option Nat → jj_H → Nat → Prop) (h : jj_H) (k : Nat) : Prop := ∃ a cmp e es, o = some a ∧ h a = some (jj_pq cmp (e :: es)) ∧ jj_hord h cmp (e :: es) ∧ (e :: es).length < 60 ∧ ∀ es', es'.Perm es → jj_hord h cmp es' → Q (some e) (jj_set h a (jj_pq cmp es')) k
/-- TreeSet of numbers -/
def jq_J42_init (o : Option Nat) (Q : jj_H → Nat → Prop) (h : jj_H) (k : Nat) : Prop := ∃ a, o = some a ∧ h a = some (.inl (22, [jj_rf none])) ∧ 3 ≤ k ∧ Q (jj_set h a (jj_ts [])) (k - 3)
def jq_J42_add (o x : Option Nat) (Q : Int → jj_H → Nat → Prop) (h : jj_H) (k : Nat) : Prop := ∃ a b es v, o = some a ∧ x = some b ∧ h a = some (jj_ts es) ∧ h b = some (jj_bx v) ∧ jj_r v ∧ (∀ q ∈ es, h q.1 = some (jj_bx q.2) ∧ jj_r q.2) ∧ es.length < 100 ∧ 2 ≤ k ∧ ((∃ q ∈ es, q.2 = v) → Q 0 h (k - 2)) ∧ ((∀ q ∈ es, q.2 ≠ v) → ∀ es', es'.Perm ((b, v) :: es) → Q 1 (jj_set h a (jj_ts es')) (k - 2))
def jq_J42_size (o : Option Nat) (Q : Int → jj_H → Nat → Prop) (h : jj_H) (k : Nat) : Prop := ∃ a es, o = some a ∧ h a = some (jj_ts es) ∧ Q (es.length : Int) h k
/-- exceptions: their own fields stay -/
def jq_J4_init_3 (o x y : Option Nat) (z w : Int) (Q : jj_H → Nat → Prop) (h : jj_H) (k : Nat) : Prop := ∃ a ci fs, o = some a ∧ h a = some (.inl (ci, fs)) ∧ (ci = 11 ∨ ci = 12 ∨ ci = 13) ∧ x = none ∧ z = 0 ∧ w = 0 ∧ (∀ b, y = some b → ∃ c, h b = some c) ∧ ∀ fs' : List jj_AV, fs'.length = fs.length → (∀ j, 6 ≤ j → fs'[j]? = fs[j]?) → Q (jj_set h a (.inl (ci, fs'))) k
/-- the kinds -/
def jq_X9_values (gk : Nat → Nat) (Q : Option Nat → jj_H → Nat → Prop) (h : jj_H) (k : Nat) : Prop := 2 ≤ k ∧ ∀ b, h b = none → Q (some b) (jj_set h b (.inr (.inr (.inl (5, 4, fun j => some (gk (22 + j.toNat))))))) (k - 2)
def jq_J44_ordinal (o : Option Nat) (Q : Int → jj_H → Nat → Prop) (h : jj_H) (k : Nat) : Prop := ∃ a x w, o = some a ∧ h a = some (jj_kd x w) ∧ Q x h k
def jq_word (o : Option Nat) (Q : Option Nat → jj_H → Nat → Prop) (h : jj_H) (k : Nat) : Prop := ∃ a x w, o = some a ∧ h a = some (jj_kd x w) ∧ Q (some w) h k
/-- contracts: of a receiver of a class, of a constructor, of a static method -/
def jj_jc (G : jj_G) (l : Launch) (y : MethodName) (cc : ByteArray) (maxL : Nat) (ret : Option FieldType) (ci : Nat) (o : Option Nat) (As : List jj_AV) (h : jj_H) (k : Nat) (N : Option jj_AV → jj_H → Nat → Prop) : Prop := ∃ a c K, o = some a ∧ h a = some c ∧ jj_cls c = some ci ∧ K ≤ k ∧ jj_Ct G l y (ws_ y cc maxL ret) 12 600 (.inr (.inr (.inl (some a))) :: As) h K (fun v h' => N v h' (k - K)) jj_F0
def jj_ji (G : jj_G) (l : Launch) (y : MethodName) (cc : ByteArray) (maxL : Nat) (o : Option Nat) (As : List jj_AV) (h : jj_H) (k : Nat) (N : Option jj_AV → jj_H → Nat → Prop) : Prop := ∃ a K, o = some a ∧ K ≤ k ∧ jj_Ct G l y (ws_ y cc maxL none) 12 600 (.inr (.inr (.inl (some a))) :: As) h K (fun v h' => N v h' (k - K)) jj_F0
def jj_js (G : jj_G) (l : Launch) (y : MethodName) (cc : ByteArray) (maxL : Nat) (ret : Option FieldType) (As : List jj_AV) (h : jj_H) (k : Nat) (N : Option jj_AV → jj_H → Nat → Prop) : Prop := ∃ K, K ≤ k ∧ jj_Ct G l y (ws_ y cc maxL ret) 12 600 As h K (fun v h' => N v h' (k - K)) jj_F0
/-- ends of the three kinds -/
def jn_v (Q : jj_H → Nat → Prop) : Option jj_AV → jj_H → Nat → Prop := fun v h k => v = none ∧ Q h k
def jn_i (Q : Int → jj_H → Nat → Prop) : Option jj_AV → jj_H → Nat → Prop := fun v h k => ∃ r, v = some (.inl r) ∧ Q r h k
def jn_r (Q : Option Nat → jj_H → Nat → Prop) : Option jj_AV → jj_H → Nat → Prop := fun v h k => ∃ r, v = some (.inr (.inr (.inl r))) ∧ Q r h k
def jJ_J2_init (G : jj_G) (l : Launch) : Prop := ∀ (o : Option Nat) (x0 : Int) (Q : jj_H → Nat → Prop) (h : jj_H) (k : Nat), jq_J2_init o x0 Q h k → jj_ji G l yJ2_init cJ2_init 2 o [.inl x0] h k (jn_v Q)
def jJ_J2_add (G : jj_G) (l : Launch) : Prop := ∀ (o : Option Nat) (x0 : Option Nat) (Q : Int → jj_H → Nat → Prop) (h : jj_H) (k : Nat), jq_J2_add o x0 Q h k → jj_jc G l yJ2_add cJ2_add 2 (some (.boolean)) 14 o [.inr (.inr (.inl x0))] h k (jn_i Q)
def jJ_J2_add_3 (G : jj_G) (l : Launch) : Prop := ∀ (o : Option Nat) (x0 : Int) (x1 : Option Nat) (Q : jj_H → Nat → Prop) (h : jj_H) (k : Nat), jq_J2_add_3 o x0 x1 Q h k → jj_jc G l yJ2_add_3 cJ2_add_3 5 (none) 14 o [.inl x0, .inr (.inr (.inl x1))] h k (jn_v Q)
def jJ_J2_addAll (G : jj_G) (l : Launch) : Prop := ∀ (o : Option Nat) (x0 : Option Nat) (Q : Int → jj_H → Nat → Prop) (h : jj_H) (k : Nat), jq_J2_addAll o x0 Q h k → jj_jc G l yJ2_addAll cJ2_addAll 6 (some (.boolean)) 14 o [.inr (.inr (.inl x0))] h k (jn_i Q)
def jJ_J2_get (G : jj_G) (l : Launch) : Prop := ∀ (o : Option Nat) (x0 : Int) (Q : Option Nat → jj_H → Nat → Prop) (h : jj_H) (k : Nat), jq_J2_get o x0 Q h k → jj_jc G l yJ2_get cJ2_get 2 (some ((.object "java/lang/Object"))) 14 o [.inl x0] h k (jn_r Q)
def jJ_J2_set (G : jj_G) (l : Launch) : Prop := ∀ (o : Option Nat) (x0 : Int) (x1 : Option Nat) (Q : Option Nat → jj_H → Nat → Prop) (h : jj_H) (k : Nat), jq_J2_set o x0 x1 Q h k → jj_jc G l yJ2_set cJ2_set 4 (some ((.object "java/lang/Object"))) 14 o [.inl x0, .inr (.inr (.inl x1))] h k (jn_r Q)
def jJ_J2_remove (G : jj_G) (l : Launch) : Prop := ∀ (o : Option Nat) (x0 : Int) (Q : Option Nat → jj_H → Nat → Prop) (h : jj_H) (k : Nat), jq_J2_remove o x0 Q h k → jj_jc G l yJ2_remove cJ2_remove 4 (some ((.object "java/lang/Object"))) 14 o [.inl x0] h k (jn_r Q)
def jJ_J2_size (G : jj_G) (l : Launch) : Prop := ∀ (o : Option Nat) (Q : Int → jj_H → Nat → Prop) (h : jj_H) (k : Nat), jq_J2_size o Q h k → jj_jc G l yJ2_size cJ2_size 1 (some (.int)) 14 o [] h k (jn_i Q)
def jJ_J2_isEmpty (G : jj_G) (l : Launch) : Prop := ∀ (o : Option Nat) (Q : Int → jj_H → Nat → Prop) (h : jj_H) (k : Nat), jq_J2_isEmpty o Q h k → jj_jc G l yJ2_isEmpty cJ2_isEmpty 1 (some (.boolean)) 14 o [] h k (jn_i Q)
def jJ_J2_iterator (G : jj_G) (l : Launch) : Prop := ∀ (o : Option Nat) (Q : Option Nat → jj_H → Nat → Prop) (h : jj_H) (k : Nat), jq_J2_iterator o Q h k → jj_jc G l yJ2_iterator cJ2_iterator 1 (some ((.object "java/util/Iterator"))) 14 o [] h k (jn_r Q)
def jJ_J21_hasNext (G : jj_G) (l : Launch) : Prop := ∀ (o : Option Nat) (Q : Int → jj_H → Nat → Prop) (h : jj_H) (k : Nat), jq_J21_hasNext o Q h k → jj_jc G l yJ21_hasNext cJ21_hasNext 1 (some (.boolean)) 15 o [] h k (jn_i Q)
def jJ_J21_next (G : jj_G) (l : Launch) : Prop := ∀ (o : Option Nat) (Q : Option Nat → jj_H → Nat → Prop) (h : jj_H) (k : Nat), jq_J21_next o Q h k → jj_jc G l yJ21_next cJ21_next 3 (some ((.object "java/lang/Object"))) 15 o [] h k (jn_r Q)
def jJ_J24_hasNext (G : jj_G) (l : Launch) : Prop := ∀ (o : Option Nat) (Q : Int → jj_H → Nat → Prop) (h : jj_H) (k : Nat), jq_J24_hasNext o Q h k → jj_jc G l yJ24_hasNext cJ24_hasNext 1 (some (.boolean)) 19 o [] h k (jn_i Q)
def jJ_J25_next (G : jj_G) (l : Launch) : Prop := ∀ (o : Option Nat) (Q : Option Nat → jj_H → Nat → Prop) (h : jj_H) (k : Nat), jq_J25_next o Q h k → jj_jc G l yJ25_next cJ25_next 1 (some ((.object "java/lang/Object"))) 19 o [] h k (jn_r Q)
def jJ_J9_length (G : jj_G) (l : Launch) : Prop := ∀ (o : Option Nat) (Q : Int → jj_H → Nat → Prop) (h : jj_H) (k : Nat), jq_J9_length o Q h k → jj_jc G l yJ9_length cJ9_length 1 (some (.int)) 25 o [] h k (jn_i Q)
def jJ_J9_charAt (G : jj_G) (l : Launch) : Prop := ∀ (o : Option Nat) (x0 : Int) (Q : Int → jj_H → Nat → Prop) (h : jj_H) (k : Nat), jq_J9_charAt o x0 Q h k → jj_jc G l yJ9_charAt cJ9_charAt 2 (some (.char)) 25 o [.inl x0] h k (jn_i Q)
def jJ_J9_equals (G : jj_G) (l : Launch) : Prop := ∀ (o : Option Nat) (x0 : Option Nat) (Q : Int → jj_H → Nat → Prop) (h : jj_H) (k : Nat), jq_J9_equals o x0 Q h k → jj_jc G l yJ9_equals cJ9_equals 3 (some (.boolean)) 25 o [.inr (.inr (.inl x0))] h k (jn_i Q)
def jJ_J9_hashCode (G : jj_G) (l : Launch) : Prop := ∀ (o : Option Nat) (Q : Int → jj_H → Nat → Prop) (h : jj_H) (k : Nat), jq_J9_hashCode o Q h k → jj_jc G l yJ9_hashCode cJ9_hashCode 2 (some (.int)) 25 o [] h k (jn_i Q)
def jJ_J8_init (G : jj_G) (l : Launch) : Prop := ∀ (o : Option Nat) (Q : jj_H → Nat → Prop) (h : jj_H) (k : Nat), jq_J8_init o Q h k → jj_ji G l yJ8_init cJ8_init 1 o [] h k (jn_v Q)
def jJ_J8_append_3 (G : jj_G) (l : Launch) : Prop := ∀ (o : Option Nat) (x0 : Int) (Q : Option Nat → jj_H → Nat → Prop) (h : jj_H) (k : Nat), jq_J8_append_3 o x0 Q h k → jj_jc G l yJ8_append_3 cJ8_append_3 2 (some ((.object "java/lang/StringBuilder"))) 26 o [.inl x0] h k (jn_r Q)
def jJ_J8_append (G : jj_G) (l : Launch) : Prop := ∀ (o : Option Nat) (x0 : Option Nat) (Q : Option Nat → jj_H → Nat → Prop) (h : jj_H) (k : Nat), jq_J8_append o x0 Q h k → jj_jc G l yJ8_append cJ8_append 2 (some ((.object "java/lang/StringBuilder"))) 26 o [.inr (.inr (.inl x0))] h k (jn_r Q)
def jJ_J8_charAt (G : jj_G) (l : Launch) : Prop := ∀ (o : Option Nat) (x0 : Int) (Q : Int → jj_H → Nat → Prop) (h : jj_H) (k : Nat), jq_J8_charAt o x0 Q h k → jj_jc G l yJ8_charAt cJ8_charAt 2 (some (.char)) 26 o [.inl x0] h k (jn_i Q)
def jJ_J8_length (G : jj_G) (l : Launch) : Prop := ∀ (o : Option Nat) (Q : Int → jj_H → Nat → Prop) (h : jj_H) (k : Nat), jq_J8_length o Q h k → jj_jc G l yJ8_length cJ8_length 1 (some (.int)) 26 o [] h k (jn_i Q)
def jJ_J8_setLength (G : jj_G) (l : Launch) : Prop := ∀ (o : Option Nat) (x0 : Int) (Q : jj_H → Nat → Prop) (h : jj_H) (k : Nat), jq_J8_setLength o x0 Q h k → jj_jc G l yJ8_setLength cJ8_setLength 2 (none) 26 o [.inl x0] h k (jn_v Q)
def jJ_J8_toString (G : jj_G) (l : Launch) : Prop := ∀ (o : Option Nat) (Q : Option Nat → jj_H → Nat → Prop) (h : jj_H) (k : Nat), jq_J8_toString o Q h k → jj_jc G l yJ8_toString cJ8_toString 1 (some ((.object "java/lang/String"))) 26 o [] h k (jn_r Q)
def jJ_J34_valueOf (G : jj_G) (l : Launch) : Prop := ∀ (x0 : Int) (Q : Option Nat → jj_H → Nat → Prop) (h : jj_H) (k : Nat), jq_J34_valueOf (jj_gk G) x0 Q h k → jj_js G l yJ34_valueOf cJ34_valueOf 1 (some ((.object "java/lang/Boolean"))) [.inl x0] h k (jn_r Q)
def jJ_J34_booleanValue (G : jj_G) (l : Launch) : Prop := ∀ (o : Option Nat) (Q : Int → jj_H → Nat → Prop) (h : jj_H) (k : Nat), jq_J34_booleanValue o Q h k → jj_jc G l yJ34_booleanValue cJ34_booleanValue 1 (some (.boolean)) 31 o [] h k (jn_i Q)
def jJ_J17_valueOf (G : jj_G) (l : Launch) : Prop := ∀ (x0 : Int) (Q : Option Nat → jj_H → Nat → Prop) (h : jj_H) (k : Nat), jq_J17_valueOf (jj_gk G) x0 Q h k → jj_js G l yJ17_valueOf cJ17_valueOf 1 (some ((.object "java/lang/Integer"))) [.inl x0] h k (jn_r Q)
def jJ_J17_intValue (G : jj_G) (l : Launch) : Prop := ∀ (o : Option Nat) (Q : Int → jj_H → Nat → Prop) (h : jj_H) (k : Nat), jq_J17_intValue o Q h k → jj_jc G l yJ17_intValue cJ17_intValue 1 (some (.int)) 27 o [] h k (jn_i Q)
def jJ_J19_init (G : jj_G) (l : Launch) : Prop := ∀ (o : Option Nat) (Q : jj_H → Nat → Prop) (h : jj_H) (k : Nat), jq_J19_init o Q h k → jj_ji G l yJ19_init cJ19_init 1 o [] h k (jn_v Q)
def jJ_J19_containsKey (G : jj_G) (l : Launch) : Prop := ∀ (o : Option Nat) (x0 : Option Nat) (Q : Int → jj_H → Nat → Prop) (h : jj_H) (k : Nat), jq_J19_containsKey o x0 Q h k → jj_jc G l yJ19_containsKey cJ19_containsKey 2 (some (.boolean)) 16 o [.inr (.inr (.inl x0))] h k (jn_i Q)
def jJ_J19_get (G : jj_G) (l : Launch) : Prop := ∀ (o : Option Nat) (x0 : Option Nat) (Q : Option Nat → jj_H → Nat → Prop) (h : jj_H) (k : Nat), jq_J19_get o x0 Q h k → jj_jc G l yJ19_get cJ19_get 3 (some ((.object "java/lang/Object"))) 16 o [.inr (.inr (.inl x0))] h k (jn_r Q)
def jJ_J19_put (G : jj_G) (l : Launch) : Prop := ∀ (o : Option Nat) (x0 : Option Nat) (x1 : Option Nat) (Q : Option Nat → jj_H → Nat → Prop) (h : jj_H) (k : Nat), jq_J19_put o x0 x1 Q h k → jj_jc G l yJ19_put cJ19_put 3 (some ((.object "java/lang/Object"))) 16 o [.inr (.inr (.inl x0)), .inr (.inr (.inl x1))] h k (jn_r Q)
def jJ_J33_init (G : jj_G) (l : Launch) : Prop := ∀ (o : Option Nat) (Q : jj_H → Nat → Prop) (h : jj_H) (k : Nat), jq_J33_init o Q h k → jj_ji G l yJ33_init cJ33_init 1 o [] h k (jn_v Q)
def jJ_J0_addAll (G : jj_G) (l : Launch) : Prop := ∀ (o : Option Nat) (x0 : Option Nat) (Q : Int → jj_H → Nat → Prop) (h : jj_H) (k : Nat), jq_J0_addAll o x0 Q h k → jj_jc G l yJ0_addAll cJ0_addAll 5 (some (.boolean)) 20 o [.inr (.inr (.inl x0))] h k (jn_i Q)
def jJ_J33_contains (G : jj_G) (l : Launch) : Prop := ∀ (o : Option Nat) (x0 : Option Nat) (Q : Int → jj_H → Nat → Prop) (h : jj_H) (k : Nat), jq_J33_contains o x0 Q h k → jj_jc G l yJ33_contains cJ33_contains 2 (some (.boolean)) 20 o [.inr (.inr (.inl x0))] h k (jn_i Q)
def jJ_J33_size (G : jj_G) (l : Launch) : Prop := ∀ (o : Option Nat) (Q : Int → jj_H → Nat → Prop) (h : jj_H) (k : Nat), jq_J33_size o Q h k → jj_jc G l yJ33_size cJ33_size 1 (some (.int)) 20 o [] h k (jn_i Q)
def jJ_J33_iterator (G : jj_G) (l : Launch) : Prop := ∀ (o : Option Nat) (Q : Option Nat → jj_H → Nat → Prop) (h : jj_H) (k : Nat), jq_J33_iterator o Q h k → jj_jc G l yJ33_iterator cJ33_iterator 1 (some ((.object "java/util/Iterator"))) 20 o [] h k (jn_r Q)
def jJ_J41_init (G : jj_G) (l : Launch) : Prop := ∀ (o : Option Nat) (x0 : Option Nat) (Q : jj_H → Nat → Prop) (h : jj_H) (k : Nat), jq_J41_init o x0 Q h k → jj_ji G l yJ41_init cJ41_init 2 o [.inr (.inr (.inl x0))] h k (jn_v Q)
def jJ_J41_add (G : jj_G) (l : Launch) : Prop := ∀ (o : Option Nat) (x0 : Option Nat) (Q : Int → jj_H → Nat → Prop) (h : jj_H) (k : Nat), jq_J41_add o x0 Q h k → jj_jc G l yJ41_add cJ41_add 2 (some (.boolean)) 21 o [.inr (.inr (.inl x0))] h k (jn_i Q)
def jJ_J0_isEmpty (G : jj_G) (l : Launch) : Prop := ∀ (o : Option Nat) (Q : Int → jj_H → Nat → Prop) (h : jj_H) (k : Nat), jq_J0_isEmpty o Q h k → jj_jc G l yJ0_isEmpty cJ0_isEmpty 1 (some (.boolean)) 21 o [] h k (jn_i Q)
def jJ_J41_poll (G : jj_G) (l : Launch) : Prop := ∀ (o : Option Nat) (Q : Option Nat → jj_H → Nat → Prop) (h : jj_H) (k : Nat), jq_J41_poll o Q h k → jj_jc G l yJ41_poll cJ41_poll 6 (some ((.object "java/lang/Object"))) 21 o [] h k (jn_r Q)
def jJ_J42_init (G : jj_G) (l : Launch) : Prop := ∀ (o : Option Nat) (Q : jj_H → Nat → Prop) (h : jj_H) (k : Nat), jq_J42_init o Q h k → jj_ji G l yJ42_init cJ42_init 1 o [] h k (jn_v Q)
def jJ_J42_add (G : jj_G) (l : Launch) : Prop := ∀ (o : Option Nat) (x0 : Option Nat) (Q : Int → jj_H → Nat → Prop) (h : jj_H) (k : Nat), jq_J42_add o x0 Q h k → jj_jc G l yJ42_add cJ42_add 2 (some (.boolean)) 22 o [.inr (.inr (.inl x0))] h k (jn_i Q)
def jJ_J42_size (G : jj_G) (l : Launch) : Prop := ∀ (o : Option Nat) (Q : Int → jj_H → Nat → Prop) (h : jj_H) (k : Nat), jq_J42_size o Q h k → jj_jc G l yJ42_size cJ42_size 1 (some (.int)) 22 o [] h k (jn_i Q)
def jJ_J4_init_3 (G : jj_G) (l : Launch) : Prop := ∀ (o : Option Nat) (x0 : Option Nat) (x1 : Option Nat) (x2 : Int) (x3 : Int) (Q : jj_H → Nat → Prop) (h : jj_H) (k : Nat), jq_J4_init_3 o x0 x1 x2 x3 Q h k → jj_ji G l yJ4_init_3 cJ4_init_3 5 o [.inr (.inr (.inl x0)), .inr (.inr (.inl x1)), .inl x2, .inl x3] h k (jn_v Q)
def jJ_X9_values (G : jj_G) (l : Launch) : Prop := ∀ (Q : Option Nat → jj_H → Nat → Prop) (h : jj_H) (k : Nat), jq_X9_values (jj_gk G) Q h k → jj_js G l yX9_values cX9_values 0 (some ((.array (.object "NoteImporter$Kind")))) [] h k (jn_r Q)
def jJ_J44_ordinal (G : jj_G) (l : Launch) : Prop := ∀ (o : Option Nat) (Q : Int → jj_H → Nat → Prop) (h : jj_H) (k : Nat), jq_J44_ordinal o Q h k → jj_jc G l yJ44_ordinal cJ44_ordinal 1 (some (.int)) 32 o [] h k (jn_i Q)
/-- interface calls, throws -/
def jj_yhn : MethodName := ⟨"java/util/Iterator", "hasNext", "()Z"⟩
def jj_ynx : MethodName := ⟨"java/util/Iterator", "next", "()Ljava/lang/Object;"⟩
def jJ_tab (G : jj_G) (_l : Launch) : Prop := ∀ U, jj_ge G U → va_Fw RJ21 jj_yhn yJ21_hasNext U ∧ va_Fw RJ21 jj_ynx yJ21_next U ∧ va_Fw RJ25 jj_yhn yJ24_hasNext U ∧ va_Fw RJ25 jj_ynx yJ25_next U ∧ va_AO "NoteImporter$Library" U ∧ va_AO "NoteImporter$Alignment" U ∧ va_AO "NoteImporter$Anchor" U
/-- what a throw asks of the heap -/
def jj_ZQ (G : jj_G) : Prop := ∀ U, jj_ge G U → ∀ H : Heap, jj_gb G ≤ H.size → (∀ q : Nat, q < jj_gb G → H[q]? = (jj_gH G)[q]?) → vx_Zq Bundle.tN "UNASSIGNED_STACK" Bundle.steD (fun q => jj_gb G ≤ q) U H ∧ vx_Zq Bundle.tN "SUPPRESSED_SENTINEL" Bundle.listD (fun q => jj_gb G ≤ q) U H
def jJ_word (G : jj_G) (_l : Launch) : Prop := ∀ (X : jj_X) (own : String) (cc : ByteArray) (nL pc idx : Nat) (host : String) (vs : List (Nat × jj_AV)) (st : List jj_AV) (o : Option Nat) (Q : Option Nat → jj_H → Nat → Prop) (h : jj_H) (k : Nat), X.1 = G → jj_F X own cc nL → Cond.fieldLinkNest own idx RX9 "word" "Ljava/lang/String;" host ∈ lw_tbl → decode cc pc = .ok (.getfield idx, 3) → jq_word o Q h k → (∀ r h' k', Q r h' k' → jj_J X nL (pc + 3) vs (.inr (.inr (.inl r)) :: st) h' k') → jj_J X nL pc vs (.inr (.inr (.inl o)) :: st) h k
def jJ_zq (G : jj_G) (_l : Launch) : Prop := jj_ZQ G
def jJ_nc (G : jj_G) (_l : Launch) : Prop := jj_NC G
def jJ_gs (G : jj_G) (l : Launch) : Prop := jj_GS G l
def jj_GJ (G : jj_G) (l : Launch) : Prop := jJ_J2_init G l ∧ jJ_J2_add G l ∧ jJ_J2_add_3 G l ∧ jJ_J2_addAll G l ∧ jJ_J2_get G l ∧ jJ_J2_set G l ∧ jJ_J2_remove G l ∧ jJ_J2_size G l ∧ jJ_J2_isEmpty G l ∧ jJ_J2_iterator G l ∧ jJ_J21_hasNext G l ∧ jJ_J21_next G l ∧ jJ_J24_hasNext G l ∧ jJ_J25_next G l ∧ jJ_J9_length G l ∧ jJ_J9_charAt G l ∧ jJ_J9_equals G l ∧ jJ_J9_hashCode G l ∧ jJ_J8_init G l ∧ jJ_J8_append_3 G l ∧ jJ_J8_append G l ∧ jJ_J8_charAt G l ∧ jJ_J8_length G l ∧ jJ_J8_setLength G l ∧ jJ_J8_toString G l ∧ jJ_J34_valueOf G l ∧ jJ_J34_booleanValue G l ∧ jJ_J17_valueOf G l ∧ jJ_J17_intValue G l ∧ jJ_J19_init G l ∧ jJ_J19_containsKey G l ∧ jJ_J19_get G l ∧ jJ_J19_put G l ∧ jJ_J33_init G l ∧ jJ_J0_addAll G l ∧ jJ_J33_contains G l ∧ jJ_J33_size G l ∧ jJ_J33_iterator G l ∧ jJ_J41_init G l ∧ jJ_J41_add G l ∧ jJ_J0_isEmpty G l ∧ jJ_J41_poll G l ∧ jJ_J42_init G l ∧ jJ_J42_add G l ∧ jJ_J42_size G l ∧ jJ_J4_init_3 G l ∧ jJ_X9_values G l ∧ jJ_J44_ordinal G l ∧ jJ_tab G l ∧ jJ_zq G l ∧ jJ_nc G l ∧ jJ_gs G l ∧ jJ_word G l
theorem jK_J2_init {G : jj_G} {l : Launch} (J : jj_GJ G l) : jJ_J2_init G l := J.1
theorem jK_J2_add {G : jj_G} {l : Launch} (J : jj_GJ G l) : jJ_J2_add G l := J.2.1
theorem jK_J2_add_3 {G : jj_G} {l : Launch} (J : jj_GJ G l) : jJ_J2_add_3 G l := J.2.2.1
theorem jK_J2_addAll {G : jj_G} {l : Launch} (J : jj_GJ G l) : jJ_J2_addAll G l := J.2.2.2.1
theorem jK_J2_get {G : jj_G} {l : Launch} (J : jj_GJ G l) : jJ_J2_get G l := J.2.2.2.2.1
theorem jK_J2_set {G : jj_G} {l : Launch} (J : jj_GJ G l) : jJ_J2_set G l := J.2.2.2.2.2.1
theorem jK_J2_remove {G : jj_G} {l : Launch} (J : jj_GJ G l) : jJ_J2_remove G l := J.2.2.2.2.2.2.1
theorem jK_J2_size {G : jj_G} {l : Launch} (J : jj_GJ G l) : jJ_J2_size G l := J.2.2.2.2.2.2.2.1
theorem jK_J2_isEmpty {G : jj_G} {l : Launch} (J : jj_GJ G l) : jJ_J2_isEmpty G l := J.2.2.2.2.2.2.2.2.1
theorem jK_J2_iterator {G : jj_G} {l : Launch} (J : jj_GJ G l) : jJ_J2_iterator G l := J.2.2.2.2.2.2.2.2.2.1
theorem jK_J21_hasNext {G : jj_G} {l : Launch} (J : jj_GJ G l) : jJ_J21_hasNext G l := J.2.2.2.2.2.2.2.2.2.2.1
theorem jK_J21_next {G : jj_G} {l : Launch} (J : jj_GJ G l) : jJ_J21_next G l := J.2.2.2.2.2.2.2.2.2.2.2.1
theorem jK_J24_hasNext {G : jj_G} {l : Launch} (J : jj_GJ G l) : jJ_J24_hasNext G l := J.2.2.2.2.2.2.2.2.2.2.2.2.1
theorem jK_J25_next {G : jj_G} {l : Launch} (J : jj_GJ G l) : jJ_J25_next G l := J.2.2.2.2.2.2.2.2.2.2.2.2.2.1
theorem jK_J9_length {G : jj_G} {l : Launch} (J : jj_GJ G l) : jJ_J9_length G l := J.2.2.2.2.2.2.2.2.2.2.2.2.2.2.1
theorem jK_J9_charAt {G : jj_G} {l : Launch} (J : jj_GJ G l) : jJ_J9_charAt G l := J.2.2.2.2.2.2.2.2.2.2.2.2.2.2.2.1
theorem jK_J9_equals {G : jj_G} {l : Launch} (J : jj_GJ G l) : jJ_J9_equals G l := J.2.2.2.2.2.2.2.2.2.2.2.2.2.2.2.2.1
theorem jK_J9_hashCode {G : jj_G} {l : Launch} (J : jj_GJ G l) : jJ_J9_hashCode G l := J.2.2.2.2.2.2.2.2.2.2.2.2.2.2.2.2.2.1
theorem jK_J8_init {G : jj_G} {l : Launch} (J : jj_GJ G l) : jJ_J8_init G l := J.2.2.2.2.2.2.2.2.2.2.2.2.2.2.2.2.2.2.1
theorem jK_J8_append_3 {G : jj_G} {l : Launch} (J : jj_GJ G l) : jJ_J8_append_3 G l := J.2.2.2.2.2.2.2.2.2.2.2.2.2.2.2.2.2.2.2.1
theorem jK_J8_append {G : jj_G} {l : Launch} (J : jj_GJ G l) : jJ_J8_append G l := J.2.2.2.2.2.2.2.2.2.2.2.2.2.2.2.2.2.2.2.2.1
theorem jK_J8_charAt {G : jj_G} {l : Launch} (J : jj_GJ G l) : jJ_J8_charAt G l := J.2.2.2.2.2.2.2.2.2.2.2.2.2.2.2.2.2.2.2.2.2.1
theorem jK_J8_length {G : jj_G} {l : Launch} (J : jj_GJ G l) : jJ_J8_length G l := J.2.2.2.2.2.2.2.2.2.2.2.2.2.2.2.2.2.2.2.2.2.2.1
theorem jK_J8_setLength {G : jj_G} {l : Launch} (J : jj_GJ G l) : jJ_J8_setLength G l := J.2.2.2.2.2.2.2.2.2.2.2.2.2.2.2.2.2.2.2.2.2.2.2.1
theorem jK_J8_toString {G : jj_G} {l : Launch} (J : jj_GJ G l) : jJ_J8_toString G l := J.2.2.2.2.2.2.2.2.2.2.2.2.2.2.2.2.2.2.2.2.2.2.2.2.1
theorem jK_J34_valueOf {G : jj_G} {l : Launch} (J : jj_GJ G l) : jJ_J34_valueOf G l := J.2.2.2.2.2.2.2.2.2.2.2.2.2.2.2.2.2.2.2.2.2.2.2.2.2.1
theorem jK_J34_booleanValue {G : jj_G} {l : Launch} (J : jj_GJ G l) : jJ_J34_booleanValue G l := J.2.2.2.2.2.2.2.2.2.2.2.2.2.2.2.2.2.2.2.2.2.2.2.2.2.2.1
theorem jK_J17_valueOf {G : jj_G} {l : Launch} (J : jj_GJ G l) : jJ_J17_valueOf G l := J.2.2.2.2.2.2.2.2.2.2.2.2.2.2.2.2.2.2.2.2.2.2.2.2.2.2.2.1
theorem jK_J17_intValue {G : jj_G} {l : Launch} (J : jj_GJ G l) : jJ_J17_intValue G l := J.2.2.2.2.2.2.2.2.2.2.2.2.2.2.2.2.2.2.2.2.2.2.2.2.2.2.2.2.1
theorem jK_J19_init {G : jj_G} {l : Launch} (J : jj_GJ G l) : jJ_J19_init G l := J.2.2.2.2.2.2.2.2.2.2.2.2.2.2.2.2.2.2.2.2.2.2.2.2.2.2.2.2.2.1
theorem jK_J19_containsKey {G : jj_G} {l : Launch} (J : jj_GJ G l) : jJ_J19_containsKey G l := J.2.2.2.2.2.2.2.2.2.2.2.2.2.2.2.2.2.2.2.2.2.2.2.2.2.2.2.2.2.2.1
theorem jK_J19_get {G : jj_G} {l : Launch} (J : jj_GJ G l) : jJ_J19_get G l := J.2.2.2.2.2.2.2.2.2.2.2.2.2.2.2.2.2.2.2.2.2.2.2.2.2.2.2.2.2.2.2.1
theorem jK_J19_put {G : jj_G} {l : Launch} (J : jj_GJ G l) : jJ_J19_put G l := J.2.2.2.2.2.2.2.2.2.2.2.2.2.2.2.2.2.2.2.2.2.2.2.2.2.2.2.2.2.2.2.2.1
theorem jK_J33_init {G : jj_G} {l : Launch} (J : jj_GJ G l) : jJ_J33_init G l := J.2.2.2.2.2.2.2.2.2.2.2.2.2.2.2.2.2.2.2.2.2.2.2.2.2.2.2.2.2.2.2.2.2.1
theorem jK_J0_addAll {G : jj_G} {l : Launch} (J : jj_GJ G l) : jJ_J0_addAll G l := J.2.2.2.2.2.2.2.2.2.2.2.2.2.2.2.2.2.2.2.2.2.2.2.2.2.2.2.2.2.2.2.2.2.2.1
theorem jK_J33_contains {G : jj_G} {l : Launch} (J : jj_GJ G l) : jJ_J33_contains G l := J.2.2.2.2.2.2.2.2.2.2.2.2.2.2.2.2.2.2.2.2.2.2.2.2.2.2.2.2.2.2.2.2.2.2.2.1
theorem jK_J33_size {G : jj_G} {l : Launch} (J : jj_GJ G l) : jJ_J33_size G l := J.2.2.2.2.2.2.2.2.2.2.2.2.2.2.2.2.2.2.2.2.2.2.2.2.2.2.2.2.2.2.2.2.2.2.2.2.1
theorem jK_J33_iterator {G : jj_G} {l : Launch} (J : jj_GJ G l) : jJ_J33_iterator G l := J.2.2.2.2.2.2.2.2.2.2.2.2.2.2.2.2.2.2.2.2.2.2.2.2.2.2.2.2.2.2.2.2.2.2.2.2.2.1
theorem jK_J41_init {G : jj_G} {l : Launch} (J : jj_GJ G l) : jJ_J41_init G l := J.2.2.2.2.2.2.2.2.2.2.2.2.2.2.2.2.2.2.2.2.2.2.2.2.2.2.2.2.2.2.2.2.2.2.2.2.2.2.1
theorem jK_J41_add {G : jj_G} {l : Launch} (J : jj_GJ G l) : jJ_J41_add G l := J.2.2.2.2.2.2.2.2.2.2.2.2.2.2.2.2.2.2.2.2.2.2.2.2.2.2.2.2.2.2.2.2.2.2.2.2.2.2.2.1
theorem jK_J0_isEmpty {G : jj_G} {l : Launch} (J : jj_GJ G l) : jJ_J0_isEmpty G l := J.2.2.2.2.2.2.2.2.2.2.2.2.2.2.2.2.2.2.2.2.2.2.2.2.2.2.2.2.2.2.2.2.2.2.2.2.2.2.2.2.1
theorem jK_J41_poll {G : jj_G} {l : Launch} (J : jj_GJ G l) : jJ_J41_poll G l := J.2.2.2.2.2.2.2.2.2.2.2.2.2.2.2.2.2.2.2.2.2.2.2.2.2.2.2.2.2.2.2.2.2.2.2.2.2.2.2.2.2.1
theorem jK_J42_init {G : jj_G} {l : Launch} (J : jj_GJ G l) : jJ_J42_init G l := J.2.2.2.2.2.2.2.2.2.2.2.2.2.2.2.2.2.2.2.2.2.2.2.2.2.2.2.2.2.2.2.2.2.2.2.2.2.2.2.2.2.2.1
theorem jK_J42_add {G : jj_G} {l : Launch} (J : jj_GJ G l) : jJ_J42_add G l := J.2.2.2.2.2.2.2.2.2.2.2.2.2.2.2.2.2.2.2.2.2.2.2.2.2.2.2.2.2.2.2.2.2.2.2.2.2.2.2.2.2.2.2.1
theorem jK_J42_size {G : jj_G} {l : Launch} (J : jj_GJ G l) : jJ_J42_size G l := J.2.2.2.2.2.2.2.2.2.2.2.2.2.2.2.2.2.2.2.2.2.2.2.2.2.2.2.2.2.2.2.2.2.2.2.2.2.2.2.2.2.2.2.2.1
theorem jK_J4_init_3 {G : jj_G} {l : Launch} (J : jj_GJ G l) : jJ_J4_init_3 G l := J.2.2.2.2.2.2.2.2.2.2.2.2.2.2.2.2.2.2.2.2.2.2.2.2.2.2.2.2.2.2.2.2.2.2.2.2.2.2.2.2.2.2.2.2.2.1
theorem jK_X9_values {G : jj_G} {l : Launch} (J : jj_GJ G l) : jJ_X9_values G l := J.2.2.2.2.2.2.2.2.2.2.2.2.2.2.2.2.2.2.2.2.2.2.2.2.2.2.2.2.2.2.2.2.2.2.2.2.2.2.2.2.2.2.2.2.2.2.1
theorem jK_J44_ordinal {G : jj_G} {l : Launch} (J : jj_GJ G l) : jJ_J44_ordinal G l := J.2.2.2.2.2.2.2.2.2.2.2.2.2.2.2.2.2.2.2.2.2.2.2.2.2.2.2.2.2.2.2.2.2.2.2.2.2.2.2.2.2.2.2.2.2.2.2.1
theorem jK_tab {G : jj_G} {l : Launch} (J : jj_GJ G l) : jJ_tab G l := J.2.2.2.2.2.2.2.2.2.2.2.2.2.2.2.2.2.2.2.2.2.2.2.2.2.2.2.2.2.2.2.2.2.2.2.2.2.2.2.2.2.2.2.2.2.2.2.2.1
theorem jK_zq {G : jj_G} {l : Launch} (J : jj_GJ G l) : jJ_zq G l := J.2.2.2.2.2.2.2.2.2.2.2.2.2.2.2.2.2.2.2.2.2.2.2.2.2.2.2.2.2.2.2.2.2.2.2.2.2.2.2.2.2.2.2.2.2.2.2.2.2.1
theorem jK_nc {G : jj_G} {l : Launch} (J : jj_GJ G l) : jJ_nc G l := J.2.2.2.2.2.2.2.2.2.2.2.2.2.2.2.2.2.2.2.2.2.2.2.2.2.2.2.2.2.2.2.2.2.2.2.2.2.2.2.2.2.2.2.2.2.2.2.2.2.2.1
theorem jK_gs {G : jj_G} {l : Launch} (J : jj_GJ G l) : jJ_gs G l := J.2.2.2.2.2.2.2.2.2.2.2.2.2.2.2.2.2.2.2.2.2.2.2.2.2.2.2.2.2.2.2.2.2.2.2.2.2.2.2.2.2.2.2.2.2.2.2.2.2.2.2.1
theorem jK_word {G : jj_G} {l : Launch} (J : jj_GJ G l) : jJ_word G l := J.2.2.2.2.2.2.2.2.2.2.2.2.2.2.2.2.2.2.2.2.2.2.2.2.2.2.2.2.2.2.2.2.2.2.2.2.2.2.2.2.2.2.2.2.2.2.2.2.2.2.2.2
section RJK
variable {X : jj_X} {own : String} {cc : ByteArray} {nL pc : Nat} {vs : List (Nat × jj_AV)} {st : List jj_AV} {h : jj_H} {k : Nat} {ret : Option FieldType} {fr lo : Nat} {N : Option jj_AV → jj_H → Prop} {XN : String → Nat → jj_H → Prop}
theorem jr_jV (F : jj_F X own cc nL) (M : jj_M X ret fr lo N XN) {y : MethodName} {bytes : ByteArray} {maxL n idx ci : Nat} {ret' : Option FieldType} {As : List jj_AV} {o : Option Nat} {cl : String} {T : u_T} {nT : Nat} {N' : Option jj_AV → jj_H → Nat → Prop}
    (g : GoodIn lw_all (wsV own idx cl y (ws_ y bytes maxL ret'))) (hd : decode cc pc = .ok (.invokevirtual idx, 3)) (hy : y.cls = cl ∧ y.cls ≠ "java/lang/invoke/MethodHandle" ∧ y.cls ≠ "java/lang/invoke/VarHandle" ∧ (parseMethodDescriptor y.desc).map (fun d => d.parameters.length) = some n) (hn : As.length = n) (hfr : 13 ≤ fr) (hlo : 8 + (maxL + 11) + 600 ≤ lo) (hst : (st.map fun v => if jj_2 v = true then 2 else 1).sum ≤ 8) (hq : jj_cl[ci]? = some (cl, T, nT))
    (w : jj_jc X.1 X.2.2.1 y bytes maxL ret' ci o As h k N') (kn : ∀ v h' k', N' v h' k' → jj_J X nL (pc + 3) vs (v.toList ++ st) h' k') : jj_J X nL pc vs (As.reverse ++ .inr (.inr (.inl o)) :: st) h k := by
  obtain ⟨a, c, K, rfl, hc, hci, hK, C⟩ := w
  exact jr_callV F M g hd hy hn (by omega) hlo hst hc hci hq hK C (fun v h' q => kn v h' _ q) (fun _ _ _ q => q.elim)
theorem jr_jU (F : jj_F X own cc nL) (M : jj_M X ret fr lo N XN) {x y : MethodName} {owner : String} {bytes b0 : ByteArray} {maxL m0 n idx ci : Nat} {r0 : Option FieldType} {ret' : Option FieldType} {As : List jj_AV} {o : Option Nat} {cl : String} {T : u_T} {nT : Nat} {N' : Option jj_AV → jj_H → Nat → Prop}
    (g : GoodIn lw_all (va_wsO own idx cl owner x y (ws_ y bytes maxL ret'))) (qd : Cond.code ⟨owner, x.name, x.desc⟩ b0 m0 r0 ∈ lw_all) (hd : decode cc pc = .ok (.invokevirtual idx, 3)) (hy : owner ≠ "java/lang/invoke/MethodHandle" ∧ owner ≠ "java/lang/invoke/VarHandle" ∧ (parseMethodDescriptor x.desc).map (fun d => d.parameters.length) = some n) (hn : As.length = n) (hfr : 13 ≤ fr) (hlo : 8 + (maxL + 11) + 600 ≤ lo) (hst : (st.map fun v => if jj_2 v = true then 2 else 1).sum ≤ 8) (hq : jj_cl[ci]? = some (cl, T, nT))
    (w : jj_jc X.1 X.2.2.1 y bytes maxL ret' ci o As h k N') (kn : ∀ v h' k', N' v h' k' → jj_J X nL (pc + 3) vs (v.toList ++ st) h' k') : jj_J X nL pc vs (As.reverse ++ .inr (.inr (.inl o)) :: st) h k := by
  obtain ⟨a, c, K, rfl, hc, hci, hK, C⟩ := w
  exact jr_callU F M g qd hd hy hn (by omega) hlo hst hc hci hq hK C (fun v h' q => kn v h' _ q) (fun _ _ _ q => q.elim)
theorem jr_jF (F : jj_F X own cc nL) (M : jj_M X ret fr lo N XN) {x y : MethodName} {bytes : ByteArray} {maxL n idx cnt ci : Nat} {ret' : Option FieldType} {As : List jj_AV} {o : Option Nat} {cl : String} {T : u_T} {nT : Nat} {N' : Option jj_AV → jj_H → Nat → Prop}
    (g : GoodIn lw_all (va_wsF own idx cl x y (ws_ y bytes maxL ret'))) (hFw : ∀ U, jj_ge X.1 U → va_Fw cl x y U) (hd : decode cc pc = .ok (.invokeinterface idx cnt, 5)) (hy : x.cls ≠ "java/lang/invoke/MethodHandle" ∧ x.cls ≠ "java/lang/invoke/VarHandle" ∧ (parseMethodDescriptor x.desc).map (fun d => d.parameters.length) = some n) (hn : As.length = n) (hfr : 13 ≤ fr) (hlo : 8 + (maxL + 11) + 600 ≤ lo) (hst : (st.map fun v => if jj_2 v = true then 2 else 1).sum ≤ 8) (hq : jj_cl[ci]? = some (cl, T, nT))
    (w : jj_jc X.1 X.2.2.1 y bytes maxL ret' ci o As h k N') (kn : ∀ v h' k', N' v h' k' → jj_J X nL (pc + 5) vs (v.toList ++ st) h' k') : jj_J X nL pc vs (As.reverse ++ .inr (.inr (.inl o)) :: st) h k := by
  obtain ⟨a, c, K, rfl, hc, hci, hK, C⟩ := w
  have hge : jj_ge X.1 X.2.2.2.2.2.1 := by
    obtain ⟨G, p, l, e, R, s, m, args, below, meth, c, Q, A⟩ := X
    exact F.2.2.2.2.2.1.2.2.2.2
  exact jr_callF F M g (hFw _ hge) hd hy hn (by omega) hlo hst hc hci hq hK C (fun v h' q => kn v h' _ q) (fun _ _ _ q => q.elim)
theorem jr_jI (F : jj_F X own cc nL) (M : jj_M X ret fr lo N XN) {y : MethodName} {bytes : ByteArray} {maxL n idx : Nat} {As : List jj_AV} {o : Option Nat} {N' : Option jj_AV → jj_H → Nat → Prop}
    (q : Cond.methodLink own idx y ∈ lw_all) (qi : Cond.instanceMethod y ∈ lw_all) (q0 : Cond.initialized y.cls ∈ lw_all) (qc : Cond.code y bytes maxL none ∈ lw_all) (hd : decode cc pc = .ok (.invokespecial idx, 3)) (hy1 : y.name = "<init>") (hy : y.cls ≠ "java/lang/invoke/MethodHandle" ∧ y.cls ≠ "java/lang/invoke/VarHandle" ∧ (parseMethodDescriptor y.desc).map (fun d => d.parameters.length) = some n) (hn : As.length = n) (hfr : 13 ≤ fr) (hlo : 8 + (maxL + 11) + 600 ≤ lo) (hst : (st.map fun v => if jj_2 v = true then 2 else 1).sum ≤ 8)
    (w : jj_ji X.1 X.2.2.1 y bytes maxL o As h k N') (kn : ∀ v h' k', N' v h' k' → jj_J X nL (pc + 3) vs (v.toList ++ st) h' k') : jj_J X nL pc vs (As.reverse ++ .inr (.inr (.inl o)) :: st) h k := by
  obtain ⟨a, K, rfl, hK, C⟩ := w
  exact jr_callI F M q qi q0 qc hd hy1 hy hn (by omega) hlo hst hK C (fun v h' q => kn v h' _ q) (fun _ _ _ q => q.elim)
theorem jr_jS (F : jj_F X own cc nL) (M : jj_M X ret fr lo N XN) {y : MethodName} {bytes : ByteArray} {maxL n idx : Nat} {ret' : Option FieldType} {As : List jj_AV} {N' : Option jj_AV → jj_H → Nat → Prop}
    (g : GoodIn lw_all (va_wsS own idx y (ws_ y bytes maxL ret'))) (hd : decode cc pc = .ok (.invokestatic idx, 3)) (hy : y.cls ≠ "java/lang/invoke/MethodHandle" ∧ y.cls ≠ "java/lang/invoke/VarHandle" ∧ (parseMethodDescriptor y.desc).map (fun d => d.parameters.length) = some n) (hn : As.length = n) (hfr : 13 ≤ fr) (hlo : 8 + (maxL + 11) + 600 ≤ lo) (hst : (st.map fun v => if jj_2 v = true then 2 else 1).sum ≤ 8)
    (w : jj_js X.1 X.2.2.1 y bytes maxL ret' As h k N') (kn : ∀ v h' k', N' v h' k' → jj_J X nL (pc + 3) vs (v.toList ++ st) h' k') : jj_J X nL pc vs (As.reverse ++ st) h k := by
  obtain ⟨K, hK, C⟩ := w
  exact jr_callS F M g hd hy hn (by omega) hlo hst hK C (fun v h' q => kn v h' _ q) (fun _ _ _ q => q.elim)
/-- the component's own methods, of a receiver of their class -/
theorem jr_cV (F : jj_F X own cc nL) (M : jj_M X ret fr lo N XN) {y : MethodName} {bytes : ByteArray} {maxL fr' lo' n idx ci : Nat} {ret' : Option FieldType} {As : List jj_AV} {o : Option Nat} {K : Nat} {cl : String} {T : u_T} {nT : Nat} {N' : Option jj_AV → jj_H → Prop} {XN' : String → Nat → jj_H → Prop}
    (g : GoodIn lw_all (wsV own idx cl y (ws_ y bytes maxL ret'))) (hd : decode cc pc = .ok (.invokevirtual idx, 3)) (hy : y.cls = cl ∧ y.cls ≠ "java/lang/invoke/MethodHandle" ∧ y.cls ≠ "java/lang/invoke/VarHandle" ∧ (parseMethodDescriptor y.desc).map (fun d => d.parameters.length) = some n) (hn : As.length = n) (hfr : fr' + 1 ≤ fr) (hlo : 8 + (maxL + 11) + lo' ≤ lo) (hst : (st.map fun v => if jj_2 v = true then 2 else 1).sum ≤ 8)
    (hq : jj_cl[ci]? = some (cl, T, nT)) (hi : jp_is h o ci) (hk : K ≤ k)
    (C : jj_Ct X.1 X.2.2.1 y (ws_ y bytes maxL ret') fr' lo' (.inr (.inr (.inl o)) :: As) h K N' XN')
    (kn : ∀ v h', N' v h' → jj_J X nL (pc + 3) vs (v.toList ++ st) h' (k - K)) (kx : ∀ E q h', XN' E q h' → jj_JX X nL pc vs E q h' (k - K)) : jj_J X nL pc vs (As.reverse ++ .inr (.inr (.inl o)) :: st) h k := by
  obtain ⟨a, c, rfl, hc, hci⟩ := hi
  exact jr_callV F M g hd hy hn hfr hlo hst hc hci hq hk C kn kx
theorem jr_cVX (F : jj_F X own cc nL) (M : jj_M X ret fr lo N XN) {y : MethodName} {bytes : ByteArray} {hh : List (Nat × Nat × Nat × Nat)} {maxL fr' lo' n idx ci : Nat} {ret' : Option FieldType} {As : List jj_AV} {o : Option Nat} {K : Nat} {cl : String} {T : u_T} {nT : Nat} {N' : Option jj_AV → jj_H → Prop} {XN' : String → Nat → jj_H → Prop}
    (g : GoodIn lw_all (wsV own idx cl y (wsW_ y bytes maxL ret' hh))) (hd : decode cc pc = .ok (.invokevirtual idx, 3)) (hy : y.cls = cl ∧ y.cls ≠ "java/lang/invoke/MethodHandle" ∧ y.cls ≠ "java/lang/invoke/VarHandle" ∧ (parseMethodDescriptor y.desc).map (fun d => d.parameters.length) = some n) (hn : As.length = n) (hfr : fr' + 1 ≤ fr) (hlo : 8 + (maxL + 11) + lo' ≤ lo) (hst : (st.map fun v => if jj_2 v = true then 2 else 1).sum ≤ 8)
    (hq : jj_cl[ci]? = some (cl, T, nT)) (hi : jp_is h o ci) (hk : K ≤ k)
    (C : jj_Ct X.1 X.2.2.1 y (wsW_ y bytes maxL ret' hh) fr' lo' (.inr (.inr (.inl o)) :: As) h K N' XN')
    (kn : ∀ v h', N' v h' → jj_J X nL (pc + 3) vs (v.toList ++ st) h' (k - K)) (kx : ∀ E q h', XN' E q h' → jj_JX X nL pc vs E q h' (k - K)) : jj_J X nL pc vs (As.reverse ++ .inr (.inr (.inl o)) :: st) h k := by
  obtain ⟨a, c, rfl, hc, hci⟩ := hi
  exact jr_callVX F M g hd hy hn hfr hlo hst hc hci hq hk C kn kx
/-- throw new E() -/
theorem jr_throw0 (F : jj_F X own cc nL) (M : jj_M X ret fr lo N XN) (J : jj_ZQ X.1) (O : ∀ x ∈ X.2.2.2.2.2.2.2.2.2.2.1.exceptionTable.toList, covers x (pc + 7) = false) {cls : String} {names : List String} {ik ic : Nat} (hcls : Bundle.fit cls = true) (hnames : ∀ n ∈ names, Bundle.fit n = true)
    (hk : Cond.classLink own ik cls ∈ lw_all) (hini : Cond.initialized cls ∈ lw_all) (hat : ∀ w ∈ vx_at0 own ic cls names, w ∈ lw_all ∨ w ∈ jj_nw)
    (hgood : ∀ w ∈ Cond.classLink own ik cls :: Cond.initialized cls :: vx_at0 own ic cls names, vx_ot w = true)
    (d0 : decode cc pc = .ok (.new ik, 3)) (d3 : decode cc (pc + 3) = .ok (.dup, 1)) (d4 : decode cc (pc + 4) = .ok (.invokespecial ic, 3)) (d7 : decode cc (pc + 7) = .ok (.athrow, 1))
    (hfr : names.length + 4 ≤ fr) (hlo : 8 + (13 * (names.length + 1) + 42) ≤ lo) (hst : (st.map fun v => if jj_2 v = true then 2 else 1).sum ≤ 8) (hck : 2 ≤ k) (hx : ∀ q, XN cls q h) : jj_J X nL pc vs st h k := by
  obtain ⟨G, p, l, e, R, s, m, args, below, meth, c, Q, A⟩ := X
  obtain ⟨hx', hb, hml, ho, hts, hK, hlk, hz, hold⟩ := F
  obtain ⟨hr, hf1, hf2, rfl, hl0⟩ := M
  intro H locs cells slots ls hR hS hc hs hl
  have hc : cells + k ≤ R.cells := hc
  have hs : slots + 4 * k ≤ R.slots := hs
  have hR : jj_R G h H := hR
  obtain ⟨z1, z2⟩ := J s hK.2.2.2.2 s.heap hz hold
  refine vx_throw0 (pc := pc) (A := fun q => jj_gb G ≤ q) hx' hb hl0 ho hcls hnames (hts _ hk) (hts _ hini) (fun w hw => (hat w hw).elim (hts _) (fun q9 => va_Nw.use (jj_nw_tab q9) (hK.2.2.2.1 _ q9))) hgood z1 z2 hS (hl.1.trans hml.symm) d0 d3 d4 d7 O (by rw [hf1]; omega) ?_ (by show cells + 1 ≤ R.cells; omega) (by show slots + 6 ≤ R.slots; omega) hlk (fun t ha z3 z4 => ⟨h, hx _, ?_, Nat.le_trans hS.1 z3, fun q h1 h2 => (z4 q (Nat.lt_of_lt_of_le h1 hS.1)).trans (hS.2.1 q h1 h2)⟩) hS.2.2 (by show cells + 1 ≤ R.cells; omega) (by show slots + 6 ≤ R.slots; omega)
  · have h9 := jj_sum8 hst
    rw [hf2]
    omega
  · obtain ⟨h1, h2, own', h3⟩ := hR
    exact ⟨Nat.le_trans h1 z3, fun q hq => (z4 q (Nat.lt_of_lt_of_le hq h1)).trans (h2 q hq), own', fun a c' hc' => jj_at.kept hK.2.1 (h3 a c' hc') (fun q hq ho => ⟨ho, z4 q hq⟩) (fun q hq => z4 q (Nat.lt_of_lt_of_le hq h1)) z3⟩
end RJK
