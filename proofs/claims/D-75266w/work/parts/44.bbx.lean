/-! Boxes, kinds, exceptions: contracts -/
section JBBX
variable {G : jj_G} {l : Launch}
theorem jb_J34_valueOf (J : jx_G G l) : jJ_J34_valueOf G l := by
  intro x Q h k w
  obtain ⟨hx, w⟩ := w
  refine ⟨0, Nat.zero_le _, (cC_J34_valueOf J (Q := fun r h' => r = some (jj_gk G (20 + x.toNat)) ∧ h' = h) (E := jj_F0) ⟨⟨by omega, by omega⟩, fun c => ?_, fun c => ?_⟩).to ?_ (fun _ _ _ q => q)⟩
  · rw [c]; exact ⟨rfl, rfl⟩
  · rw [show x = 1 by omega]; exact ⟨rfl, rfl⟩
  · rintro v h' ⟨r, rfl, rfl, rfl⟩
    exact ⟨_, rfl, w⟩
theorem jb_J34_booleanValue (J : jx_G G l) : jJ_J34_booleanValue G l := by
  intro o Q h k w
  obtain ⟨a, x, rfl, ha, hx, w⟩ := w
  refine ⟨a, _, 0, rfl, ha, rfl, Nat.zero_le _, (cC_J34_booleanValue J (Q := fun r h' => r = x ∧ h' = h) (E := jj_F0) ⟨a, x, rfl, ha, hx, rfl, rfl⟩).to ?_ (fun _ _ _ q => q)⟩
  rintro v h' ⟨r, rfl, rfl, rfl⟩
  exact ⟨_, rfl, w⟩
theorem jb_J17_valueOf (J : jx_G G l) : jJ_J17_valueOf G l := by
  intro x Q h k w
  obtain ⟨h1, h2, w⟩ := w
  refine ⟨0, Nat.zero_le _, (cC_J17_valueOf J (Q := fun r h' => r = some (jj_gk G (228 + x).toNat) ∧ h' = h) (E := jj_F0) ⟨⟨by omega, by omega⟩, fun c => absurd c (by omega), fun _ => ⟨⟨by omega, by omega⟩, ⟨by decide, by decide⟩, fun c => absurd c (by omega), fun _ => ⟨rfl, by omega, by omega, ?_, rfl⟩⟩⟩).to ?_ (fun _ _ _ q => q)⟩
  · rw [show 100 + (x + 128).toNat = (228 + x).toNat by omega]
  · rintro v h' ⟨r, rfl, rfl, rfl⟩
    exact ⟨_, rfl, w⟩
theorem jb_J17_intValue (J : jx_G G l) : jJ_J17_intValue G l := by
  intro o Q h k w
  obtain ⟨a, x, rfl, ha, w⟩ := w
  refine ⟨a, _, 0, rfl, ha, rfl, Nat.zero_le _, (cC_J17_intValue J (Q := fun r h' => r = x ∧ h' = h) (E := jj_F0) ⟨a, x, rfl, ha, rfl, rfl⟩).to ?_ (fun _ _ _ q => q)⟩
  rintro v h' ⟨r, rfl, rfl, rfl⟩
  exact ⟨_, rfl, w⟩
theorem jb_J44_ordinal (J : jx_G G l) : jJ_J44_ordinal G l := by
  intro o Q h k w
  obtain ⟨a, x, wd, rfl, ha, w⟩ := w
  refine ⟨a, _, 0, rfl, ha, rfl, Nat.zero_le _, (cC_J44_ordinal J (Q := fun r h' => r = x ∧ h' = h) (E := jj_F0) ⟨a, x, wd, rfl, ha, rfl, rfl⟩).to ?_ (fun _ _ _ q => q)⟩
  rintro v h' ⟨r, rfl, rfl, rfl⟩
  exact ⟨_, rfl, w⟩
theorem jb_X9_values (J : jx_G G l) : jJ_X9_values G l := by
  intro Q h k w
  obtain ⟨hk, w⟩ := w
  refine ⟨2, hk, jj_Ct.of J.1 (by decide +kernel) (Nat.le_of_ble_eq_true rfl) rfl (fun X hG hl F M O hnm => ?_)⟩
  subst hG; subst hl
  refine jr_gst (pc := 0) F J 7 rfl q2533 dX9_values_0 ?_
  refine jr_cloneK (pc := 3) F M J q2535 (by decide) (by decide) (by decide) dX9_values_3 (Nat.le_refl _) (K := fun a h' k' => h a = none ∧ h' = jj_set h a (.inr (.inr (.inl (5, 4, fun j => some (jj_gk X.1 (22 + j.toNat)))))) ∧ k' = 0) (fun a1 h1 => ⟨h1, rfl, rfl⟩) (fun a h' k' w' => ?_)
  obtain ⟨h1, rfl, rfl⟩ := w'
  refine jr_castK (pc := 6) F q2540 (jj_set_self _ _ _) dX9_values_6 ?_
  exact jr_aret (pc := 9) F M (Or.inr ⟨_, rfl⟩) dX9_values_9 ⟨_, rfl, w a h1⟩
theorem jb_exc {gk : Nat → Nat} {h : jj_H} {a : Nat} {y : Option Nat} {fs : List jj_AV} : ∀ r2 r4 : Option Nat, ((((((fs.set 0 (jj_rf (some a))).set 1 (jj_rf r2)).set 2 (jj_rf r4)).set 1 (jj_rf none)).set 3 (jj_rf none)).set 0 (jj_rf y)).length = fs.length ∧ ∀ j, 6 ≤ j → ((((((fs.set 0 (jj_rf (some a))).set 1 (jj_rf r2)).set 2 (jj_rf r4)).set 1 (jj_rf none)).set 3 (jj_rf none)).set 0 (jj_rf y))[j]? = fs[j]? := by
  intro r2 r4
  refine ⟨by simp, fun j hj => ?_⟩
  rw [List.getElem?_set_ne (by omega), List.getElem?_set_ne (by omega), List.getElem?_set_ne (by omega), List.getElem?_set_ne (by omega), List.getElem?_set_ne (by omega), List.getElem?_set_ne (by omega)]
theorem jb_J4_init_3 (J : jx_G G l) : jJ_J4_init_3 G l := by
  intro o x y z w0 Q h k w
  obtain ⟨a, ci, fs, rfl, ha, hci, rfl, rfl, rfl, hy, w⟩ := w
  refine ⟨a, 0, rfl, Nat.zero_le _, ?_⟩
  rcases hci with rfl | rfl | rfl
  · refine (cC_J4_init_3 J (Q := fun h' => ∃ fs', fs'.length = fs.length ∧ (∀ j, 6 ≤ j → fs'[j]? = fs[j]?) ∧ h' = jj_set h a (.inl (11, fs'))) (E := jj_F0) ⟨⟨a, rfl⟩, ⟨a, rfl⟩, a, fs, rfl, ha, fun r2 => ⟨a, _, rfl, jj_set_self _ _ _, fun r4 => ⟨a, _, rfl, jj_set_self _ _ _, ⟨by decide, by decide⟩, fun _ => ⟨a, _, rfl, jj_set_self _ _ _, a, _, rfl, jj_set_self _ _ _, a, _, rfl, jj_set_self _ _ _, ⟨by decide, by decide⟩, fun c => absurd rfl c, fun _ => ⟨a, _, rfl, jj_set_self _ _ _, ?_⟩⟩, fun c => absurd rfl c⟩⟩⟩).to ?_ (fun _ _ _ q => q)
    · obtain ⟨e1, e2⟩ := jb_exc (gk := jj_gk G) (h := h) (a := a) (y := y) (fs := fs) r2 r4
      refine ⟨((((((fs.set 0 (jj_rf (some a))).set 1 (jj_rf r2)).set 2 (jj_rf r4)).set 1 (jj_rf none)).set 3 (jj_rf none)).set 0 (jj_rf y)).set 2 (jj_rf none), by rw [List.length_set]; exact e1, fun j hj => by rw [List.getElem?_set_ne (by omega)]; exact e2 j hj, ?_⟩
      rw [jj_set_set, jj_set_set, jj_set_set, jj_set_set, jj_set_set, jj_set_set]
      rfl
    · rintro v h' ⟨rfl, fs', q1, q2, rfl⟩
      exact ⟨rfl, w fs' q1 q2⟩
  · refine (cC_J4_init_3_X8 J (Q := fun h' => ∃ fs', fs'.length = fs.length ∧ (∀ j, 6 ≤ j → fs'[j]? = fs[j]?) ∧ h' = jj_set h a (.inl (12, fs'))) (E := jj_F0) ⟨⟨a, rfl⟩, ⟨a, rfl⟩, a, fs, rfl, ha, fun r2 => ⟨a, _, rfl, jj_set_self _ _ _, fun r4 => ⟨a, _, rfl, jj_set_self _ _ _, ⟨by decide, by decide⟩, fun _ => ⟨a, _, rfl, jj_set_self _ _ _, a, _, rfl, jj_set_self _ _ _, a, _, rfl, jj_set_self _ _ _, ⟨by decide, by decide⟩, fun c => absurd rfl c, fun _ => ⟨a, _, rfl, jj_set_self _ _ _, ?_⟩⟩, fun c => absurd rfl c⟩⟩⟩).to ?_ (fun _ _ _ q => q)
    · obtain ⟨e1, e2⟩ := jb_exc (gk := jj_gk G) (h := h) (a := a) (y := y) (fs := fs) r2 r4
      refine ⟨((((((fs.set 0 (jj_rf (some a))).set 1 (jj_rf r2)).set 2 (jj_rf r4)).set 1 (jj_rf none)).set 3 (jj_rf none)).set 0 (jj_rf y)).set 2 (jj_rf none), by rw [List.length_set]; exact e1, fun j hj => by rw [List.getElem?_set_ne (by omega)]; exact e2 j hj, ?_⟩
      rw [jj_set_set, jj_set_set, jj_set_set, jj_set_set, jj_set_set, jj_set_set]
      rfl
    · rintro v h' ⟨rfl, fs', q1, q2, rfl⟩
      exact ⟨rfl, w fs' q1 q2⟩
  · refine (cC_J4_init_3_X14 J (Q := fun h' => ∃ fs', fs'.length = fs.length ∧ (∀ j, 6 ≤ j → fs'[j]? = fs[j]?) ∧ h' = jj_set h a (.inl (13, fs'))) (E := jj_F0) ⟨⟨a, rfl⟩, ⟨a, rfl⟩, a, fs, rfl, ha, fun r2 => ⟨a, _, rfl, jj_set_self _ _ _, fun r4 => ⟨a, _, rfl, jj_set_self _ _ _, ⟨by decide, by decide⟩, fun _ => ⟨a, _, rfl, jj_set_self _ _ _, a, _, rfl, jj_set_self _ _ _, a, _, rfl, jj_set_self _ _ _, ⟨by decide, by decide⟩, fun c => absurd rfl c, fun _ => ⟨a, _, rfl, jj_set_self _ _ _, ?_⟩⟩, fun c => absurd rfl c⟩⟩⟩).to ?_ (fun _ _ _ q => q)
    · obtain ⟨e1, e2⟩ := jb_exc (gk := jj_gk G) (h := h) (a := a) (y := y) (fs := fs) r2 r4
      refine ⟨((((((fs.set 0 (jj_rf (some a))).set 1 (jj_rf r2)).set 2 (jj_rf r4)).set 1 (jj_rf none)).set 3 (jj_rf none)).set 0 (jj_rf y)).set 2 (jj_rf none), by rw [List.length_set]; exact e1, fun j hj => by rw [List.getElem?_set_ne (by omega)]; exact e2 j hj, ?_⟩
      rw [jj_set_set, jj_set_set, jj_set_set, jj_set_set, jj_set_set, jj_set_set]
      rfl
    · rintro v h' ⟨rfl, fs', q1, q2, rfl⟩
      exact ⟨rfl, w fs' q1 q2⟩
theorem jb_word (J : jx_G G l) : jJ_word G l := by
  intro X own cc nL pc idx host vs st o Q h k hG F q hd w kk
  subst hG
  obtain ⟨a, x, wd, rfl, hc, w⟩ := w
  have kk := kk _ _ _ w
  obtain ⟨G, p, l, e, R, s, m, args, below, meth, c, Q, A⟩ := X
  obtain ⟨hx, hb, hml, ho, hts, hK, hlk, hz, hold⟩ := F
  intro H locs cells slots ls hR hS hc' hs hl
  obtain ⟨⟨cell, e1, e2⟩, cell', f1, f2, -, f3⟩ := ja_kAt (G := G) J.2.1.1 hR hc (Or.inr rfl)
  cases e1.symm.trans f1
  obtain ⟨-, cf, kf, fi, f, g1, g2, g3⟩ := f3 s hK.2.2.2.2
  exact va_Wgetf hx hb ho (va_Nw.use rfl (hK.2.2.2.1 _ (jj_nwm q rfl))) g1 g2 e2 (by rw [f2]; exact fun h => by cases h) g3 rfl rfl hd (kk H locs cells slots ls hR hS hc' hs hl)
end JBBX
