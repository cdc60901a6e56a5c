/-! THE COMPONENT's LAW, 18: what a store gives and keeps -/
set_option maxRecDepth 100000
set_option linter.unusedVariables false
theorem s_find_is {p : Nat → Bool} {n j : Nat} (hj : j < n) (hp : p j = true) (hb : ∀ i, i < j → p i = false) : s_find p 0 n = some j := by
  cases e : s_find p 0 n with
  | none =>
    have := s_find_none e j (Nat.zero_le _) (by omega)
    rw [this] at hp; cases hp
  | some k =>
    obtain ⟨-, h2, h3, h4⟩ := s_find_some e
    by_cases c : k < j
    · rw [hb k c] at h3; cases h3
    · by_cases c2 : j < k
      · rw [h4 j (Nat.zero_le _) c2] at hp; cases hp
      · rw [show k = j from by omega]
theorem s_find_no {p : Nat → Bool} {n : Nat} (hb : ∀ i, i < n → p i = false) : s_find p 0 n = none := by
  cases e : s_find p 0 n with
  | none => rfl
  | some k =>
    obtain ⟨-, h2, h3, h4⟩ := s_find_some e
    rw [hb k (by omega)] at h3; cases h3
/-- where a name is stored -/
theorem s_at_cases (name : Int32) (ds : List s_D) : (s_at name ds = none ∧ ∀ (i : Nat) (d : s_D), ds[i]? = some d → d.1 ≠ name) ∨ ∃ (j : Nat) (d : s_D), s_at name ds = some j ∧ ds[j]? = some d ∧ d.1 = name ∧ ∀ (i : Nat) (d : s_D), i < j → ds[i]? = some d → d.1 ≠ name := by
  have key : ∀ (i : Nat) (d : s_D), ds[i]? = some d → (((ds.map (fun d => d.1))[i]? == some name) = decide (d.1 = name)) := fun i d h => by
    rw [List.getElem?_map, h, Bool.eq_iff_iff, beq_iff_eq, decide_eq_true_iff]
    exact ⟨Option.some.inj, fun q => by rw [← q]; rfl⟩
  unfold s_at
  cases e : s_find (fun i => (ds.map (fun d => d.1))[i]? == some name) 0 ds.length with
  | none =>
    refine Or.inl ⟨rfl, fun i d h c => ?_⟩
    have hl := (List.getElem?_eq_some_iff.mp h).1
    have := s_find_none e i (Nat.zero_le _) (by omega)
    rw [key i d h, decide_eq_true c] at this
    cases this
  | some j =>
    obtain ⟨-, h2, h3, h4⟩ := s_find_some e
    obtain ⟨d, hd⟩ : ∃ d, ds[j]? = some d := ⟨_, List.getElem?_eq_getElem (by omega)⟩
    rw [key j d hd] at h3
    refine Or.inr ⟨j, d, rfl, hd, of_decide_eq_true h3, fun i d' hi h c => ?_⟩
    have := h4 i (Nat.zero_le _) hi
    rw [key i d' h, decide_eq_true c] at this
    cases this
/-- of unlike names one alone is so -/
theorem s_at_un {name : Int32} {ds : List s_D} (hn : (ds.map (fun d => d.1)).Nodup) {i j : Nat} {d d' : s_D} (hi : ds[i]? = some d) (hj : ds[j]? = some d') (h : d.1 = name) (h' : d'.1 = name) : i = j := by
  have a1 : (ds.map (fun d => d.1))[i]? = some name := by rw [List.getElem?_map, hi, ← h]; rfl
  have a2 : (ds.map (fun d => d.1))[j]? = some name := by rw [List.getElem?_map, hj, ← h']; rfl
  obtain ⟨b1, b2⟩ := List.getElem?_eq_some_iff.mp a1
  obtain ⟨c1, c2⟩ := List.getElem?_eq_some_iff.mp a2
  have hp := List.pairwise_iff_getElem.mp hn
  rcases Nat.lt_trichotomy i j with q | q | q
  · exact absurd (b2.trans c2.symm) (hp i j b1 c1 q)
  · exact q
  · exact absurd (c2.trans b2.symm) (hp j i c1 b1 q)
section T93
variable {g : z_G} {C : h_C} {o o1 : Nat → Nat} {μ μ1 : z_M} {E : Nat → List Nat} {B b p n q k w a0 t l x ce room i : Nat} {G G' : s_G} {S : Nat → Prop} {N : s_R} {xs es : List Nat} {nd : s_N} {ms : Nat → Int32} {name wish mi : Int32} {d : s_D}
theorem h_dt.ob {α : Type} {m : Option α} (h : h_dt o μ p d) : x_ob μ p 16 (fun _ => m) = m := by
  obtain ⟨h0, h1, q, h2, h3⟩ := h
  exact x_obS h2
/-- a node's store changes -/
theorem h_no.storeRm (h : h_no g o μ n q ce es nd ms) (hw : h_wf g μ) (hd : nd.2.1[i]? = some d) : ∃ sl p μ1, (∃ el ml y, μ.1 q = some (.inr (13, [.ref sl, .ref el, .ref ml, .long y])) ∧ μ1.1 q = some (.inr (13, [.ref sl, .ref el, .ref ml, .long y]))) ∧ D_J2_remove g sl (nI i) μ = some (some p, μ1) ∧ h_dt o μ1 p d ∧ h_no g o μ1 n q ce es (nd.1, nd.2.1.eraseIdx i, nd.2.2) ms ∧ h_fr g (fun a => o a = 1010 + n) o μ o μ1 ∧ μ1.2 = μ.2 := by
  obtain ⟨h0, sl, el, ml, ds, f, h1, ⟨h2, h3⟩, ⟨h4, h5, h6⟩, h7, h8, h9⟩ := h
  obtain ⟨p, hp, hr⟩ := h3.get hd
  obtain ⟨μ1, e1, q1, q2, q3⟩ := h2.remove hw hp
  have S0 : ∀ a, o a = 0 → ¬ o a = 1010 + n := fun a ha => by omega
  refine ⟨sl, p, μ1, ⟨el, ml, nd.2.2, h1, q2.cell hw h1 (by omega)⟩, e1, hr.fr q2 hw S0, ⟨h0, sl, el, ml, ds.eraseIdx i, f, q2.cell hw h1 (by omega), ⟨q1, (h3.mono (fun x y _ hr => hr.fr q2 hw S0)).erase i⟩, ⟨h4.fr q2 hw (fun a ha => by omega), h5.mono (fun x y _ hr => hr.fr q2 hw S0 (fun a ha (q : o a = 1010 + n) => by
    have := hr.1
    omega)), h6⟩, h7, q2.cell hw h8 (by omega), h9⟩, q2, q3⟩
theorem h_no.storeAdd (h : h_no g o μ n q ce es nd ms) (hw : h_wf g μ) (hd : h_dt o μ p d) (hl : nd.2.1.length < 5) : ∃ sl μ1, (∃ el ml y, μ.1 q = some (.inr (13, [.ref sl, .ref el, .ref ml, .long y])) ∧ μ1.1 q = some (.inr (13, [.ref sl, .ref el, .ref ml, .long y]))) ∧ D_J2_add g sl (some p) μ = some (1, μ1) ∧ x_ob μ sl 3 (fun _ => some ()) = some () ∧ h_no g o μ1 n q ce es (nd.1, nd.2.1 ++ [d], nd.2.2) ms ∧ h_fr g (fun a => o a = 1010 + n) o μ o μ1 ∧ μ1.2 = μ.2 := by
  obtain ⟨h0, sl, el, ml, ds, f, h1, ⟨h2, h3⟩, ⟨h4, h5, h6⟩, h7, h8, h9⟩ := h
  obtain ⟨μ1, e1, q1, q2, q3⟩ := h2.addIn hw (by rw [h3.1]; exact hl) ⟨"AskedNames$Data", "java/lang/Object", rfl, hd.isA, Or.inr q2993⟩
  have S0 : ∀ a, o a = 0 → ¬ o a = 1010 + n := fun a ha => by omega
  refine ⟨sl, μ1, ⟨el, ml, nd.2.2, h1, q2.cell hw h1 (by omega)⟩, e1, h2.obK, ⟨h0, sl, el, ml, ds ++ [p], f, q2.cell hw h1 (by omega), ⟨q1, (h3.mono (fun x y _ hr => hr.fr q2 hw S0)).snoc (hd.fr q2 hw S0)⟩, ⟨h4.fr q2 hw (fun a ha => by omega), h5.mono (fun x y _ hr => hr.fr q2 hw S0 (fun a ha (q : o a = 1010 + n) => by
    have := hr.1
    omega)), h6⟩, h7, q2.cell hw h8 (by omega), h9⟩, q2, q3⟩
/-- the store of a node: how many, which -/
theorem h_no.store (h : h_no g o μ n q ce es nd ms) : ∃ sl el ml y ds, μ.1 q = some (.inr (13, [.ref sl, .ref el, .ref ml, .long y])) ∧ h_ls g o μ (1010 + n) sl 5 ds ∧ h_al (h_dt o μ) ds nd.2.1 := by
  obtain ⟨h0, sl, el, ml, ds, f, h1, ⟨h2, h3⟩, -⟩ := h
  exact ⟨sl, el, ml, nd.2.2, ds, h1, h2, h3⟩
theorem h_no.uses (h : h_no g o μ n q ce es nd ms) (hq : h_nm o μ w (v_ name)) (hnm : s_wn name) (hw : h_wf g μ) (hok : z_ok g) (hwish : wish = 0 ∨ wish = 1) (hnod : (nd.2.1.map (fun d => d.1)).Nodup) :
    (s_fresh nd.2.1 (s_at name nd.2.1) wish mi = none ∧ D_X13_uses g q (some w) wish mi μ = some (none, μ)) ∨
    ∃ j d p μ1, s_fresh nd.2.1 (s_at name nd.2.1) wish mi = some d ∧ s_at name nd.2.1 = some j ∧ nd.2.1[j]? = some d ∧ d.1 = name ∧ D_X13_uses g q (some w) wish mi μ = some (some p, μ1) ∧ h_dt o μ1 p d ∧
      h_no g o μ1 n q ce es (nd.1, nd.2.1.eraseIdx j ++ [d], nd.2.2) ms ∧ h_fr g (fun a => o a = 1010 + n) o μ o μ1 ∧ μ1.2 = μ.2 := by
  obtain ⟨sl, el, ml, y, ds, h1, h2, h3⟩ := h.store
  have hl5 : ds.length ≤ 5 := h2.2.1
  have hlen := h3.1
  have hloop := x_find (L := fun fu k => D_X13_uses_3 g q (some w) wish mi μ (some (none, μ)) fu (nI k)) (K := some (none, μ)) (R := fun k => x_gr μ q 13 0 fun o37 => x_o o37 fun p41 => x_ob μ p41 3 fun _ => x_b2 (D_J2_remove g p41 (nI k) μ) fun o45 μ46 => x_gr μ46 q 13 0 fun o47 => x_o o47 fun p51 => x_ob μ46 p51 3 fun _ => x_b2 (D_J2_add g p51 (ds[k]?) μ46) fun x55 μ56 => some (ds[k]?, μ56))
    (p := fun k => match nd.2.1[k]? with
      | none => false
      | some d => decide (d.1 = name) && (decide (wish ≠ 1) || decide (mi ≤ d.2.1))) (n := ds.length)
    (fun fu => by
      show D_X13_uses_3 _ _ _ _ _ _ _ (fu + 1) _ = _
      unfold D_X13_uses_3
      rw [x_lsz h1 rfl h2, if_pos (Int32.le_refl _)])
    (fun fu k hk => by
      obtain ⟨x, hx⟩ := h_at rfl hk
      obtain ⟨e, he, hr⟩ := h3.getL hx
      have hA : z_isA g μ x "AskedNames$Data" := hr.isA
      obtain ⟨-, e1, q', hc, hqn⟩ := hr
      show D_X13_uses_3 _ _ _ _ _ _ _ (fu + 1) _ = _
      conv => lhs; unfold D_X13_uses_3
      rw [x_lsz h1 rfl h2, if_neg (nI_ge hk (by omega)), x_lgt h1 rfl h2 hx hA, x_oS, x_grR hc rfl, x_oS, x_gpI (hqn.isA hw), hqn.eq hq hw hok, x_bS, he, hx]
      show _ = if (decide (e.1 = name) && (decide (wish ≠ 1) || decide (mi ≤ e.2.1))) = true then _ else _
      by_cases c : e.1 = name
      · rw [if_pos (show v_ e.1 = v_ name by rw [c]), if_neg (show ¬ (1 : Int32) = 0 by decide), x_lS, decide_eq_true c, Bool.true_and]
        by_cases c2 : wish = 1
        · rw [if_pos c2, x_giS hc rfl, decide_eq_false (fun q => q c2), Bool.false_or]
          by_cases c3 : mi ≤ e.2.1
          · rw [if_pos c3, if_pos (decide_eq_true c3)]
          · rw [if_neg c3, if_neg (fun q => c3 (of_decide_eq_true q)), x_lS, nI_1]
        · rw [if_neg c2, decide_eq_true c2, Bool.true_or, if_pos rfl]
      · rw [if_neg (fun q => c ((s_wn_eq e1 hnm).mp q)), if_pos rfl, decide_eq_false c, Bool.false_and, if_neg (by decide), x_lS, nI_1])
    x_F 0 (Nat.zero_le _) (by rw [x_Fv]; omega)
  rw [Nat.sub_zero] at hloop
  have hD : D_X13_uses g q (some w) wish mi μ = D_X13_uses_3 g q (some w) wish mi μ (some (none, μ)) x_F (nI 0) := rfl
  rcases s_at_cases name nd.2.1 with ⟨c1, c2⟩ | ⟨j, d, c1, c2, c3, c4⟩
  · refine Or.inl ⟨by rw [c1]; rfl, ?_⟩
    rw [hD]
    refine hloop.trans ?_
    rw [s_find_no (fun i hi => by
      obtain ⟨d, hd⟩ : ∃ d, nd.2.1[i]? = some d := ⟨_, List.getElem?_eq_getElem (by omega)⟩
      rw [hd]
      show (decide (d.1 = name) && _) = false
      rw [decide_eq_false (c2 i d hd), Bool.false_and])]
  · have hjl := (List.getElem?_eq_some_iff.mp c2).1
    have hfr : s_fresh nd.2.1 (s_at name nd.2.1) wish mi = if wish = 0 ∨ ¬ d.2.1 < mi then some d else none := by
      rw [c1]
      show (match nd.2.1[j]? with | none => none | some d => _) = _
      rw [c2]
    by_cases c5 : wish = 0 ∨ ¬ d.2.1 < mi
    · have hc : (decide (d.1 = name) && (decide (wish ≠ 1) || decide (mi ≤ d.2.1))) = true := by
        rw [decide_eq_true c3, Bool.true_and, Bool.or_eq_true, decide_eq_true_iff, decide_eq_true_iff]
        rcases c5 with c5 | c5
        · exact Or.inl (by rw [c5]; decide)
        · exact Or.inr (Int32.not_lt.mp c5)
      have hf := s_find_is (p := fun k => match nd.2.1[k]? with
        | none => false
        | some d => decide (d.1 = name) && (decide (wish ≠ 1) || decide (mi ≤ d.2.1))) (n := ds.length) (j := j) (by omega) (by rw [c2]; exact hc) (fun i hi => by
          obtain ⟨d', hd'⟩ : ∃ d, nd.2.1[i]? = some d := ⟨_, List.getElem?_eq_getElem (by omega)⟩
          rw [hd']
          show (decide (d'.1 = name) && _) = false
          rw [decide_eq_false (c4 i d' hi hd'), Bool.false_and])
      obtain ⟨p, hp, hr⟩ := h3.get c2
      obtain ⟨sl', p', μ1, ⟨el', ml', y', k1, k2⟩, e1, r1, r2, r3, r4⟩ := h.storeRm hw c2
      cases h1.symm.trans k1
      have hrm := h2.remove hw hp
      obtain ⟨μx, e1', -⟩ := hrm
      have ep : p' = p := by
        rw [e1] at e1'
        cases e1'
        rfl
      subst ep
      obtain ⟨sl', μ2, ⟨el', ml', y', k3, k4⟩, e2, r5, r6, r7, r8⟩ := r2.storeAdd r3.wf r1 (by show (nd.2.1.eraseIdx j).length < 5; rw [List.length_eraseIdx, if_pos hjl]; omega)
      cases k2.symm.trans k3
      obtain ⟨fs, hob⟩ : ∃ fs, μ1.1 sl = some (.inr (3, fs)) := by
        obtain ⟨fs, h9, -⟩ := x_obE r5
        exact ⟨fs, h9⟩
      refine Or.inr ⟨j, d, p', μ2, by rw [hfr, if_pos c5], c1, c2, c3, ?_, r1.fr r7 r3.wf (fun a ha => by omega), r6, r3.trans r7 (fun a _ q => q.elim id id), r8.trans r4⟩
      rw [hD]
      refine hloop.trans ?_
      rw [hf]
      show (x_gr μ q 13 0 fun o37 => _) = _
      rw [x_grR h1 rfl, x_oS, h2.obK, e1, x_b2S, x_grR k2 rfl, x_oS, x_obS hob, hp, e2, x_b2S]
    · refine Or.inl ⟨by rw [hfr, if_neg c5], ?_⟩
      rw [hD]
      refine hloop.trans ?_
      rw [s_find_no (fun i hi => by
        obtain ⟨d', hd'⟩ : ∃ d, nd.2.1[i]? = some d := ⟨_, List.getElem?_eq_getElem (by omega)⟩
        rw [hd']
        show (decide (d'.1 = name) && _) = false
        by_cases c6 : d'.1 = name
        · have := s_at_un hnod hd' c2 c6 c3
          subst this
          rw [c2] at hd'
          cases hd'
          rw [decide_eq_true c6, Bool.true_and, Bool.or_eq_false_iff]
          have c7 : ¬ wish = 0 := fun q => c5 (Or.inl q)
          have c8 : wish = 1 := by rcases hwish with q | q; exact absurd q c7; exact q
          exact ⟨decide_eq_false (fun q => q c8), decide_eq_false (fun q => c5 (Or.inr (Int32.not_lt.mpr q)))⟩
        · rw [decide_eq_false c6, Bool.false_and])]
end T93
