/-! THE COMPONENT's LAW, 19: data are kept -/
set_option maxRecDepth 100000
set_option linter.unusedVariables false
theorem s_erase1_no {name : Int32} {ds : List s_D} (h : ∀ (i : Nat) (d : s_D), ds[i]? = some d → d.1 ≠ name) : s_erase1 name ds = ds := by
  unfold s_erase1
  rcases s_at_cases name ds with ⟨c1, -⟩ | ⟨j, d, c1, c2, c3, -⟩
  · rw [c1]
  · exact absurd c3 (h j d c2)
theorem s_erase1_at {name : Int32} {ds : List s_D} {j : Nat} {d : s_D} (hn : (ds.map (fun d => d.1)).Nodup) (hj : ds[j]? = some d) (hd : d.1 = name) : s_erase1 name ds = ds.eraseIdx j := by
  unfold s_erase1
  rcases s_at_cases name ds with ⟨-, c2⟩ | ⟨i, d', c1, c2, c3, -⟩
  · exact absurd hd (c2 j d hj)
  · rw [c1, s_at_un hn hj c2 hd c3]
section T93
variable {g : z_G} {C : h_C} {o o1 : Nat → Nat} {μ μ1 : z_M} {E : Nat → List Nat} {B b p n q k w a0 t l x ce room i : Nat} {G G' : s_G} {S : Nat → Prop} {N : s_R} {xs es : List Nat} {nd : s_N} {ms : Nat → Int32} {name wish mi : Int32} {d : s_D}
/-- what has the name is taken out, from behind -/
theorem h_no.keeps10 (K : z_M → Option z_M) (hok : z_ok g) (r : Int32) : ∀ (k f : Nat) (μ : z_M) (nd : s_N), h_no g o μ n q ce es nd ms → h_wf g μ → h_dt o μ p d → (nd.2.1.map (fun d => d.1)).Nodup → k ≤ nd.2.1.length → k < f → (∀ (i : Nat) (d' : s_D), k ≤ i → nd.2.1[i]? = some d' → d'.1 ≠ d.1) →
    ∃ μ1, D_X13_keeps_10 g q (some p) r K f (nI k - (1 : Int32)) μ = K μ1 ∧ h_no g o μ1 n q ce es (nd.1, s_erase1 d.1 nd.2.1, nd.2.2) ms ∧ h_dt o μ1 p d ∧ h_fr g (fun a => o a = 1010 + n) o μ o μ1 ∧ μ1.2 = μ.2 := by
  intro k
  induction k with
  | zero =>
    intro f μ nd h hw hp hnod hk hf hno
    obtain ⟨f, rfl⟩ : ∃ f', f = f' + 1 := ⟨f - 1, by omega⟩
    refine ⟨μ, ?_, ?_, hp, h_fr.refl hw, rfl⟩
    · conv => lhs; unfold D_X13_keeps_10
      exact if_pos (by decide)
    · rw [s_erase1_no (fun i d' hi => hno i d' (Nat.zero_le _) hi)]
      exact h
  | succ k ih =>
    intro f μ nd h hw hp hnod hk hf hno
    obtain ⟨f, rfl⟩ : ∃ f', f = f' + 1 := ⟨f - 1, by omega⟩
    have hk1 : nI (k + 1) - (1 : Int32) = nI k := nI_sub (b := 1) (by omega)
    have hk2 : nI k + (-1 : Int32) = nI k - (1 : Int32) := (Int32.sub_eq_add_neg _ 1).symm
    obtain ⟨sl, el, ml, y, ds, h1, h2, h3⟩ := h.store
    have hl5 : ds.length ≤ 5 := h2.2.1
    have hlen := h3.1
    obtain ⟨x, hx⟩ := h_at (xs := ds) (n := ds.length) (k := k) rfl (by omega)
    obtain ⟨e, he, hr⟩ := h3.getL hx
    have hr' := hr
    have hA : z_isA g μ x "AskedNames$Data" := hr.isA
    obtain ⟨-, e1, q', hc, hqn⟩ := hr'
    obtain ⟨p0, p1, q2, pc, pn⟩ := hp
    have hp : h_dt o μ p d := ⟨p0, p1, q2, pc, pn⟩
    by_cases c : e.1 = d.1
    · obtain ⟨sl', p', μ1, ⟨el', ml', y', k1, k2⟩, r1, r2, r3, r4, r5⟩ := h.storeRm hw he
      cases h1.symm.trans k1
      have hnod1 : ((nd.2.1.eraseIdx k).map (fun d => d.1)).Nodup := hnod.sublist ((List.eraseIdx_sublist ..).map _)
      have hno1 : ∀ (i : Nat) (d' : s_D), (nd.2.1.eraseIdx k)[i]? = some d' → d'.1 ≠ d.1 := fun i d' hi => by
        rw [List.getElem?_eraseIdx] at hi
        by_cases ci : i < k
        · rw [if_pos ci] at hi
          exact fun q => absurd (s_at_un hnod hi he q c) (by omega)
        · rw [if_neg ci] at hi
          exact hno (i + 1) d' (by omega) hi
      obtain ⟨μ2, a1, a2, a3, a4, a5⟩ := ih f μ1 (nd.1, nd.2.1.eraseIdx k, nd.2.2) r3 r4.wf (hp.fr r4 hw (fun a ha => by omega)) hnod1 (by
        show k ≤ (nd.2.1.eraseIdx k).length
        rw [List.length_eraseIdx, if_pos (by omega)]; omega) (by omega) (fun i d' _ hi => hno1 i d' hi)
      refine ⟨μ2, ?_, ?_, a3, r4.trans a4 (fun a _ q => q.elim id id), a5.trans r5⟩
      · conv => lhs; unfold D_X13_keeps_10
        rw [hk1, if_neg (nI_pos (by omega)), x_lgt h1 rfl h2 hx hA, x_oS, x_grR hc rfl, x_oS, x_grR pc rfl, x_oS, x_gpI (hqn.isA hw), hqn.eq pn hw hok, x_bS, if_pos (show v_ e.1 = v_ d.1 by rw [c]), if_neg (show ¬ (1 : Int32) = 0 by decide), x_grR h1 rfl, x_oS, h2.obK, r1, x_b2S, x_lS, hk2]
        exact a1
      · have e9 : s_erase1 d.1 (nd.2.1.eraseIdx k) = s_erase1 d.1 nd.2.1 := by rw [s_erase1_no hno1, s_erase1_at hnod he c]
        rw [← e9]
        exact a2
    · obtain ⟨μ2, a1, a2, a3, a4, a5⟩ := ih f μ nd h hw hp hnod (by omega) (by omega) (fun i d' hi hd' => by
        by_cases ei : i = k
        · rw [ei, he] at hd'
          cases hd'
          exact c
        · exact hno i d' (by omega) hd')
      refine ⟨μ2, ?_, a2, a3, a4, a5⟩
      conv => lhs; unfold D_X13_keeps_10
      rw [hk1, if_neg (nI_pos (by omega)), x_lgt h1 rfl h2 hx hA, x_oS, x_grR hc rfl, x_oS, x_grR pc rfl, x_oS, x_gpI (hqn.isA hw), hqn.eq pn hw hok, x_bS, if_neg (show ¬ v_ e.1 = v_ d.1 from fun q => c ((s_wn_eq e1 p1).mp q)), if_pos rfl, x_lS, hk2]
      exact a1
theorem h_no.keeps62 (K : z_M → Option z_M) (h : h_no g o μ n q ce es nd ms) (hw : h_wf g μ) (hroom : room ≤ 4) (hl : nd.2.1.length ≤ room + 1) (f : Nat) :
    ∃ μ1, D_X13_keeps_62 g q (nI room) K (f + 2) μ = K μ1 ∧ h_no g o μ1 n q ce es (nd.1, s_trim room nd.2.1, nd.2.2) ms ∧ h_fr g (fun a => o a = 1010 + n) o μ o μ1 ∧ μ1.2 = μ.2 := by
  obtain ⟨sl, el, ml, y, ds, h1, h2, h3⟩ := h.store
  have hl5 : ds.length ≤ 5 := h2.2.1
  have hlen := h3.1
  unfold s_trim
  by_cases c : room < nd.2.1.length
  · rw [if_pos c]
    obtain ⟨d0, hd0⟩ : ∃ d, nd.2.1[0]? = some d := ⟨_, List.getElem?_eq_getElem (by omega)⟩
    obtain ⟨sl', p', μ1, ⟨el', ml', y', k1, k2⟩, r1, r2, r3, r4, r5⟩ := h.storeRm hw hd0
    cases h1.symm.trans k1
    obtain ⟨sl', el', ml', y', ds', h1', h2', h3'⟩ := r3.store
    have hlen' := h3'.1
    have hlen2 : ds'.length ≤ room := by
      rw [hlen']
      show (nd.2.1.eraseIdx 0).length ≤ room
      rw [List.length_eraseIdx, if_pos (by omega)]
      omega
    refine ⟨μ1, ?_, r3, r4, r5⟩
    conv => lhs; unfold D_X13_keeps_62
    rw [x_lsz h1 rfl h2, if_neg (nI_ge (by omega) (by omega)), x_grR h1 rfl, x_oS, h2.obK]
    refine Eq.trans (congrArg (fun z => x_b2 z _) r1) ?_
    rw [x_b2S]
    conv => lhs; unfold D_X13_keeps_62
    rw [x_lsz h1' rfl h2', if_pos (nI_le hlen2 (by omega))]
  · rw [if_neg c]
    refine ⟨μ, ?_, h, h_fr.refl hw, rfl⟩
    conv => lhs; unfold D_X13_keeps_62
    rw [x_lsz h1 rfl h2, if_pos (nI_le (by omega) (by omega))]
theorem s_erase1_len (name : Int32) (ds : List s_D) : (s_erase1 name ds).length ≤ ds.length := by
  unfold s_erase1
  cases s_at name ds with
  | none => exact Nat.le_refl _
  | some j =>
    show (ds.eraseIdx j).length ≤ _
    exact (List.eraseIdx_sublist ..).length_le
theorem h_no.keeps (h : h_no g o μ n q ce es nd ms) (hw : h_wf g μ) (hok : z_ok g) (hp : h_dt o μ p d) (hnod : (nd.2.1.map (fun d => d.1)).Nodup) (hroom : room ≤ 4) (hl : nd.2.1.length ≤ room) :
    ∃ μ1, D_X13_keeps g q (some p) (nI room) μ = some μ1 ∧ h_no g o μ1 n q ce es (nd.1, s_put room d nd.2.1, nd.2.2) ms ∧ h_fr g (fun a => o a = 1010 + n) o μ o μ1 ∧ μ1.2 = μ.2 := by
  obtain ⟨sl, el, ml, y, ds, h1, h2, h3⟩ := h.store
  have hl5 : ds.length ≤ 5 := h2.2.1
  have hlen := h3.1
  obtain ⟨μ1, e1, r1, r2, r3, r4⟩ := h.keeps10 (r := nI room) (fun (μ54 : z_M) => x_gr μ54 q 13 0 fun o55 => x_o o55 fun p59 => x_ob μ54 p59 3 fun _ => x_b2 (D_J2_add g p59 (some p) μ54) fun x63 μ64 => D_X13_keeps_62 g q (nI room) (fun (μ88 : z_M) => some μ88) x_F μ64) hok nd.2.1.length x_F μ nd hw hp hnod (Nat.le_refl _) (by rw [x_Fv]; omega) (fun i d' hi hd' => by
    have := (List.getElem?_eq_some_iff.mp hd').1
    omega)
  have hle := s_erase1_len d.1 nd.2.1
  obtain ⟨sl', μ2, ⟨el', ml', y', k1, k2⟩, e2, e3, r5, r6, r7⟩ := r1.storeAdd r3.wf r2 (by show (s_erase1 d.1 nd.2.1).length < 5; omega)
  obtain ⟨μ3, e4, r8, r9, r10⟩ := r5.keeps62 (fun (μ88 : z_M) => some μ88) r6.wf hroom (by show (s_erase1 d.1 nd.2.1 ++ [d]).length ≤ _; rw [List.length_append]; show (s_erase1 d.1 nd.2.1).length + 1 ≤ _; omega) 9998
  obtain ⟨fs, hob⟩ : ∃ fs, μ1.1 sl' = some (.inr (3, fs)) := by
    obtain ⟨fs, h9, -⟩ := x_obE e3
    exact ⟨fs, h9⟩
  refine ⟨μ3, ?_, r8, (r3.trans r6 (S := fun a => o a = 1010 + n) (fun a _ q => q.elim id id)).trans r9 (fun a _ q => q.elim id id), r10.trans (r7.trans r4)⟩
  unfold D_X13_keeps
  rw [x_lsz h1 rfl h2, x_lS, hlen, e1, x_grR k1 rfl, x_oS, x_obS hob, e2, x_b2S]
  exact e4
end T93
