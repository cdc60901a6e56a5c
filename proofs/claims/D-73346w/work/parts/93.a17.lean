/-! THE COMPONENT's LAW, 17: a node's store and entries -/
set_option maxRecDepth 100000
set_option linter.unusedVariables false
section T93
variable {g : z_G} {C : h_C} {o o1 : Nat → Nat} {μ μ1 : z_M} {E : Nat → List Nat} {B b p n q k w a0 t l x ce room i : Nat} {G G' : s_G} {S : Nat → Prop} {N : s_R} {xs es ds : List Nat} {nd : s_N} {ms : Nat → Int32} {name wish : Int32}
/-- a list takes one more where there is room -/
theorem h_ls.addIn (hL : h_ls g o μ t l n xs) (hw : h_wf g μ) (hlt : xs.length < n) (hx : x_sa g μ 4 x) : ∃ μ1, D_J2_add g l (some x) μ = some (1, μ1) ∧ h_ls g o μ1 t l n (xs ++ [x]) ∧ h_fr g (fun a => o a = t) o μ o μ1 ∧ μ1.2 = μ.2 := by
  obtain ⟨h1, h2, h3, h4, m, arr, h5, h6⟩ := hL
  rcases h6 with ⟨h6, -⟩ | ⟨h6, h7, f, h8, h9⟩
  · omega
  have hf1 := h_fr.setF (o := o) (fs' := [.int (m + 1), .ref arr, .int (nI xs.length)]) hw h5
  have hl1 : (z_set μ l (h_lc (m + 1) arr xs.length)).1 l = some (h_lc (m + 1) arr xs.length) := z_set_self
  have hne : l ≠ arr := fun q => by rw [q, h8] at h5; cases h5
  have ha1 : (z_set μ l (h_lc (m + 1) arr xs.length)).1 arr = some (h_rf n f) := (z_set_ne (Ne.symm hne)).trans h8
  have hx1 := hf1.sa hx
  have h4' : ∀ y ∈ xs, x_sa g (z_set μ l (h_lc (m + 1) arr xs.length)) 4 y := fun y hy => hf1.sa (h4 y hy)
  obtain ⟨q1, q2⟩ := h_addR (xs := xs) (t := t) (o := o) hf1.wf h1 h7 hl1 ha1 (by omega) h3 h4' hx1 h9
  refine ⟨_, ?_, q1, hf1.trans q2 (fun a _ q => ?_), rfl⟩
  · unfold D_J2_add
    rw [x_giS h5 rfl, x_pfS h5 (Nat.le_of_ble_eq_true rfl)]
    refine (x_grR hl1 rfl).trans ?_
    refine (x_giS hl1 rfl).trans ?_
    refine (x_obS hl1).trans ?_
    show x_b (D_J2_add_2 g l (some x) (some arr) (nI xs.length) (z_set μ l (h_lc (m + 1) arr xs.length))) (fun μ21 => some ((1 : Int32), μ21)) = _
    unfold D_J2_add_2
    rw [x_oS, x_lnS rfl ha1, x_lS, if_neg (fun q => by have := (nI_eq (by omega) (by omega)).mp q; omega)]
    exact congrArg (fun z => x_b z (fun μ21 => some ((1 : Int32), μ21))) (h_addJ hl1 ha1 (by omega) (by omega) hx1 (fun μ19 => some μ19))
  · rcases q with q | q | q
    · rw [q]; exact h1
    · rw [q]; exact h1
    · rw [q]; exact h7
theorem h_en.isA {e : s_E} (h : h_en g o μ n p e) : z_isA g μ p "AskedNames$Entry" := by
  obtain ⟨h0, h1, h2, q, al, ca, h3, h4, h5⟩ := h
  exact Or.inl ⟨17, _, _, _, h3, rfl⟩
theorem h_dt.isA {d : s_D} (h : h_dt o μ p d) : z_isA g μ p "AskedNames$Data" := by
  obtain ⟨h0, h1, q, h2, h3⟩ := h
  exact Or.inl ⟨16, _, _, _, h2, rfl⟩
theorem h_no.isA (h : h_no g o μ n q ce es nd ms) : z_isA g μ q "AskedNames$Node" := by
  obtain ⟨h0, sl, el, ml, ds, f, h1, h2⟩ := h
  exact Or.inl ⟨13, _, _, _, h1, rfl⟩
theorem h_no.ob {α : Type} {m : Option α} (h : h_no g o μ n q ce es nd ms) : x_ob μ q 13 (fun _ => m) = m := by
  obtain ⟨h0, sl, el, ml, ds, f, h1, h2⟩ := h
  exact x_obS h1
theorem s_wn_eq {x y : Int32} (hx : s_wn x) (hy : s_wn y) : v_ x = v_ y ↔ x = y := ⟨fun h => by rw [hx.1, hy.1, h], fun h => by rw [h]⟩
/-- whether an entry is for a name and a wish -/
theorem h_en.is {e : s_E} (h : h_en g o μ n p e) (hq : h_nm o μ w (v_ name)) (hnm : s_wn name) (hw : h_wf g μ) (hok : z_ok g) : D_X17_is g p (some w) wish μ = some (if (e.1, e.2.1) = (name, wish) then 1 else 0) := by
  obtain ⟨h0, h1, h2, q, al, ca, h3, h4, h5⟩ := h
  unfold D_X17_is
  rw [x_giS h3 rfl]
  by_cases c : e.2.1 = wish
  · have c' : e_wish e = wish := c
    rw [if_pos c', x_grR h3 rfl, x_oS, x_gpI (h4.isA hw), h4.eq hq hw hok, x_bS]
    by_cases c2 : e.1 = name
    · have c3 : v_ (e_name e) = v_ name := by rw [← c2]; rfl
      rw [if_pos c3, if_neg (by decide), if_pos (by rw [c, c2])]
    · have c3 : ¬ v_ (e_name e) = v_ name := fun q => c2 ((s_wn_eq h1 hnm).mp q)
      rw [if_neg c3, if_pos rfl, if_neg (fun q => c2 (Prod.mk.inj q).1)]
  · have c' : ¬ e_wish e = wish := c
    rw [if_neg c', if_neg (fun q => c (Prod.mk.inj q).2)]
/-- the entry of a node for a name and a wish -/
theorem h_no.entry (h : h_no g o μ n q ce es nd ms) (hq : h_nm o μ w (v_ name)) (hnm : s_wn name) (hw : h_wf g μ) (hok : z_ok g) (hl : es.length < 9000) : D_X13_entry g q (some w) wish μ = some (s_adr es (s_ei name wish nd.1)) := by
  obtain ⟨h0, sl, el, ml, ds, f, h1, -, ⟨h4, h5, h6⟩, -⟩ := h
  have hloop := x_find (L := fun fu k => D_X13_entry_2 g q (some w) wish μ (some none) fu (nI k)) (K := some none) (R := fun j => some (es[j]?)) (p := fun i => (nd.1.map (fun e => (e.1, e.2.1)))[i]? == some (name, wish)) (n := es.length)
    (fun fu => by
      show D_X13_entry_2 _ _ _ _ _ _ (fu + 1) _ = _
      unfold D_X13_entry_2
      rw [x_lsz h1 rfl h4, if_pos (Int32.le_refl _)])
    (fun fu k hk => by
      obtain ⟨x, hx⟩ := h_at rfl hk
      obtain ⟨e, he, hr⟩ := h5.getL hx
      have hA : z_isA g μ x "AskedNames$Entry" := hr.isA
      have hob : ∀ (α : Type) (m : Option α), x_ob μ x 17 (fun _ => m) = m := fun α m => by
        obtain ⟨-, -, -, q, al, ca, k3, -⟩ := hr
        exact x_obS k3
      have hp : ((nd.1.map (fun e => (e.1, e.2.1)))[k]? == some (name, wish)) = decide ((e.1, e.2.1) = (name, wish)) := by
        rw [List.getElem?_map, he]
        show (some (e.1, e.2.1) == some (name, wish)) = _
        rw [Bool.eq_iff_iff, beq_iff_eq, decide_eq_true_iff]
        exact ⟨Option.some.inj, fun q => by rw [q]⟩
      show D_X13_entry_2 _ _ _ _ _ _ (fu + 1) _ = _
      conv => lhs; unfold D_X13_entry_2
      rw [x_lsz h1 rfl h4, if_neg (nI_ge hk (by omega)), x_lgt h1 rfl h4 hx hA, x_oS, hob, hr.is hq hnm hw hok, x_bS, hp]
      by_cases c : (e.1, e.2.1) = (name, wish)
      · rw [if_pos c, if_neg (by decide), if_pos (decide_eq_true c), x_lgt h1 rfl h4 hx hA, hx]
      · rw [if_neg c, if_pos rfl, if_neg (fun q => c (of_decide_eq_true q)), x_lS, nI_1])
    x_F 0 (Nat.zero_le _) (by rw [x_Fv]; omega)
  unfold D_X13_entry
  refine hloop.trans ?_
  unfold s_ei
  rw [Nat.sub_zero, ← h5.1]
  cases s_find (fun i => (nd.1.map (fun e => (e.1, e.2.1)))[i]? == some (name, wish)) 0 es.length <;> rfl
/-- a node loses an entry -/
theorem h_no.loses (h : h_no g o μ n q ce es nd ms) (hw : h_wf g μ) (hi : es[i]? = some p) (hl : es.length < 9000) : ∃ μ1, D_X13_loses g q (some p) μ = some μ1 ∧ h_no g o μ1 n q ce (es.eraseIdx i) (nd.1.eraseIdx i, nd.2) ms ∧ h_fr g (fun a => o a = 1020 + n) o μ o μ1 ∧ μ1.2 = μ.2 := by
  obtain ⟨h0, sl, el, ml, ds, f, h1, ⟨h2, h3⟩, ⟨h4, h5, h6⟩, h7, h8, h9⟩ := h
  have hil : i < es.length := (List.getElem?_eq_some_iff.mp hi).1
  have hnod : ∀ k, k < i → es[k]? ≠ some p := fun k hk e => by
    have a1 := (List.getElem?_eq_some_iff.mp hi).2
    have hkl : k < es.length := by omega
    have a2 := (List.getElem?_eq_some_iff.mp e).2
    exact List.pairwise_iff_getElem.mp (h_ndm h6) k i hkl hil hk (a2.trans a1.symm)
  have hloop : ∀ (K : Int32 → Option z_M) (m f k : Nat), k + m = i → m < f → D_X13_loses_2 g q (some p) μ K f (nI k) = K (nI i) := by
    intro K m
    induction m with
    | zero =>
      intro f k hk hf
      obtain ⟨f, rfl⟩ : ∃ f', f = f' + 1 := ⟨f - 1, by omega⟩
      have ek : k = i := by omega
      subst ek
      conv => lhs; unfold D_X13_loses_2
      rw [x_grR h1 rfl, x_oS, h4.obK, h4.get hi, x_bS, if_pos rfl]
    | succ m ih =>
      intro f k hk hf
      obtain ⟨f, rfl⟩ : ∃ f', f = f' + 1 := ⟨f - 1, by omega⟩
      obtain ⟨y, hy⟩ := h_at (xs := es) (n := es.length) (k := k) rfl (by omega)
      have hne : ¬ (some y = some p) := fun e => hnod k (by omega) (hy.trans e)
      conv => lhs; unfold D_X13_loses_2
      rw [x_grR h1 rfl, x_oS, h4.obK, h4.get hy, x_bS, if_neg hne, x_lS, nI_1]
      exact ih f (k + 1) (by omega) (by omega)
  obtain ⟨μ1, e1, q1, q2, q3⟩ := h4.remove hw hi
  have S0 : ∀ a, o a = 0 → ¬ o a = 1020 + n := fun a ha => by omega
  refine ⟨μ1, ?_, ⟨h0, sl, el, ml, ds, f, q2.cell hw h1 (by omega), ⟨h2.fr q2 hw (fun a ha => by omega), h3.mono (fun x y _ hr => hr.fr q2 hw S0)⟩, ⟨q1, (h5.mono (fun x y _ hr => hr.fr q2 hw S0 (fun a ha (q : o a = 1020 + n) => by
    have := hr.1
    omega))).erase i, h6.sublist ((List.eraseIdx_sublist ..).map _)⟩, h7, q2.cell hw h8 (by omega), h9⟩, q2, q3⟩
  unfold D_X13_loses
  refine Eq.trans (hloop _ i x_F 0 (by omega) (by rw [x_Fv]; omega)) ?_
  rw [x_grR h1 rfl, x_oS, h4.obK, e1, x_b2S]
end T93
