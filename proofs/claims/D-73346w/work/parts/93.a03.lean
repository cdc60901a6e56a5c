/-! THE COMPONENT's LAW, 3: a list grows -/
set_option maxRecDepth 100000
set_option linter.unusedVariables false
theorem x_mnN {x y : Nat} (hx : x < 2 ^ 31) (hy : y < 2 ^ 31) : x_mn (nI x) (nI y) = nI (min x y) := by
  unfold x_mn
  by_cases h : y < x
  · rw [if_pos (nI_lt h hx), Nat.min_eq_right (by omega)]
  · rw [if_neg (nI_nlt (by omega) hy), Nat.min_eq_left (by omega)]
theorem x_mxN {x y : Nat} (hx : x < 2 ^ 31) (hy : y < 2 ^ 31) : x_mx (nI x) (nI y) = nI (max x y) := by
  unfold x_mx
  by_cases h : x < y
  · rw [if_pos (nI_lt h hy), Nat.max_eq_right (by omega)]
  · rw [if_neg (nI_nlt (by omega) hx), Nat.max_eq_left (by omega)]
/-- references are copied -/
theorem x_acR {g : z_G} {μ : z_M} {p q s d c l1 l2 : Nat} {f f2 : Nat → Option Nat} (hp : μ.1 p = some (h_rf l1 f)) (hq : μ.1 q = some (h_rf l2 f2)) (h1 : s + c ≤ l1) (h2 : d + c ≤ l2) (hb : l1 < 2 ^ 31 ∧ l2 < 2 ^ 31) (hs : ∀ i, i < c → ∀ y, f (s + i) = some y → x_sa g μ 4 y) :
    x_ac g μ (some p) (nI s) (some q) (nI d) (nI c) = some (z_set μ q (h_rf l2 (va_cpy f f2 s d c))) := by
  unfold x_ac
  rw [x_oS, x_oS, hp, hq]
  show x_gp _ _ = _
  have e1 : (nI s).toNatClampNeg = s := nI_clamp (by omega)
  have e2 : (nI d).toNatClampNeg = d := nI_clamp (by omega)
  have e3 : (nI c).toNatClampNeg = c := nI_clamp (by omega)
  rw [e1, e2, e3]
  refine x_gpI ⟨rfl, rfl, ⟨nI_pos (by omega), nI_pos (by omega), nI_pos (by omega), ?_, ?_⟩, hs⟩
  · rw [e1, e3]; exact h1
  · rw [e2, e3]; exact h2
theorem h_cpo {g : z_G} {μ : z_M} {a n i : Nat} {f : Nat → Option Nat} (hw : h_wf g μ) (ha : μ.1 a = some (h_rf n f)) (hn : n ≤ 200000) (hi : i ≤ 200000) (hs : ∀ j, j < n → ∀ y, f j = some y → x_sa g μ 4 y) :
    D_J10_copyOf_2 g (some a) (nI i) μ = some (some μ.2.1, z_set (z_new μ i (.inl (4, z_nul i))) μ.2.1 (h_rf i (va_cpy f (fun _ => none) 0 0 (min n i)))) := by
  unfold D_J10_copyOf_2
  have e1 : (z_new μ i (.inl (4, z_nul i))).1 a = some (h_rf n f) := (z_new_ne (hw.ne ha)).trans ha
  rw [x_oS, x_aaS ha, x_naS (by omega), x_nwS, x_lnS rfl e1, x_mnN (by omega) (by omega)]
  rw [show (0 : Int32) = nI 0 from rfl, x_acR (l2 := i) e1 z_new_self (by omega) (by omega) (by omega) (fun j hj y hy => ?_), x_bS]
  obtain ⟨C, E, h1, h2, h3⟩ := hs j (by omega) y (by rw [Nat.zero_add] at hy; exact hy)
  exact ⟨C, E, h1, h_isA_new hw _ _ h2, h3⟩
theorem h_newLen {n : Nat} (hn : n ≤ 100000) : D_J8_newLength (nI n) (nI (n + 1) - nI n) (nI n >>> ((1 : Int32) &&& 31)) = some (nI (n + max 1 (n / 2))) := by
  unfold D_J8_newLength
  rw [nI_sub (by omega), h_half (by omega), x_lS]
  rw [x_mxN (by omega) (by omega), nI_add, show n + 1 - n = 1 from by omega]
  rw [if_neg, if_neg]
  · rw [show (2147483639 : Int32) = nI 2147483639 from rfl]
    exact nI_nlt (by omega) (by omega)
  · exact nI_nle (by omega) (by omega)
section T93
variable {g : z_G} {o o1 : Nat → Nat} {μ μ1 : z_M} {t l n x : Nat} {xs : List Nat} {S : Nat → Prop}
/-- the array grows: its new address, its new memory -/
theorem h_grow {m : Int32} {arr k : Nat} {f : Nat → Option Nat} (hw : h_wf g μ) (hl : μ.1 l = some (h_lc m arr k)) (ha : μ.1 arr = some (h_rf k f)) (hk0 : 0 < k) (hn : k ≤ 100000) (hs : ∀ j, j < k → ∀ y, f j = some y → x_sa g μ 4 y) :
    D_J2_grow g l μ = some (some μ.2.1, z_set (z_set (z_new μ (k + max 1 (k / 2)) (.inl (4, z_nul (k + max 1 (k / 2))))) μ.2.1 (h_rf (k + max 1 (k / 2)) (va_cpy f (fun _ => none) 0 0 k))) l (h_lc m μ.2.1 k)) := by
  unfold D_J2_grow D_J2_grow_2
  rw [x_giS hl rfl, x_obS hl, x_grR hl rfl, x_oS, x_lnS rfl ha]
  rw [x_lS, x_lS, if_pos (by rw [← nI_0]; exact nI_lt hk0 (by omega))]
  rw [nI_1, h_newLen hn, x_bS, x_grR hl rfl, h_cpo hw ha (by omega) (by omega) hs, x_b2S, show min k (k + max 1 (k / 2)) = k from by omega]
  rw [x_pfS (ci := 3) (fs := [.int m, .ref arr, .int (nI k)]) (by
    rw [z_set_ne (hw.ne hl)]
    exact (z_new_ne (hw.ne hl)).trans hl) (Nat.le_of_ble_eq_true rfl)]
  rfl
theorem h_grow0 {m : Int32} (hok : z_ok g) (hw : h_wf g μ) (hl : μ.1 l = some (h_lc m (z_ad g 55) 0)) :
    D_J2_grow g l μ = some (some μ.2.1, z_set (z_new μ 10 (.inl (4, z_nul 10))) l (h_lc m μ.2.1 0)) := by
  obtain ⟨hz, hT⟩ := z_cs55 hok
  obtain ⟨N', e1, e2, e3⟩ := x_lnC (α := Option Nat × z_M) (t := 4) (kk := fun n6 => x_l (nI n6) fun v9 =>
    x_l (x_b (D_J8_newLength v9 ((nI 0 + 1) - v9) (v9 >>> ((1 : Int32) &&& 31))) fun x11 =>
    x_gr μ l 3 1 fun o12 =>
    x_b2 (D_J10_copyOf_2 g o12 x11 μ) fun o17 μ18 =>
    x_pf μ18 l 3 1 (va_rf o17) fun μ23 =>
    some (o17, μ23)) fun J20 =>
    if 0 < v9 then (J20) else
    x_gr μ l 3 1 fun o25 =>
    x_b (x_st g "java/util/ArrayList" "DEFAULTCAPACITY_EMPTY_ELEMENTDATA" "[Ljava/lang/Object;") fun u29 =>
    x_vr u29 fun o30 =>
    if o25 = o30 then (x_na (x_mx (10 : Int32) (nI 0 + 1)) fun n34 =>
    x_nw μ n34 (.inl (4, z_nul n34)) fun p35 μ36 =>
    x_pf μ36 l 3 1 (.ref p35) fun μ43 =>
    some ((some p35), μ43)) else
    J20) (h_55 hok hw) hT (by omega)
  unfold D_J2_grow D_J2_grow_2
  rw [x_giS hl rfl, x_obS hl, x_grR hl rfl, x_oS]
  show x_b2 _ _ = _
  rw [e3]
  rw [x_lS, x_lS, e1, if_neg (by decide), x_grR hl rfl, x_stS hz, x_bS]
  show x_b2 (if some (z_ad g 55) = some (z_ad g 55) then _ else _) _ = _
  rw [if_pos rfl, show x_mx (10 : Int32) (nI 0 + 1) = nI 10 from by decide, x_naS (by omega), x_nwS]
  rw [x_pfS (ci := 3) (fs := [.int m, .ref (z_ad g 55), .int (nI 0)]) ((z_new_ne (hw.ne hl)).trans hl) (Nat.le_of_ble_eq_true rfl)]
  rfl
theorem h_ls.add (hok : z_ok g) (hL : h_ls g o μ t l n xs) (hw : h_wf g μ) (hb : xs.length < 60000) (hx : x_sa g μ 4 x) : ∃ o1 μ1 n1, D_J2_add g l (some x) μ = some (1, μ1) ∧ h_ls g o1 μ1 t l n1 (xs ++ [x]) ∧ h_fr g (fun a => o a = t) o μ o1 μ1 ∧ n ≤ n1 ∧ (n1 = n ∨ n1 ≤ xs.length + xs.length / 2 + 10) ∧ h_u μ1 ≤ h_u μ + 9 * (n1 - n) := by
  obtain ⟨h1, h2, h3, h4, m, arr, h5, h6⟩ := hL
  have hf1 := h_fr.setF (o := o) (fs' := [.int (m + 1), .ref arr, .int (nI xs.length)]) hw h5
  have hl1 : (z_set μ l (h_lc (m + 1) arr xs.length)).1 l = some (h_lc (m + 1) arr xs.length) := z_set_self
  have hx1 := hf1.sa hx
  have h4' : ∀ y ∈ xs, x_sa g (z_set μ l (h_lc (m + 1) arr xs.length)) 4 y := fun y hy => hf1.sa (h4 y hy)
  have hw1 := hf1.wf
  have hD : D_J2_add g l (some x) μ = x_b (D_J2_add_2 g l (some x) (some arr) (nI xs.length) (z_set μ l (h_lc (m + 1) arr xs.length))) (fun μ21 => some ((1 : Int32), μ21)) := by
    unfold D_J2_add
    rw [x_giS h5 rfl, x_pfS h5 (Nat.le_of_ble_eq_true rfl)]
    refine (x_grR hl1 rfl).trans ?_
    refine (x_giS hl1 rfl).trans ?_
    exact x_obS hl1
  rw [hD]
  have hu : h_u (z_set μ l (h_lc (m + 1) arr xs.length)) = h_u μ := rfl
  rcases h6 with ⟨h6, h7⟩ | ⟨h6, h7, f, h8, h9⟩
  · -- the first
    subst h6
    subst h7
    have hxs : xs = [] := List.length_eq_zero_iff.mp (by omega)
    subst hxs
    replace h5 : μ.1 l = some (h_lc m (z_ad g 55) 0) := h5
    replace hl1 : (z_set μ l (h_lc (m + 1) (z_ad g 55) 0)).1 l = some (h_lc (m + 1) (z_ad g 55) 0) := hl1
    replace hw1 : h_wf g (z_set μ l (h_lc (m + 1) (z_ad g 55) 0)) := hw1
    replace hu : h_u (z_set μ l (h_lc (m + 1) (z_ad g 55) 0)) = h_u μ := hu
    obtain ⟨hz, hT⟩ := z_cs55 hok
    obtain ⟨N', e1, e2, e3⟩ := x_lnC (α := z_M) (t := 4) (kk := fun n2 => x_l (fun (v2_5 : Option Nat) (μ6 : z_M) => x_o v2_5 fun p7 =>
      x_o (some x) fun p13 =>
      x_aa μ6 p7 4 fun n8 f9 =>
      x_ga (nI 0) n8 fun j11 =>
      x_gp (x_sa g μ6 4 p13) <|
      x_l (x_ra μ6 p7 4 n8 j11 f9 (some p13)) fun μ12 =>
      x_pf μ12 l 3 2 (.int (nI 0 + (1 : Int32))) fun μ19 =>
      some μ19) fun J11 =>
      if (nI 0) = (nI n2) then (x_ob (z_set μ l (h_lc (m + 1) (z_ad g 55) 0)) l 3 fun _ =>
      x_b2 (D_J2_grow g l (z_set μ l (h_lc (m + 1) (z_ad g 55) 0))) fun o24 μ25 =>
      J11 o24 μ25) else
      J11 (some (z_ad g 55)) (z_set μ l (h_lc (m + 1) (z_ad g 55) 0))) (h_55 hok hw1) hT (by omega)
    have hne : l ≠ μ.2.1 := hw.ne h5
    have f2 := h_fr.new (o := o) (n := 10) (t := t) (x := .inl (4, z_nul 10)) hw1
    have hl2 : (z_new (z_set μ l (h_lc (m + 1) (z_ad g 55) 0)) 10 (.inl (4, z_nul 10))).1 l = some (h_lc (m + 1) (z_ad g 55) 0) := (z_new_ne (μ := z_set μ l (h_lc (m + 1) (z_ad g 55) 0)) hne).trans hl1
    have f3 := h_fr.setF (o := fun b => if b = μ.2.1 then t else o b) (fs' := [.int (m + 1), .ref μ.2.1, .int (nI 0)]) f2.wf hl2
    have hl3 : (z_set (z_new (z_set μ l (h_lc (m + 1) (z_ad g 55) 0)) 10 (.inl (4, z_nul 10))) l (h_lc (m + 1) μ.2.1 0)).1 l = some (h_lc (m + 1) μ.2.1 0) := z_set_self
    have ha3 : (z_set (z_new (z_set μ l (h_lc (m + 1) (z_ad g 55) 0)) 10 (.inl (4, z_nul 10))) l (h_lc (m + 1) μ.2.1 0)).1 μ.2.1 = some (h_rf 10 (fun _ => none)) := (z_set_ne (Ne.symm hne)).trans z_new_self
    obtain ⟨q1, q2⟩ := h_addR (xs := []) (t := t) (o := fun b => if b = μ.2.1 then t else o b) f3.wf (by show (if l = μ.2.1 then t else o l) = t; rw [if_neg hne]; exact h1) (if_pos rfl) hl3 ha3 (by decide) (by decide) (fun y hy => by cases hy) (f3.sa (f2.sa hx1)) (fun i hi => rfl)
    refine ⟨_, _, 10, ?_, q1, ?_, by omega, Or.inr (by omega), ?_⟩
    · unfold D_J2_add_2
      rw [x_oS]
      show x_b (x_ln g _ _ 4 _) _ = _
      have e4 : x_ln g (z_set μ l (h_lc (m + 1) (z_ad g 55) 0)) (z_ad g 55) 4 _ = _ := e3
      refine (congrArg (fun z => x_b z (fun μ21 => some ((1 : Int32), μ21))) e4).trans ?_
      rw [x_lS, e1, if_pos rfl, x_obS hl1, h_grow0 hok hw1 hl1, x_b2S]
      exact congrArg (fun z => x_b z (fun μ21 => some ((1 : Int32), μ21))) (h_addJ hl3 ha3 (by decide) (by decide) (f3.sa (f2.sa hx1)) (fun μ19 => some μ19))
    · have hlt := hw.lt h5
      refine ((hf1.trans f2 (S := fun a => o a = t) (fun a _ q => ?_)).trans f3 (S := fun a => o a = t) (fun a _ q => ?_)).trans q2 (fun a ha q => ?_)
      · rcases q with q | q
        · rw [q]; exact h1
        · exact q.elim
      · rcases q with q | q
        · exact q
        · rw [q]; exact h1
      · rcases q with q | q | q
        · exact q
        · rw [q]; exact h1
        · rw [q] at ha; exact absurd ha (Nat.lt_irrefl _)
    · show h_u (z_new (z_set μ l (h_lc (m + 1) (z_ad g 55) 0)) 10 (.inl (4, z_nul 10))) ≤ _
      rw [h_u_new, hu]
      omega
  · have hne : l ≠ arr := fun q => by rw [q, h8] at h5; cases h5
    have ha1 : (z_set μ l (h_lc (m + 1) arr xs.length)).1 arr = some (h_rf n f) := (z_set_ne (Ne.symm hne)).trans h8
    by_cases hc : xs.length = n
    · have hs : ∀ j, j < n → ∀ y, f j = some y → x_sa g (z_set μ l (h_lc (m + 1) arr xs.length)) 4 y := fun j hj y hy => by
        rw [h9 j hj] at hy
        exact h4' y (List.mem_of_getElem? hy)
      have hl1' : (z_set μ l (h_lc (m + 1) arr xs.length)).1 l = some (h_lc (m + 1) arr n) := by rw [hl1, hc]
      have hnl : l ≠ μ.2.1 := hw.ne h5
      have hg := h_grow hw1 hl1' ha1 h6 h3 hs
      generalize hN : n + max 1 (n / 2) = N at hg
      have f2 := h_fr.new (o := o) (n := N) (t := t) (x := .inl (4, z_nul N)) hw1
      have f2b := h_fr.setA (o := fun b => if b = μ.2.1 then t else o b) (x' := (N, .inr (.inr (.inr (.inr (va_cpy f (fun _ => none) 0 0 n)))))) (a := μ.2.1) f2.wf z_new_self
      have hl2 : (z_set (z_new (z_set μ l (h_lc (m + 1) arr xs.length)) N (.inl (4, z_nul N))) μ.2.1 (h_rf N (va_cpy f (fun _ => none) 0 0 n))).1 l = some (h_lc (m + 1) arr n) := (z_set_ne hnl).trans ((z_new_ne (μ := z_set μ l (h_lc (m + 1) arr xs.length)) hnl).trans hl1')
      have f3 := h_fr.setF (o := fun b => if b = μ.2.1 then t else o b) (fs' := [.int (m + 1), .ref μ.2.1, .int (nI n)]) f2b.wf hl2
      have hl3 : (z_set (z_set (z_new (z_set μ l (h_lc (m + 1) arr xs.length)) N (.inl (4, z_nul N))) μ.2.1 (h_rf N (va_cpy f (fun _ => none) 0 0 n))) l (h_lc (m + 1) μ.2.1 n)).1 l = some (h_lc (m + 1) μ.2.1 xs.length) := by rw [hc]; exact z_set_self
      have ha3 : (z_set (z_set (z_new (z_set μ l (h_lc (m + 1) arr xs.length)) N (.inl (4, z_nul N))) μ.2.1 (h_rf N (va_cpy f (fun _ => none) 0 0 n))) l (h_lc (m + 1) μ.2.1 n)).1 μ.2.1 = some (h_rf N (va_cpy f (fun _ => none) 0 0 n)) := (z_set_ne (Ne.symm hnl)).trans z_set_self
      have hsa3 : ∀ y, x_sa g (z_set μ l (h_lc (m + 1) arr xs.length)) 4 y → x_sa g _ 4 y := fun y hy => f3.sa (f2b.sa (f2.sa hy))
      obtain ⟨q1, q2⟩ := h_addR (xs := xs) (t := t) (o := fun b => if b = μ.2.1 then t else o b) f3.wf (by show (if l = μ.2.1 then t else o l) = t; rw [if_neg hnl]; exact h1) (if_pos rfl) hl3 ha3 (by omega) (by omega) (fun y hy => hsa3 y (h4' y hy)) (hsa3 x hx1) (fun i hi => by
        unfold va_cpy
        by_cases hi2 : i < n
        · rw [if_pos ⟨Nat.zero_le _, by omega⟩, Nat.zero_add, Nat.sub_zero]; exact h9 i hi2
        · rw [if_neg (by omega), List.getElem?_eq_none (by omega)])
      refine ⟨_, _, N, ?_, q1, ?_, by omega, Or.inr (by omega), ?_⟩
      · unfold D_J2_add_2
        rw [x_oS, x_lnS rfl ha1, x_lS, if_pos (by rw [hc]), x_obS hl1, hg, x_b2S]
        exact congrArg (fun z => x_b z (fun μ21 => some ((1 : Int32), μ21))) (h_addJ hl3 ha3 (by omega) (by omega) (hsa3 x hx1) (fun μ19 => some μ19))
      · refine (((hf1.trans f2 (S := fun a => o a = t) (fun a _ q => ?_)).trans f2b (S := fun a => o a = t) (fun a ha q => ?_)).trans f3 (S := fun a => o a = t) (fun a _ q => ?_)).trans q2 (fun a ha q => ?_)
        · rcases q with q | q
          · rw [q]; exact h1
          · exact q.elim
        · rcases q with q | q
          · exact q
          · rw [q] at ha; exact absurd ha (Nat.lt_irrefl _)
        · rcases q with q | q
          · exact q
          · rw [q]; exact h1
        · rcases q with q | q | q
          · exact q
          · rw [q]; exact h1
          · rw [q] at ha; exact absurd ha (Nat.lt_irrefl _)
      · show h_u (z_new (z_set μ l (h_lc (m + 1) arr xs.length)) N (.inl (4, z_nul N))) ≤ _
        rw [h_u_new, hu]
        omega
    · obtain ⟨q1, q2⟩ := h_addR (xs := xs) (t := t) (o := o) hw1 h1 h7 hl1 ha1 (by omega) h3 h4' hx1 h9
      refine ⟨o, _, n, ?_, q1, ?_, Nat.le_refl _, Or.inl rfl, ?_⟩
      · unfold D_J2_add_2
        rw [x_oS, x_lnS rfl ha1, x_lS, if_neg (fun q => hc ((nI_eq (by omega) (by omega)).mp q))]
        exact congrArg (fun z => x_b z (fun μ21 => some ((1 : Int32), μ21))) (h_addJ hl1 ha1 (by omega) (by omega) hx1 (fun μ19 => some μ19))
      · refine hf1.trans q2 (fun a _ q => ?_)
        rcases q with q | q | q
        · rw [q]; exact h1
        · rw [q]; exact h1
        · rw [q]; exact h7
      · show h_u μ ≤ _
        omega
end T93
