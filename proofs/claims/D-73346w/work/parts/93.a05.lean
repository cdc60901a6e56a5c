/-! THE COMPONENT's LAW, 5: what goes through a list; lists are filled from lists -/
set_option maxRecDepth 100000
set_option linter.unusedVariables false
/-- what goes through the list l stands at p, ahead of place k -/
def h_it (μ : z_M) (p l k : Nat) : Prop := ∃ (x m : Int32) (arr sz : Value), μ.1 p = some (.inr (25, [.int (nI k), .int x, .int m, .ref l])) ∧ μ.1 l = some (.inr (3, [.int m, arr, sz]))
section T93
variable {g : z_G} {o o1 : Nat → Nat} {μ μ1 : z_M} {t l n x p k : Nat} {xs : List Nat} {S : Nat → Prop}
theorem h_it.fr (hI : h_it μ p l k) (h : h_fr g S o μ o1 μ1) (hw : h_wf g μ) (hp : ¬ S p) (hl : ¬ S l) : h_it μ1 p l k := by
  obtain ⟨x, m, arr, sz, h1, h2⟩ := hI
  exact ⟨x, m, arr, sz, h.cell hw h1 hp, h.cell hw h2 hl⟩
theorem h_ls.iter (t' : Nat) (hL : h_ls g o μ t l n xs) (hw : h_wf g μ) : ∃ μ1, D_J2_iterator g l μ = some (some μ.2.1, μ1) ∧ h_it μ1 μ.2.1 l 0 ∧ h_fr g (fun _ => False) o μ (h_o1 o μ.2.1 t') μ1 ∧ μ1.2.1 = μ.2.1 + 1 ∧ h_u μ1 = h_u μ + 9 := by
  obtain ⟨h1, h2, h3, h4, m, arr, h5, h6⟩ := hL
  have f1 := h_fr.new (o := o) (n := 4) (t := t') (x := .inr (25, [.int 0, .int 0, .int 0, .null])) hw
  have c1 : (z_new μ 4 (.inr (25, [.int 0, .int 0, .int 0, .null]))).1 μ.2.1 = some (.inr (25, [.int 0, .int 0, .int 0, .null])) := z_new_self
  have hne : l ≠ μ.2.1 := hw.ne h5
  have f2 := h_fr.setF (o := h_o1 o μ.2.1 t') (fs' := [.int 0, .int 0, .int 0, .ref l]) f1.wf c1
  have c2 : (z_set (z_new μ 4 (.inr (25, [.int 0, .int 0, .int 0, .null]))) μ.2.1 (.inr (25, [.int 0, .int 0, .int 0, .ref l]))).1 μ.2.1 = some (.inr (25, [.int 0, .int 0, .int 0, .ref l])) := z_set_self
  have f3 := h_fr.setF (o := h_o1 o μ.2.1 t') (fs' := [.int 0, .int (-1), .int 0, .ref l]) f2.wf c2
  have c3 : (z_set (z_set (z_new μ 4 (.inr (25, [.int 0, .int 0, .int 0, .null]))) μ.2.1 (.inr (25, [.int 0, .int 0, .int 0, .ref l]))) μ.2.1 (.inr (25, [.int 0, .int (-1), .int 0, .ref l]))).1 μ.2.1 = some (.inr (25, [.int 0, .int (-1), .int 0, .ref l])) := z_set_self
  have l3 : (z_set (z_set (z_new μ 4 (.inr (25, [.int 0, .int 0, .int 0, .null]))) μ.2.1 (.inr (25, [.int 0, .int 0, .int 0, .ref l]))) μ.2.1 (.inr (25, [.int 0, .int (-1), .int 0, .ref l]))).1 l = some (h_lc m arr xs.length) := (z_set_ne hne).trans ((z_set_ne hne).trans ((z_new_ne hne).trans h5))
  have f4 := h_fr.setF (o := h_o1 o μ.2.1 t') (fs' := [.int 0, .int (-1), .int m, .ref l]) f3.wf c3
  refine ⟨z_set (z_set (z_set (z_new μ 4 (.inr (25, [.int 0, .int 0, .int 0, .null]))) μ.2.1 (.inr (25, [.int 0, .int 0, .int 0, .ref l]))) μ.2.1 (.inr (25, [.int 0, .int (-1), .int 0, .ref l]))) μ.2.1 (.inr (25, [.int 0, .int (-1), .int m, .ref l])), ?_, ⟨-1, m, .ref arr, _, z_set_self, (z_set_ne hne).trans l3⟩, ?_, rfl, ?_⟩
  · unfold D_J2_iterator
    rw [x_nwS]
    have e : D_J20_init g μ.2.1 (some l) (z_new μ 4 (.inr (25, [.int 0, .int 0, .int 0, .null]))) = some (z_set (z_set (z_set (z_new μ 4 (.inr (25, [.int 0, .int 0, .int 0, .null]))) μ.2.1 (.inr (25, [.int 0, .int 0, .int 0, .ref l]))) μ.2.1 (.inr (25, [.int 0, .int (-1), .int 0, .ref l]))) μ.2.1 (.inr (25, [.int 0, .int (-1), .int m, .ref l]))) := by
      unfold D_J20_init
      refine (x_pfS c1 (Nat.le_of_ble_eq_true rfl)).trans ?_
      refine (x_pfS c2 (Nat.le_of_ble_eq_true rfl)).trans ?_
      refine (x_grR c3 rfl).trans ?_
      refine x_oS.trans ?_
      refine (x_giS l3 rfl).trans ?_
      exact (x_pfS c3 (Nat.le_of_ble_eq_true rfl))
    rw [e, x_bS]
  · refine ((f1.trans f2 (S := fun a => a = μ.2.1) (fun a _ q => ?_)).trans f3 (S := fun a => a = μ.2.1) (fun a _ q => q.elim id id)).trans f4 (fun a ha q => ?_)
    · rcases q with q | q
      · exact q.elim
      · exact q
    · rcases q with q | q <;> (rw [q] at ha; exact absurd ha (Nat.lt_irrefl _))
  · rw [h_u_set, h_u_set, h_u_set, h_u_new]
theorem h_it.hasNext (hI : h_it μ p l k) (hL : h_ls g o μ t l n xs) (hk : k ≤ xs.length) : D_J20_hasNext g p μ = some (if k = xs.length then 0 else 1) := by
  obtain ⟨h1, h2, h3, h4, m, arr, h5, h6⟩ := hL
  obtain ⟨x, m', arr', sz, c1, c2⟩ := hI
  unfold D_J20_hasNext
  rw [x_giS c1 rfl, x_grR c1 rfl, x_oS, x_giS h5 rfl]
  by_cases e : k = xs.length
  · rw [if_pos (by rw [e]), if_pos e]
  · rw [if_neg (fun q => e ((nI_eq (by omega) (by omega)).mp q)), if_neg e]
theorem h_it.ob {α : Type} {m : Option α} (hI : h_it μ p l k) : x_ob μ p 25 (fun _ => m) = m := by
  obtain ⟨x, m', arr', sz, c1, c2⟩ := hI
  exact x_obS c1
theorem h_it.next (hI : h_it μ p l k) (hL : h_ls g o μ t l n xs) (hw : h_wf g μ) (hk : xs[k]? = some x) : ∃ μ1, D_J20_next g p μ = some (some x, μ1) ∧ h_it μ1 p l (k + 1) ∧ h_fr g (fun a => a = p) o μ o μ1 ∧ μ1.2 = μ.2 := by
  obtain ⟨m, arr, f, h5, h8, h7, hn, hf, hlt, hall⟩ := hL.arr hk
  have hb : n ≤ 100000 := hL.2.2.1
  have hle : xs.length ≤ n := hL.2.1
  obtain ⟨x', m', arr', sz, c1, c2⟩ := hI
  cases h5.symm.trans c2
  have hpl : l ≠ p := fun q => by rw [q, c1] at h5; cases h5
  have hpa : arr ≠ p := fun q => by rw [q, c1] at h8; cases h8
  have f1 := h_fr.setF (o := o) (fs' := [.int (nI (k + 1)), .int x', .int m, .ref l]) hw c1
  have d1 : (z_set μ p (.inr (25, [.int (nI (k + 1)), .int x', .int m, .ref l]))).1 p = some (.inr (25, [.int (nI (k + 1)), .int x', .int m, .ref l])) := z_set_self
  have f2 := h_fr.setF (o := o) (fs' := [.int (nI (k + 1)), .int (nI k), .int m, .ref l]) f1.wf d1
  refine ⟨z_set (z_set μ p (.inr (25, [.int (nI (k + 1)), .int x', .int m, .ref l]))) p (.inr (25, [.int (nI (k + 1)), .int (nI k), .int m, .ref l])), ?_, ⟨nI k, m, _, _, z_set_self, (z_set_ne hpl).trans ((z_set_ne hpl).trans h5)⟩, f1.trans f2 (fun a _ q => q.elim id id), rfl⟩
  unfold D_J20_next D_J20_checkForComodification
  rw [x_obS c1, x_grR c1 rfl, x_oS, x_giS h5 rfl, x_giS c1 rfl, if_pos rfl, x_bS, x_giS c1 rfl, x_grR c1 rfl, x_oS, x_giS h5 rfl, if_pos (nI_lt hlt (by omega)), x_grR c1 rfl, x_oS, x_grR h5 rfl, x_oS, x_lnS rfl h8, if_pos (nI_lt (by omega) (by omega)), nI_1]
  refine (x_pfS c1 (Nat.le_of_ble_eq_true rfl)).trans ?_
  refine (x_pfS d1 (Nat.le_of_ble_eq_true rfl)).trans ?_
  refine (x_aaS ((z_set_ne hpa).trans ((z_set_ne hpa).trans h8))).trans ?_
  rw [x_gaS hn (by omega), x_lS, hf]
  rfl
/-- an empty list takes what another holds -/
theorem h_ls.addAll {t' l' n' : Nat} {ys : List Nat} (tz : Nat) (hL : h_ls g o μ t l n []) (hL' : h_ls g o μ t' l' n' ys) (hw : h_wf g μ) (hn0 : 0 < n) (hn' : 0 < n') (hy : ys.length ≤ n) (htt : t ≠ t') : ∃ r o1 μ1, D_J2_addAll g l (some l') μ = some (r, μ1) ∧ h_ls g o1 μ1 t l n ys ∧ h_fr g (fun a => o a = t) o μ o1 μ1 ∧ h_u μ1 = h_u μ + 5 + ys.length := by
  obtain ⟨h1, h2, h3, h4, m, arr, h5, h6⟩ := hL
  obtain ⟨h1', h2', h3', h4', m', arr', h5', h6'⟩ := hL'
  rcases h6 with ⟨h6, -⟩ | ⟨h6, h7, f, h8, h9⟩
  · omega
  rcases h6' with ⟨h6', -⟩ | ⟨h6', h7', f', h8', h9'⟩
  · omega
  have hll : l ≠ l' := fun q => by rw [q, h1'] at h1; exact htt h1.symm
  have hne : l ≠ arr := fun q => by rw [q, h8] at h5; cases h5
  have hpp := hw.ne h5
  have hpa := hw.ne h8
  have hs : ∀ j, j < n' → ∀ y, f' j = some y → x_sa g μ 4 y := fun j hj y hy => by
    rw [h9' j hj] at hy
    exact h4' y (List.mem_of_getElem? hy)
  have hc := h_cpo (i := ys.length) hw h8' (by omega) (by omega) hs
  rw [show min n' ys.length = ys.length from by omega] at hc
  generalize hF : va_cpy f' (fun _ => none) 0 0 ys.length = F at hc
  have hF2 : ∀ j, j < ys.length → F j = ys[j]? := fun j hj => by
    rw [← hF]
    unfold va_cpy
    rw [if_pos ⟨Nat.zero_le _, by omega⟩, Nat.zero_add, Nat.sub_zero]
    exact h9' j (by omega)
  have f1 := h_fr.new (o := o) (n := ys.length) (t := tz) (x := .inl (4, z_nul ys.length)) hw
  have f2 := h_fr.setA (o := h_o1 o μ.2.1 tz) (x' := (ys.length, .inr (.inr (.inr (.inr F))))) (a := μ.2.1) f1.wf z_new_self
  generalize hM : z_set (z_new μ ys.length (.inl (4, z_nul ys.length))) μ.2.1 (h_rf ys.length F) = M at hc f2
  have l1 : M.1 l = some (h_lc m arr 0) := by rw [← hM]; exact (z_set_ne hpp).trans ((z_new_ne hpp).trans h5)
  have a1 : M.1 arr = some (h_rf n f) := by rw [← hM]; exact (z_set_ne hpa).trans ((z_new_ne hpa).trans h8)
  have b1 : M.1 μ.2.1 = some (h_rf ys.length F) := by rw [← hM]; exact z_set_self
  have u1 : h_u M = h_u μ + 5 + ys.length := by rw [← hM, h_u_set, h_u_new]
  have f12 : h_fr g (fun a => o a = t) o μ (h_o1 o μ.2.1 tz) M := f1.trans f2 (fun a ha q => by
    rcases q with q | q
    · exact q.elim
    · rw [q] at ha; exact absurd ha (Nat.lt_irrefl _))
  have f3 := h_fr.setF (o := h_o1 o μ.2.1 tz) (fs' := [.int (m + 1), .ref arr, .int (nI 0)]) f12.wf l1
  have l2 : (z_set M l (h_lc (m + 1) arr 0)).1 l = some (h_lc (m + 1) arr 0) := z_set_self
  have a2 : (z_set M l (h_lc (m + 1) arr 0)).1 arr = some (h_rf n f) := (z_set_ne (Ne.symm hne)).trans a1
  have b2 : (z_set M l (h_lc (m + 1) arr 0)).1 μ.2.1 = some (h_rf ys.length F) := (z_set_ne (Ne.symm hpp)).trans b1
  have f123 : h_fr g (fun a => o a = t) o μ (h_o1 o μ.2.1 tz) (z_set M l (h_lc (m + 1) arr 0)) := f12.trans f3 (fun a _ q => by
    rcases q with q | q
    · exact q
    · rw [q]; exact h1)
  have ol : h_o1 o μ.2.1 tz l = t := (if_neg hpp).trans h1
  have oa : h_o1 o μ.2.1 tz arr = t := (if_neg hpa).trans h7
  have hT : D_J2_addAll g l (some l') μ = (x_l (nI ys.length) fun v20 =>
      if v20 = 0 then (some ((0 : Int32), z_set M l (h_lc (m + 1) arr 0))) else
      x_gr (z_set M l (h_lc (m + 1) arr 0)) l 3 1 fun o22 =>
      x_o o22 fun p26 =>
      x_ln g (z_set M l (h_lc (m + 1) arr 0)) p26 4 fun n27 =>
      x_gi (z_set M l (h_lc (m + 1) arr 0)) l 3 2 fun x30 =>
      x_l (fun (v4_34 : Option Nat) (μ35 : z_M) => x_b (x_ac g μ35 (some μ.2.1) (0 : Int32) v4_34 x30 v20) fun μ37 =>
      x_pf μ37 l 3 2 (.int (x30 + v20)) fun μ42 =>
      some ((1 : Int32), μ42)) fun J56 =>
      if v20 ≤ ((nI n27) - x30) then (J56 (some p26) (z_set M l (h_lc (m + 1) arr 0))) else
      x_ob (z_set M l (h_lc (m + 1) arr 0)) l 3 fun _ =>
      x_b2 (D_J2_grow_2 g l (x30 + v20) (z_set M l (h_lc (m + 1) arr 0))) fun o47 μ48 =>
      J56 o47 μ48) := by
    unfold D_J2_addAll D_J2_toArray
    rw [x_oS, x_obS h5', x_grR h5' rfl, x_giS h5' rfl, hc, x_b2S, x_b2S]
    refine (x_giS l1 rfl).trans ?_
    refine (x_pfS l1 (Nat.le_of_ble_eq_true rfl)).trans ?_
    refine x_oS.trans ?_
    exact x_lnS rfl b2
  rw [hT, x_lS]
  by_cases hz : ys.length = 0
  · have hys : ys = [] := List.length_eq_zero_iff.mp hz
    subst hys
    refine ⟨0, h_o1 o μ.2.1 tz, _, if_pos rfl, ⟨ol, Nat.zero_le _, h3, (fun x hx => by cases hx), m + 1, arr, l2, Or.inr ⟨h6, oa, f, a2, h9⟩⟩, f123, u1⟩
  · rw [if_neg (nI_ne0 (by omega) (by omega)), x_grR l2 rfl, x_oS, x_lnS rfl a2, x_giS l2 rfl, x_lS, if_pos (by rw [nI_0, Int32.sub_zero]; exact nI_le hy (by omega))]
    have hsF : ∀ j, j < ys.length → ∀ y, F (0 + j) = some y → x_sa g (z_set M l (h_lc (m + 1) arr 0)) 4 y := fun j hj y hy => by
      rw [Nat.zero_add, hF2 j hj] at hy
      exact f123.sa (h4' y (List.mem_of_getElem? hy))
    have hac : x_ac g (z_set M l (h_lc (m + 1) arr 0)) (some μ.2.1) 0 (some arr) (nI 0) (nI ys.length) = some (z_set (z_set M l (h_lc (m + 1) arr 0)) arr (h_rf n (va_cpy F f 0 0 ys.length))) := x_acR (s := 0) (d := 0) b2 a2 (by omega) (by omega) (by omega) hsF
    have f4 := h_fr.setA (o := h_o1 o μ.2.1 tz) (x' := (n, .inr (.inr (.inr (.inr (va_cpy F f 0 0 ys.length)))))) f123.wf a2
    have l3 : (z_set (z_set M l (h_lc (m + 1) arr 0)) arr (h_rf n (va_cpy F f 0 0 ys.length))).1 l = some (h_lc (m + 1) arr 0) := (z_set_ne hne).trans l2
    have f5 := h_fr.setF (o := h_o1 o μ.2.1 tz) (fs' := [.int (m + 1), .ref arr, .int (nI ys.length)]) f4.wf l3
    have f6 : h_fr g (fun a => o a = t) o μ (h_o1 o μ.2.1 tz) (z_set (z_set (z_set M l (h_lc (m + 1) arr 0)) arr (h_rf n (va_cpy F f 0 0 ys.length))) l (h_lc (m + 1) arr ys.length)) := by
      refine (f123.trans f4 (S := fun a => o a = t) (fun a _ q => ?_)).trans f5 (fun a _ q => ?_)
      · rcases q with q | q
        · exact q
        · rw [q]; exact h7
      · rcases q with q | q
        · exact q
        · rw [q]; exact h1
    refine ⟨1, h_o1 o μ.2.1 tz, z_set (z_set (z_set M l (h_lc (m + 1) arr 0)) arr (h_rf n (va_cpy F f 0 0 ys.length))) l (h_lc (m + 1) arr ys.length), ?_, ⟨ol, hy, h3, fun y hy => f6.sa (h4' y hy), m + 1, arr, z_set_self, Or.inr ⟨h6, oa, _, (z_set_ne (Ne.symm hne)).trans z_set_self, fun i hi => ?_⟩⟩, f6, u1⟩
    · show x_b (x_ac g (z_set M l (h_lc (m + 1) arr 0)) (some μ.2.1) 0 (some arr) (nI 0) (nI ys.length)) _ = _
      rw [hac, x_bS]
      refine (x_pfS l3 (Nat.le_of_ble_eq_true rfl)).trans ?_
      rw [nI_add, Nat.zero_add]
      rfl
    · unfold va_cpy
      by_cases hi2 : i < ys.length
      · rw [if_pos ⟨Nat.zero_le _, by omega⟩, Nat.zero_add, Nat.sub_zero]; exact hF2 i hi2
      · rw [if_neg (by omega), h9 i hi, List.getElem?_eq_none (by omega : ys.length ≤ i)]; rfl
end T93
