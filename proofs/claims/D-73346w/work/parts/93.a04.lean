/-! THE COMPONENT's LAW, 4: lists are made, shortened, emptied, filled, gone through -/
set_option maxRecDepth 100000
set_option linter.unusedVariables false
abbrev h_o1 (o : Nat → Nat) (p t : Nat) : Nat → Nat := fun b => if b = p then t else o b
section T93
variable {g : z_G} {o o1 : Nat → Nat} {μ μ1 : z_M} {t l n x : Nat} {xs : List Nat} {S : Nat → Prop}
theorem h_list0 (t : Nat) (hok : z_ok g) (hw : h_wf g μ) : ∃ μ1, D_J2_init_2 g μ.2.1 (z_new μ 3 (.inr (3, [.int 0, .null, .int 0]))) = some μ1 ∧ h_ls g (h_o1 o μ.2.1 t) μ1 t μ.2.1 0 [] ∧ h_fr g (fun _ => False) o μ (h_o1 o μ.2.1 t) μ1 ∧ μ1.2.1 = μ.2.1 + 1 ∧ h_u μ1 = h_u μ + 8 := by
  obtain ⟨hz, hT⟩ := z_cs55 hok
  have f1 := h_fr.new (o := o) (n := 3) (t := t) (x := .inr (3, [.int 0, .null, .int 0])) hw
  have c1 : (z_new μ 3 (.inr (3, [.int 0, .null, .int 0]))).1 μ.2.1 = some (.inr (3, [.int 0, .null, .int 0])) := z_new_self
  have f2 := h_fr.setF (o := h_o1 o μ.2.1 t) (fs' := [.int 0, .null, .int 0]) f1.wf c1
  have c2 : (z_set (z_new μ 3 (.inr (3, [.int 0, .null, .int 0]))) μ.2.1 (.inr (3, [.int 0, .null, .int 0]))).1 μ.2.1 = some (.inr (3, [.int 0, .null, .int 0])) := z_set_self
  have f3 := h_fr.setF (o := h_o1 o μ.2.1 t) (fs' := [.int 0, .ref (z_ad g 55), .int 0]) f2.wf c2
  refine ⟨z_set (z_set (z_new μ 3 (.inr (3, [.int 0, .null, .int 0]))) μ.2.1 (.inr (3, [.int 0, .null, .int 0]))) μ.2.1 (.inr (3, [.int 0, .ref (z_ad g 55), .int 0])), ?_, ⟨if_pos rfl, Nat.le_refl _, by omega, (fun x hx => by cases hx), 0, z_ad g 55, z_set_self, Or.inl ⟨rfl, rfl⟩⟩, ?_, rfl, ?_⟩
  · unfold D_J2_init_2 D_J1_init D_J0_init
    rw [x_bS, x_pfS c1 (Nat.le_of_ble_eq_true rfl), x_bS, x_stS hz, x_bS]
    exact (x_pfS c2 (Nat.le_of_ble_eq_true rfl))
  · refine (f1.trans f2 (S := fun a => a = μ.2.1) (fun a _ q => ?_)).trans f3 (fun a ha q => ?_)
    · rcases q with q | q
      · exact q.elim
      · exact q
    · rcases q with q | q <;> (rw [q] at ha; exact absurd ha (Nat.lt_irrefl _))
  · rw [h_u_set, h_u_set, h_u_new]
theorem h_listC (t c : Nat) (hw : h_wf g μ) (hc : 0 < c) (hcb : c ≤ 1000) : ∃ μ1, D_J2_init g μ.2.1 (nI c) (z_new μ 3 (.inr (3, [.int 0, .null, .int 0]))) = some μ1 ∧ h_ls g (h_o1 (h_o1 o μ.2.1 t) (μ.2.1 + 1) t) μ1 t μ.2.1 c [] ∧ h_fr g (fun _ => False) o μ (h_o1 (h_o1 o μ.2.1 t) (μ.2.1 + 1) t) μ1 ∧ μ1.2.1 = μ.2.1 + 2 ∧ h_u μ1 = h_u μ + 13 + c := by
  have f1 := h_fr.new (o := o) (n := 3) (t := t) (x := .inr (3, [.int 0, .null, .int 0])) hw
  have c1 : (z_new μ 3 (.inr (3, [.int 0, .null, .int 0]))).1 μ.2.1 = some (.inr (3, [.int 0, .null, .int 0])) := z_new_self
  have f2 := h_fr.setF (o := h_o1 o μ.2.1 t) (fs' := [.int 0, .null, .int 0]) f1.wf c1
  have c2 : (z_set (z_new μ 3 (.inr (3, [.int 0, .null, .int 0]))) μ.2.1 (.inr (3, [.int 0, .null, .int 0]))).1 μ.2.1 = some (.inr (3, [.int 0, .null, .int 0])) := z_set_self
  have f3 := h_fr.new (o := h_o1 o μ.2.1 t) (n := c) (t := t) (x := .inl (4, z_nul c)) f2.wf
  have hne : μ.2.1 ≠ μ.2.1 + 1 := by omega
  have c3 : (z_new (z_set (z_new μ 3 (.inr (3, [.int 0, .null, .int 0]))) μ.2.1 (.inr (3, [.int 0, .null, .int 0]))) c (.inl (4, z_nul c))).1 μ.2.1 = some (.inr (3, [.int 0, .null, .int 0])) := (z_new_ne hne).trans c2
  have f4 := h_fr.setF (o := h_o1 (h_o1 o μ.2.1 t) (μ.2.1 + 1) t) (fs' := [.int 0, .ref (μ.2.1 + 1), .int 0]) f3.wf c3
  refine ⟨z_set (z_new (z_set (z_new μ 3 (.inr (3, [.int 0, .null, .int 0]))) μ.2.1 (.inr (3, [.int 0, .null, .int 0]))) c (.inl (4, z_nul c))) μ.2.1 (.inr (3, [.int 0, .ref (μ.2.1 + 1), .int 0])), ?_, ⟨(if_neg hne).trans (if_pos rfl), Nat.zero_le _, by omega, (fun x hx => by cases hx), 0, μ.2.1 + 1, z_set_self, Or.inr ⟨hc, if_pos rfl, fun _ => none, ?_, fun i hi => rfl⟩⟩, ?_, ?_, ?_⟩
  · unfold D_J2_init D_J1_init D_J0_init
    rw [x_bS, x_pfS c1 (Nat.le_of_ble_eq_true rfl), x_bS, if_neg (nI_nle hc (by omega)), x_naS (by omega)]
    rw [x_nwS]
    exact (x_pfS c3 (Nat.le_of_ble_eq_true rfl))
  · exact (z_set_ne (Ne.symm hne)).trans z_new_self
  · refine ((f1.trans f2 (S := fun a => a = μ.2.1) (fun a _ q => ?_)).trans f3 (S := fun a => a = μ.2.1) (fun a _ q => ?_)).trans f4 (fun a ha q => ?_)
    · rcases q with q | q
      · exact q.elim
      · exact q
    · rcases q with q | q
      · exact q
      · exact q.elim
    · rcases q with q | q <;> (rw [q] at ha; exact absurd ha (Nat.lt_irrefl _))
  · rfl
  · rw [h_u_set, h_u_new, h_u_set, h_u_new]
theorem h_ls.remove {i : Nat} (hL : h_ls g o μ t l n xs) (hw : h_wf g μ) (hi : xs[i]? = some x) : ∃ μ1, D_J2_remove g l (nI i) μ = some (some x, μ1) ∧ h_ls g o μ1 t l n (xs.eraseIdx i) ∧ h_fr g (fun a => o a = t) o μ o μ1 ∧ μ1.2 = μ.2 := by
  obtain ⟨m, arr, f, h5, h8, h7, hn, hf, hlt, hall⟩ := hL.arr hi
  have hb : n ≤ 100000 := hL.2.2.1
  have hle : xs.length ≤ n := hL.2.1
  have hne : l ≠ arr := fun q => by rw [q, h8] at h5; cases h5
  have f1 := h_fr.setF (o := o) (fs' := [.int (m + 1), .ref arr, .int (nI xs.length)]) hw h5
  have l1 : (z_set μ l (h_lc (m + 1) arr xs.length)).1 l = some (h_lc (m + 1) arr xs.length) := z_set_self
  have a1 : (z_set μ l (h_lc (m + 1) arr xs.length)).1 arr = some (h_rf n f) := (z_set_ne (Ne.symm hne)).trans h8
  have hv : nI xs.length - (1 : Int32) = nI (xs.length - 1) := nI_sub (b := 1) (by omega)
  have key : ∀ (μ2 : z_M) (f2 : Nat → Option Nat), h_fr g (fun a => o a = t) o μ o μ2 → μ2.1 l = some (h_lc (m + 1) arr xs.length) → μ2.1 arr = some (h_rf n f2) → (∀ j, j < xs.length - 1 → f2 j = (xs.eraseIdx i)[j]?) → (∀ j, xs.length ≤ j → j < n → f2 j = none) → μ2.2 = μ.2 →
      ∃ μ1, (x_pf μ2 l 3 2 (.int (nI (xs.length - 1))) fun μ20 => x_o (some arr) fun p21 => x_aa μ20 p21 4 fun n22 f23 => x_ga (nI (xs.length - 1)) n22 fun j25 => x_l (x_ra μ20 p21 4 n22 j25 f23 none) fun μ26 => some μ26) = some μ1 ∧ h_ls g o μ1 t l n (xs.eraseIdx i) ∧ h_fr g (fun a => o a = t) o μ o μ1 ∧ μ1.2 = μ.2 := by
    intro μ2 f2 q1 q2 q3 q4 q5 q6
    have g1 := h_fr.setF (o := o) (fs' := [.int (m + 1), .ref arr, .int (nI (xs.length - 1))]) q1.wf q2
    have e1 : (z_set μ2 l (h_lc (m + 1) arr (xs.length - 1))).1 arr = some (h_rf n f2) := (z_set_ne (Ne.symm hne)).trans q3
    have g2 := h_fr.setA (o := o) (x' := (n, .inr (.inr (.inr (.inr (fun k => if k = xs.length - 1 then none else f2 k)))))) g1.wf e1
    have g3 : h_fr g (fun a => o a = t) o μ o (z_set (z_set μ2 l (h_lc (m + 1) arr (xs.length - 1))) arr (h_rf n (fun k => if k = xs.length - 1 then none else f2 k))) := by
      refine (q1.trans g1 (S := fun a => o a = t) (fun a _ q => ?_)).trans g2 (fun a _ q => ?_)
      · rcases q with q | q
        · exact q
        · rw [q]; exact hL.1
      · rcases q with q | q
        · exact q
        · rw [q]; exact h7
    have hlen : (xs.eraseIdx i).length = xs.length - 1 := by rw [List.length_eraseIdx]; exact if_pos hlt
    refine ⟨_, ?_, ⟨hL.1, by omega, hb, fun y hy => g3.sa (hL.2.2.2.1 y (List.mem_of_mem_eraseIdx hy)), m + 1, arr, ?_, Or.inr ⟨by omega, h7, _, z_set_self, fun j hj => ?_⟩⟩, g3, q6⟩
    · refine (x_pfS q2 (Nat.le_of_ble_eq_true rfl)).trans ?_
      rw [x_oS]
      refine (x_aaS e1).trans ?_
      rw [x_gaS (by omega) (by omega), x_lS]
      rfl
    · rw [hlen]; exact (z_set_ne hne).trans z_set_self
    · show (if j = xs.length - 1 then none else f2 j) = _
      by_cases e : j = xs.length - 1
      · rw [if_pos e, List.getElem?_eq_none (by omega)]
      · rw [if_neg e]
        by_cases e2 : j < xs.length - 1
        · exact q4 j e2
        · rw [q5 j (by omega) hj, List.getElem?_eq_none (by omega)]
  have hst : D_J2_remove g l (nI i) μ = x_b (D_J2_fastRemove g l (some arr) (nI i) μ) (fun μ20 => some (some x, μ20)) := by
    unfold D_J2_remove
    rw [x_giS h5 rfl, h_ck hlt (by omega), x_bS, x_grR h5 rfl, x_oS, x_aaS h8, x_gaS hn (by omega), x_lS, x_obS h5, hf]
  have hbr : ∃ μ1, D_J2_fastRemove g l (some arr) (nI i) μ = some μ1 ∧ h_ls g o μ1 t l n (xs.eraseIdx i) ∧ h_fr g (fun a => o a = t) o μ o μ1 ∧ μ1.2 = μ.2 := by
    have hD : D_J2_fastRemove g l (some arr) (nI i) μ = (x_l (fun (μ15 : z_M) => x_pf μ15 l 3 2 (.int (nI (xs.length - 1))) fun μ20 =>
        x_o (some arr) fun p21 => x_aa μ20 p21 4 fun n22 f23 => x_ga (nI (xs.length - 1)) n22 fun j25 => x_l (x_ra μ20 p21 4 n22 j25 f23 none) fun μ26 =>
        some μ26) fun J34 =>
        if (nI xs.length - (1 : Int32)) ≤ nI i then (J34 (z_set μ l (h_lc (m + 1) arr xs.length))) else
        x_b (x_ac g (z_set μ l (h_lc (m + 1) arr xs.length)) (some arr) (nI i + (1 : Int32)) (some arr) (nI i) (nI (xs.length - 1) - nI i)) fun μ29 =>
        J34 μ29) := by
      unfold D_J2_fastRemove
      rw [x_giS h5 rfl, x_pfS h5 (Nat.le_of_ble_eq_true rfl)]
      refine (x_giS l1 rfl).trans ?_
      rw [hv, x_lS]
      rfl
    rw [hD, x_lS, hv]
    by_cases hc : xs.length - 1 ≤ i
    · rw [if_pos (nI_le hc (by omega))]
      refine key _ f (f1.mono (fun a _ q => by rw [q]; exact hL.1)) l1 a1 (fun j hj => ?_) (fun j h1 h2 => ?_) rfl
      · rw [hall j (by omega), List.getElem?_eraseIdx, if_pos (by omega)]
      · rw [hall j h2, List.getElem?_eq_none h1]
    · rw [if_neg (nI_ge (by omega) (by omega)), nI_1, nI_sub (by omega)]
      have hsa : ∀ j, j < xs.length - 1 - i → ∀ y, f (i + 1 + j) = some y → x_sa g (z_set μ l (h_lc (m + 1) arr xs.length)) 4 y := fun j hj y hy => by
        rw [hall _ (by omega)] at hy
        exact f1.sa (hL.2.2.2.1 y (List.mem_of_getElem? hy))
      rw [x_acR a1 a1 (by omega) (by omega) (by omega) hsa, x_bS]
      have g2 := h_fr.setA (o := o) (x' := (n, .inr (.inr (.inr (.inr (va_cpy f f (i + 1) i (xs.length - 1 - i))))))) f1.wf a1
      refine key _ (va_cpy f f (i + 1) i (xs.length - 1 - i)) (f1.trans g2 (fun a _ q => ?_)) ((z_set_ne hne).trans l1) z_set_self (fun j hj => ?_) (fun j h1 h2 => ?_) rfl
      · rcases q with q | q
        · rw [q]; exact hL.1
        · rw [q]; exact h7
      · unfold va_cpy
        rw [List.getElem?_eraseIdx]
        by_cases e : j < i
        · rw [if_neg (by omega), if_pos e, hall j (by omega)]
        · rw [if_pos (by omega), if_neg e, show i + 1 + (j - i) = j + 1 from by omega, hall _ (by omega)]
      · unfold va_cpy
        rw [if_neg (by omega), hall j h2, List.getElem?_eq_none h1]
  obtain ⟨μ1, q1, q2, q3, q4⟩ := hbr
  exact ⟨μ1, by rw [hst, q1, x_bS], q2, q3, q4⟩
theorem h_ls.clear (hL : h_ls g o μ t l n xs) (hw : h_wf g μ) (hn0 : 0 < n) (hn : n < 5000) : ∃ μ1, D_J2_clear g l μ = some μ1 ∧ h_ls g o μ1 t l n [] ∧ h_fr g (fun a => o a = t) o μ o μ1 ∧ μ1.2 = μ.2 := by
  obtain ⟨h1, h2, h3, h4, m, arr, h5, h6⟩ := hL
  rcases h6 with ⟨h6, -⟩ | ⟨h6, h7, f, h8, h9⟩
  · omega
  have hne : l ≠ arr := fun q => by rw [q, h8] at h5; cases h5
  have f1 := h_fr.setF (o := o) (fs' := [.int (m + 1), .ref arr, .int (nI xs.length)]) hw h5
  have l1 : (z_set μ l (h_lc (m + 1) arr xs.length)).1 l = some (h_lc (m + 1) arr xs.length) := z_set_self
  have f2 := h_fr.setF (o := o) (fs' := [.int (m + 1), .ref arr, .int (nI 0)]) f1.wf l1
  have l2 : (z_set (z_set μ l (h_lc (m + 1) arr xs.length)) l (h_lc (m + 1) arr 0)).1 l = some (h_lc (m + 1) arr 0) := z_set_self
  have a2 : (z_set (z_set μ l (h_lc (m + 1) arr xs.length)) l (h_lc (m + 1) arr 0)).1 arr = some (h_rf n f) := (z_set_ne (Ne.symm hne)).trans ((z_set_ne (Ne.symm hne)).trans h8)
  have f3 : h_fr g (fun a => o a = t) o μ o (z_set (z_set μ l (h_lc (m + 1) arr xs.length)) l (h_lc (m + 1) arr 0)) := f1.trans f2 (fun a _ q => by
    rcases q with q | q <;> (rw [q]; exact h1))
  generalize hM : z_set (z_set μ l (h_lc (m + 1) arr xs.length)) l (h_lc (m + 1) arr 0) = μ2 at l2 a2 f3
  have hM2 : μ2.2 = μ.2 := by rw [← hM]; rfl
  obtain ⟨μ3, e3, fz, R1, R2, R3, R4, R5⟩ := x_forS (γ := z_M) (δ := Unit) (β := Option z_M)
    (R := fun k s _ => ∃ f', s.1 arr = some (h_rf n f') ∧ (∀ j, j < k → f' j = none) ∧ (∀ j, k ≤ j → f' j = f j) ∧ h_fr g (fun a => o a = t) o μ o s ∧ (s.1 l = some (h_lc (m + 1) arr 0) ∧ s.2 = μ.2))
    (L := fun fu k s => D_J2_clear_27 g l (some arr) (nI xs.length) (fun μ36 => some μ36) fu (nI k) s)
    (K := fun s => some s) (st := fun _ d => d) (n := xs.length)
    (fun fu s _ _ => by
      show D_J2_clear_27 _ _ _ _ _ (fu + 1) _ _ = _
      unfold D_J2_clear_27
      exact if_pos (nI_le (Nat.le_refl _) (by omega)))
    (fun fu k s _ hR hk => by
      obtain ⟨f', R1, R2, R3, R4, R5, R6⟩ := hR
      have g1 := h_fr.setA (o := o) (x' := (n, .inr (.inr (.inr (.inr (fun j => if j = k then none else f' j)))))) R4.wf R1
      refine ⟨_, ?_, _, z_set_self, fun j hj => ?_, fun j hj => ?_, R4.trans g1 (fun a _ q => ?_), (z_set_ne hne).trans R5, R6⟩
      · show D_J2_clear_27 _ _ _ _ _ (fu + 1) _ _ = _
        conv => lhs; unfold D_J2_clear_27
        rw [if_neg (nI_ge (by omega) (by omega)), x_oS, x_aaS R1, x_gaS (by omega) (by omega), x_lS, x_lS, nI_1]
        rfl
      · show (if j = k then none else f' j) = none
        by_cases e : j = k
        · exact if_pos e
        · rw [if_neg e]; exact R2 j (by omega)
      · show (if j = k then none else f' j) = _
        rw [if_neg (by omega)]; exact R3 j (by omega)
      · rcases q with q | q
        · exact q
        · rw [q]; exact h7)
    x_F 0 μ2 () (Nat.zero_le _) ⟨f, a2, fun j hj => absurd hj (Nat.not_lt_zero _), fun j _ => rfl, f3, l2, hM2⟩ (by show xs.length - 0 < 10000; omega)
  refine ⟨μ3, ?_, ⟨h1, Nat.zero_le _, h3, (fun x hx => by cases hx), m + 1, arr, R5.1, Or.inr ⟨h6, h7, fz, R1, fun i hi => ?_⟩⟩, R4, R5.2⟩
  · unfold D_J2_clear
    rw [x_giS h5 rfl, x_pfS h5 (Nat.le_of_ble_eq_true rfl)]
    refine (x_grR l1 rfl).trans ?_
    refine (x_giS l1 rfl).trans ?_
    refine (x_pfS l1 (Nat.le_of_ble_eq_true rfl)).trans ?_
    subst hM
    exact e3
  · by_cases e : i < xs.length
    · exact (R2 i e).trans rfl
    · rw [R3 i (by omega), h9 i hi, List.getElem?_eq_none (by omega)]; rfl
end T93
