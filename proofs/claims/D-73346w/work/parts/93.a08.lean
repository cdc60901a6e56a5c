/-! THE COMPONENT's LAW, 8: parts of strings, StringBuilders -/
set_option maxRecDepth 100000
set_option linter.unusedVariables false
/-- a StringBuilder at s: room for n, it holds cs -/
def h_sb (o : Nat → Nat) (μ : z_M) (t s n : Nat) (cs : List Nat) : Prop :=
  o s = t ∧ (cs.length ≤ n ∧ n ≤ 50 ∧ ∀ c ∈ cs, c < 128) ∧ ∃ (b : Nat) (f : Nat → Int32) (v2 : Int32), o b = t ∧ μ.1 s = some (.inr (22, [.ref b, .int 0, .int v2, .int (nI cs.length)])) ∧ μ.1 b = some (.inl (1, n, .inl f)) ∧ ∀ i, i < cs.length → f i = nI (cs.getD i 0)
section T93
variable {g : z_G} {o o1 : Nat → Nat} {μ μ1 : z_M} {t p q s n : Nat} {ls ms cs : List Nat} {S : Nat → Prop}
theorem h_intValue {k : Nat} (hok : z_ok g) (hw : h_wf g μ) (hk : k < 128) : D_J19_intValue g (h_in g k) μ = some (nI k) := by
  have h := (z_cs_int hok).1.2 (k + 128) (by omega)
  have h2 : z_OF g "java/lang/Integer" "value" "I" (.int (vb_c (k + 128))) (h_in g k) := h
  have hn : μ.1 (h_in g k) = none := hw.2 _ (Or.inr (z_OF_lt h2))
  unfold D_J19_intValue x_fi x_ff
  rw [hn]
  show x_b (x_cf g _ _ _ _) _ = _
  rw [x_cfS h2, x_bS, x_viS]
  have e : vb_c (k + 128) = nI k := by
    have h9 : nI (k + 128) - nI 128 = nI (k + 128 - 128) := nI_sub (by omega)
    rw [Nat.add_sub_cancel] at h9
    exact h9
  rw [e]
/-- the beginning of a string -/
theorem h_sm.sub {k : Nat} (h : h_sm o μ p ls) (hw : h_wf g μ) (hok : z_ok g) (h0 : 0 < k) (hk : k ≤ ls.length) : ∃ r o1 μ1, D_J6_substring g p 0 (nI k) μ = some (some r, μ1) ∧ h_sm o1 μ1 r (ls.take k) ∧ h_fr g (fun _ => False) o μ o1 μ1 ∧ h_u μ1 ≤ h_u μ + 14 + k ∧ (o1 = o ∨ o1 = h_o1 (h_o1 o μ.2.1 0) (μ.2.1 + 1) 0) := by
  have hl1 := h.1.1
  obtain ⟨so, hso⟩ := z_cs_sio hok
  have hS : h_st g o μ p ls := h.st
  have hI := hS.isA hw
  have hcb : D_J6_checkBoundsBeginEnd g 0 (nI k) (nI ls.length) μ = some () := by
    unfold D_J6_checkBoundsBeginEnd D_J12_checkFromToIndex
    rw [hso, x_bS, x_vrO, x_lS, if_neg (by decide), if_neg (nI_pos (by omega)), if_pos (nI_le hk (by omega)), x_bS]
  unfold D_J6_substring
  rw [x_gpI hI, hS.len hw hok, x_bS, hcb, x_bS, x_lS, if_pos rfl]
  by_cases e : k = ls.length
  · rw [if_pos (by rw [e]), e, List.take_length]
    exact ⟨p, o, μ, rfl, h, h_fr.refl hw, by omega, Or.inl rfl⟩
  · rw [if_neg (fun q => e ((nI_eq (by omega) (by omega)).mp q)), x_lS, x_gpI hI, hS.latin hw hok, x_bS, if_neg (by decide)]
    obtain ⟨hb0, b, f, v2, v3, h1, h2, h3, h4, h5⟩ := h
    have hv : ∀ (α : Type) (kk : Option Nat → Option α), x_fr g μ p [23] 0 "java/lang/String" "value" "[B" kk = kk (some b) := fun α kk => by
      unfold x_fr x_ff; rw [h3]; rfl
    rw [hv, Int32.sub_zero]
    have f1 := h_fr.new (o := o) (n := 4) (t := 0) (x := .inr (23, [.null, .int 0, .int 0, .int 0])) hw
    have c1 : (z_new μ 4 (.inr (23, [.null, .int 0, .int 0, .int 0]))).1 μ.2.1 = some (.inr (23, [.null, .int 0, .int 0, .int 0])) := z_new_self
    have d1 : (z_new μ 4 (.inr (23, [.null, .int 0, .int 0, .int 0]))).1 b = some (.inl (1, ls.length, .inl f)) := (z_new_ne (hw.ne h4)).trans h4
    obtain ⟨f', e1, e2⟩ := h_cpr (k := k) f1.wf d1 (by omega) (by omega) (fun i hi => by rw [h5 i (by omega)]; exact (h_chr _ (h_getD_lt hb0.2 i)).2.2)
    have f2 := h_fr.new (o := h_o1 o μ.2.1 0) (n := k) (t := 0) (x := .inl (1, k, .inl (fun _ => 0))) f1.wf
    have e1' : D_J10_copyOfRange g (some b) 0 (nI k) (z_new μ 4 (.inr (23, [.null, .int 0, .int 0, .int 0]))) = some (some (μ.2.1 + 1), z_set (z_new (z_new μ 4 (.inr (23, [.null, .int 0, .int 0, .int 0]))) k (.inl (1, k, .inl (fun _ => 0)))) (μ.2.1 + 1) (.inl (1, k, .inl f'))) := e1
    have f3 := h_fr.setA (o := h_o1 (h_o1 o μ.2.1 0) (μ.2.1 + 1) 0) (x' := (k, .inl f')) (a := μ.2.1 + 1) f2.wf z_new_self
    have hne : μ.2.1 ≠ μ.2.1 + 1 := by omega
    generalize hM : z_set (z_new (z_new μ 4 (.inr (23, [.null, .int 0, .int 0, .int 0]))) k (.inl (1, k, .inl (fun _ => 0)))) (μ.2.1 + 1) (.inl (1, k, .inl f')) = M at e1' f3
    have c2 : M.1 μ.2.1 = some (.inr (23, [.null, .int 0, .int 0, .int 0])) := by
      rw [← hM]; exact (z_set_ne hne).trans ((z_new_ne (μ := z_new μ 4 _) hne).trans c1)
    have b2 : M.1 (μ.2.1 + 1) = some (.inl (1, k, .inl f')) := by rw [← hM]; exact z_set_self
    have u2 : h_u M = h_u μ + 9 + 5 + k := by rw [← hM, h_u_set, h_u_new, h_u_new]
    have f4 := h_fr.setF (o := h_o1 (h_o1 o μ.2.1 0) (μ.2.1 + 1) 0) (fs' := [.ref (μ.2.1 + 1), .int 0, .int 0, .int 0]) f3.wf c2
    have c3 : (z_set M μ.2.1 (.inr (23, [.ref (μ.2.1 + 1), .int 0, .int 0, .int 0]))).1 μ.2.1 = some (.inr (23, [.ref (μ.2.1 + 1), .int 0, .int 0, .int 0])) := z_set_self
    have f5 := h_fr.setF (o := h_o1 (h_o1 o μ.2.1 0) (μ.2.1 + 1) 0) (fs' := [.ref (μ.2.1 + 1), .int 0, .int 0, .int 0]) f4.wf c3
    have hlt : (ls.take k).length = k := by rw [List.length_take]; omega
    refine ⟨μ.2.1, h_o1 (h_o1 o μ.2.1 0) (μ.2.1 + 1) 0, z_set (z_set M μ.2.1 (.inr (23, [.ref (μ.2.1 + 1), .int 0, .int 0, .int 0]))) μ.2.1 (.inr (23, [.ref (μ.2.1 + 1), .int 0, .int 0, .int 0])), ?_, ⟨⟨by omega, fun c hc => hb0.2 c (List.mem_of_mem_take hc)⟩, μ.2.1 + 1, f', .int 0, .int 0, (if_neg hne).trans (if_pos rfl), if_pos rfl, z_set_self, ?_, fun i hi => ?_⟩, ?_, by rw [h_u_set, h_u_set, u2]; omega, Or.inr rfl⟩
    · unfold D_J11_newString
      rw [if_neg (nI_ne0 h0 (by omega)), x_nwS, Int32.zero_add, e1', x_b2S]
      have e9 : D_J6_init_3 g μ.2.1 (some (μ.2.1 + 1)) 0 M = some (z_set (z_set M μ.2.1 (.inr (23, [.ref (μ.2.1 + 1), .int 0, .int 0, .int 0]))) μ.2.1 (.inr (23, [.ref (μ.2.1 + 1), .int 0, .int 0, .int 0]))) := by
        unfold D_J6_init_3
        refine (x_pfS c2 (Nat.le_of_ble_eq_true rfl)).trans ?_
        rw [x_gS (by decide)]
        exact x_pfS c3 (Nat.le_of_ble_eq_true rfl)
      rw [e9, x_bS, x_b2S]
    · rw [hlt]
      exact (z_set_ne (Ne.symm hne)).trans ((z_set_ne (Ne.symm hne)).trans b2)
    · rw [hlt] at hi
      rw [e2 i hi, h5 i (by omega), List.getD_eq_getElem?_getD, List.getD_eq_getElem?_getD, List.getElem?_take_of_lt hi]
    · refine (((f1.trans f2 (S := fun a => False) (fun a _ q => q.elim id id)).trans f3 (S := fun a => a = μ.2.1 + 1) (fun a _ q => q.elim False.elim id)).trans f4 (S := fun a => a = μ.2.1 + 1 ∨ a = μ.2.1) (fun a _ q => q)).trans f5 (fun a ha q => ?_)
      rcases q with (q | q) | q <;> (rw [q] at ha; omega)
theorem h_sb.fr (h : h_sb o μ t s n cs) (hf : h_fr g S o μ o1 μ1) (hw : h_wf g μ) (hS : ∀ a, o a = t → ¬ S a) : h_sb o1 μ1 t s n cs := by
  obtain ⟨h0, h1, b, f, v2, h3, h4, h5, h6⟩ := h
  exact ⟨(hf.2.1 s (hw.lt h4)).trans h0, h1, b, f, v2, (hf.2.1 b (hw.lt h5)).trans h3, hf.cell hw h4 (hS s h0), hf.cell hw h5 (hS b h3), h6⟩
theorem h_sbNew (t n : Nat) (hok : z_ok g) (hw : h_wf g μ) (hn : n ≤ 50) : ∃ μ1, D_J5_init g μ.2.1 (nI n) (z_new μ 4 (.inr (22, [.null, .int 0, .int 0, .int 0]))) = some μ1 ∧ h_sb (h_o1 (h_o1 o μ.2.1 t) (μ.2.1 + 1) t) μ1 t μ.2.1 n [] ∧ h_fr g (fun _ => False) o μ (h_o1 (h_o1 o μ.2.1 t) (μ.2.1 + 1) t) μ1 ∧ h_u μ1 = h_u μ + 14 + n ∧ μ1.2.1 = μ.2.1 + 2 := by
  have f1 := h_fr.new (o := o) (n := 4) (t := t) (x := .inr (22, [.null, .int 0, .int 0, .int 0])) hw
  have c1 : (z_new μ 4 (.inr (22, [.null, .int 0, .int 0, .int 0]))).1 μ.2.1 = some (.inr (22, [.null, .int 0, .int 0, .int 0])) := z_new_self
  have hne : μ.2.1 ≠ μ.2.1 + 1 := by omega
  have f2 := h_fr.new (o := h_o1 o μ.2.1 t) (n := n) (t := t) (x := .inl (1, n, .inl (fun _ => 0))) f1.wf
  have c2 : (z_new (z_new μ 4 (.inr (22, [.null, .int 0, .int 0, .int 0]))) n (.inl (1, n, .inl (fun _ => 0)))).1 μ.2.1 = some (.inr (22, [.null, .int 0, .int 0, .int 0])) := (z_new_ne (μ := z_new μ 4 _) hne).trans c1
  have f3 := h_fr.setF (o := h_o1 (h_o1 o μ.2.1 t) (μ.2.1 + 1) t) (fs' := [.ref (μ.2.1 + 1), .int 0, .int 0, .int 0]) f2.wf c2
  have c3 : (z_set (z_new (z_new μ 4 (.inr (22, [.null, .int 0, .int 0, .int 0]))) n (.inl (1, n, .inl (fun _ => 0)))) μ.2.1 (.inr (22, [.ref (μ.2.1 + 1), .int 0, .int 0, .int 0]))).1 μ.2.1 = some (.inr (22, [.ref (μ.2.1 + 1), .int 0, .int 0, .int 0])) := z_set_self
  have f4 := h_fr.setF (o := h_o1 (h_o1 o μ.2.1 t) (μ.2.1 + 1) t) (fs' := [.ref (μ.2.1 + 1), .int 0, .int 0, .int 0]) f3.wf c3
  refine ⟨z_set (z_set (z_new (z_new μ 4 (.inr (22, [.null, .int 0, .int 0, .int 0]))) n (.inl (1, n, .inl (fun _ => 0)))) μ.2.1 (.inr (22, [.ref (μ.2.1 + 1), .int 0, .int 0, .int 0]))) μ.2.1 (.inr (22, [.ref (μ.2.1 + 1), .int 0, .int 0, .int 0])), ?_, ⟨(if_neg hne).trans (if_pos rfl), ⟨Nat.zero_le _, hn, fun c hc => by cases hc⟩, μ.2.1 + 1, fun _ => 0, 0, if_pos rfl, z_set_self, ?_, fun i hi => by cases hi⟩, ?_, by rw [h_u_set, h_u_set, h_u_new, h_u_new], rfl⟩
  · unfold D_J5_init D_J4_init
    rw [x_stS (z_cs_cmp hok), x_bS, x_viS, if_neg (by decide), x_naS (by omega), x_nwS]
    have e : x_pf (z_new (z_new μ 4 (.inr (22, [.null, .int 0, .int 0, .int 0]))) n (.inl (1, n, .inl (fun _ => 0)))) μ.2.1 22 0 (.ref (μ.2.1 + 1)) (fun μ27 => x_pf μ27 μ.2.1 22 1 (.int (0 : Int32)) fun μ32 => some μ32) = some (z_set (z_set (z_new (z_new μ 4 (.inr (22, [.null, .int 0, .int 0, .int 0]))) n (.inl (1, n, .inl (fun _ => 0)))) μ.2.1 (.inr (22, [.ref (μ.2.1 + 1), .int 0, .int 0, .int 0]))) μ.2.1 (.inr (22, [.ref (μ.2.1 + 1), .int 0, .int 0, .int 0]))) := by
      refine (x_pfS c2 (Nat.le_of_ble_eq_true rfl)).trans ?_
      exact x_pfS c3 (Nat.le_of_ble_eq_true rfl)
    exact (congrArg (fun z => x_b z (fun μ2 => some μ2)) e)
  · exact (z_set_ne (Ne.symm hne)).trans ((z_set_ne (Ne.symm hne)).trans z_new_self)
  · refine ((f1.trans f2 (S := fun a => False) (fun a _ q => q.elim id id)).trans f3 (S := fun a => a = μ.2.1) (fun a _ q => q.elim False.elim id)).trans f4 (fun a ha q => ?_)
    rcases q with q | q <;> (rw [q] at ha; omega)
end T93
