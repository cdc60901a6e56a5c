/-! THE COMPONENT's LAW, 9: letters are added; what stands in a builder becomes a string -/
set_option maxRecDepth 100000
set_option linter.unusedVariables false
theorem nI_le0 {a b : Nat} (ha : a < 2 ^ 31) (hb : b < 2 ^ 31) (h : a ≤ b) : nI a - nI b ≤ (0 : Int32) := by
  rw [Int32.le_iff_toInt_le, nI_subT ha hb, show (0 : Int32).toInt = 0 from by decide]
  omega
theorem sc_shl0 (x : Int32) : x <<< ((0 : Int32) &&& 31) = x := by
  rw [show ((0 : Int32) &&& 31) = 0 from by decide]
  exact Int32.shiftLeft_zero
section T93
variable {g : z_G} {o o1 : Nat → Nat} {μ μ1 : z_M} {t p q s n c : Nat} {ls ms cs : List Nat} {S : Nat → Prop}
theorem h_sb.isLatin (h : h_sb o μ t s n cs) (hok : z_ok g) : D_J4_isLatin1 g s μ = some 1 := by
  obtain ⟨h0, h1, b, f, v2, h3, h4, h5, h6⟩ := h
  unfold D_J4_isLatin1
  rw [x_stS (z_cs_cmp hok), x_bS, x_viS, if_neg (by decide), x_giS h4 rfl, if_pos rfl]
theorem h_sb.ensure {k : Nat} (h : h_sb o μ t s n cs) (hk : k ≤ n) : D_J4_ensureCapacityInternal g s (nI k) μ = some μ := by
  obtain ⟨h0, h1, b, f, v2, h3, h4, h5, h6⟩ := h
  have hn := h1.2.1
  unfold D_J4_ensureCapacityInternal
  rw [x_grR h4 rfl, x_oS, x_lnS rfl h5, x_giS h4 rfl, x_lS, sc_shr0 (by omega), if_pos (nI_le0 (by omega) (by omega) hk)]
theorem h_sb.append (h : h_sb o μ t s n cs) (hok : z_ok g) (hw : h_wf g μ) (hc : c < 128) (hl : cs.length < n) : ∃ μ1, D_J5_append g s (nI c) μ = some (some s, μ1) ∧ h_sb o μ1 t s n (cs ++ [c]) ∧ h_fr g (fun a => o a = t) o μ o μ1 ∧ μ1.2 = μ.2 := by
  have hE : D_J4_ensureCapacityInternal g s (nI (cs.length + 1)) μ = some μ := h.ensure (by omega)
  have hL := h.isLatin hok
  obtain ⟨h0, h1, b, f, v2, h3, h4, h5, h6⟩ := h
  have hn := h1.2.1
  have hne : s ≠ b := fun q => by rw [q, h5] at h4; cases h4
  have f1 := h_fr.setF (o := o) (fs' := [.ref b, .int 0, .int v2, .int (nI (cs.length + 1))]) hw h4
  have b1 : (z_set μ s (.inr (22, [.ref b, .int 0, .int v2, .int (nI (cs.length + 1))]))).1 b = some (.inl (1, n, .inl f)) := (z_set_ne (Ne.symm hne)).trans h5
  have f2 := h_fr.setA (o := o) (x' := (n, .inl (fun k => if k = cs.length then nI c else f k))) f1.wf b1
  refine ⟨z_set (z_set μ s (.inr (22, [.ref b, .int 0, .int v2, .int (nI (cs.length + 1))]))) b (.inl (1, n, .inl (fun k => if k = cs.length then nI c else f k))), ?_, ⟨h0, ⟨by rw [List.length_append]; exact hl, hn, fun x hx => ?_⟩, b, _, v2, h3, ?_, z_set_self, fun i hi => ?_⟩, f1.trans f2 (fun a _ q => ?_), rfl⟩
  · unfold D_J5_append D_J4_append
    have e255 : ¬ (255 : Int32) < nI c := nI_nlt (b := c) (a := 255) (by omega) (by omega)
    rw [x_obS h4, x_giS h4 rfl, x_osS h4 (List.mem_cons_self ..), nI_1, hE, x_bS, x_obS h4, hL, x_bS, x_lS, if_neg (by decide)]
    unfold D_J11_canEncode
    rw [if_neg e255, x_bS, if_neg (by decide), x_grR h4 rfl, x_giS h4 rfl, nI_1]
    have e : (x_pf μ s 22 3 (.int (nI (cs.length + 1))) fun μ55 => x_o (some b) fun p56 => x_ar μ55 p56 1 fun n57 f58 => x_ga (nI cs.length) n57 fun j60 => x_l (x_ia μ55 p56 1 n57 j60 f58 (((nI c).toInt8.toInt32).toInt8.toInt32)) fun μ63 => some ((some s), μ63)) = some (some s, z_set (z_set μ s (.inr (22, [.ref b, .int 0, .int v2, .int (nI (cs.length + 1))]))) b (.inl (1, n, .inl (fun k => if k = cs.length then nI c else f k)))) := by
      refine (x_pfS h4 (Nat.le_of_ble_eq_true rfl)).trans ?_
      rw [x_oS]
      refine (x_arS b1).trans ?_
      rw [x_gaT hl (by omega), x_lS, (h_chr c hc).2.2, (h_chr c hc).2.2]
      rfl
    exact congrArg (fun z => x_b2 z fun o4 μ5 => some ((some s), μ5)) e
  · rcases List.mem_append.mp hx with q | q
    · exact h1.2.2 x q
    · rw [List.mem_singleton.mp q]; exact hc
  · rw [List.length_append]; exact (z_set_ne hne).trans z_set_self
  · rw [List.length_append] at hi
    show (if i = cs.length then nI c else f i) = _
    rw [List.getD_eq_getElem?_getD]
    by_cases e : i = cs.length
    · rw [if_pos e, e, List.getElem?_append_right (Nat.le_refl _), Nat.sub_self]; rfl
    · have hi' : i < cs.length + 1 := hi
      rw [if_neg e, List.getElem?_append_left (by omega), ← List.getD_eq_getElem?_getD]
      exact h6 i (by omega)
  · rcases q with q | q
    · rw [q]; exact h0
    · rw [q]; exact h3
theorem h_sb.appendS (h : h_sb o μ t s n cs) (h' : h_sm o μ p ls) (ht : t ≠ 0) (hok : z_ok g) (hw : h_wf g μ) (hl : cs.length + ls.length ≤ n) : ∃ μ1, D_J5_append_2 g s (some p) μ = some (some s, μ1) ∧ h_sb o μ1 t s n (cs ++ ls) ∧ h_fr g (fun a => o a = t) o μ o μ1 ∧ μ1.2 = μ.2 := by
  have hE : D_J4_ensureCapacityInternal g s (nI (cs.length + ls.length)) μ = some μ := h.ensure hl
  have hS : h_st g o μ p ls := h'.st
  have hI := hS.isA hw
  have hLen := hS.len hw hok
  have hCo := hS.coder hw hok
  obtain ⟨h0, h1, b, f, v2, h3, h4, h5, h6⟩ := h
  obtain ⟨k0, b', f', w2, w3, k1, k2, k3, k4, k5⟩ := h'
  have hn := h1.2.1
  have hne : s ≠ b := fun q => by rw [q, h5] at h4; cases h4
  have hbb : b' ≠ b := fun q => by rw [q, h3] at k2; exact ht k2
  have hv : ∀ (α : Type) (kk : Option Nat → Option α), x_fr g μ p [23] 0 "java/lang/String" "value" "[B" kk = kk (some b') := fun α kk => by
    unfold x_fr x_ff; rw [k3]; rfl
  have hac : x_ac g μ (some b') 0 (some b) (nI cs.length) (nI ls.length) = some (z_set μ b (.inl (1, n, .inl (va_cpy f' f 0 cs.length ls.length)))) := x_acB (g := g) (s := 0) (d := cs.length) (c := ls.length) k4 h5 (by omega) (by omega) (by omega) (fun i hi => by rw [Nat.zero_add, k5 i hi]; exact (h_chr _ (h_getD_lt k0.2 i)).2.2)
  have f1 := h_fr.setA (o := o) (x' := (n, .inl (va_cpy f' f 0 cs.length ls.length))) hw h5
  have s1 : (z_set μ b (.inl (1, n, .inl (va_cpy f' f 0 cs.length ls.length)))).1 s = some (.inr (22, [.ref b, .int 0, .int v2, .int (nI cs.length)])) := (z_set_ne hne).trans h4
  have f2 := h_fr.setF (o := o) (fs' := [.ref b, .int 0, .int v2, .int (nI (cs.length + ls.length))]) f1.wf s1
  refine ⟨z_set (z_set μ b (.inl (1, n, .inl (va_cpy f' f 0 cs.length ls.length)))) s (.inr (22, [.ref b, .int 0, .int v2, .int (nI (cs.length + ls.length))])), ?_, ⟨h0, ⟨by rw [List.length_append]; exact hl, hn, fun x hx => ?_⟩, b, _, v2, h3, ?_, (z_set_ne (Ne.symm hne)).trans z_set_self, fun i hi => ?_⟩, f1.trans f2 (fun a _ q => ?_), rfl⟩
  · have e1 : D_J4_putStringAt g s (nI cs.length) (some p) μ = some (z_set μ b (.inl (1, n, .inl (va_cpy f' f 0 cs.length ls.length)))) := by
      unfold D_J4_putStringAt D_J4_inflateIfNeededFor D_J6_getBytes
      rw [x_osS h4 (List.mem_cons_self ..), x_stS (z_cs_cmp hok), x_bS, x_viS, if_neg (by decide), x_giS h4 rfl, x_oS, x_gpI hI, hCo, x_bS, if_pos rfl, x_bS, x_grR h4 rfl, x_giS h4 rfl, x_oS, x_gpI hI, x_gpI hI, hCo, x_bS, if_pos rfl, hv, hv, x_oS, x_lnS (n := ls.length) rfl k4, sc_shl0, hac, x_bS, x_bS]
    unfold D_J5_append_2 D_J4_append_2
    rw [x_obS h4, x_nuS, x_gpI hI, hLen, x_bS, x_giS h4 rfl, x_osS h4 (List.mem_cons_self ..), nI_add, hE, x_bS, x_giS h4 rfl, x_osS h4 (List.mem_cons_self ..), e1, x_bS, x_giS s1 rfl, nI_add]
    have e : (x_pf (z_set μ b (.inl (1, n, .inl (va_cpy f' f 0 cs.length ls.length)))) s 22 3 (.int (nI (cs.length + ls.length))) fun μ40 => some ((some s), μ40)) = some (some s, z_set (z_set μ b (.inl (1, n, .inl (va_cpy f' f 0 cs.length ls.length)))) s (.inr (22, [.ref b, .int 0, .int v2, .int (nI (cs.length + ls.length))]))) := x_pfS s1 (Nat.le_of_ble_eq_true rfl)
    exact congrArg (fun z => x_b2 z fun o4 μ5 => some ((some s), μ5)) e
  · rcases List.mem_append.mp hx with q | q
    · exact h1.2.2 x q
    · exact k0.2 x q
  · rw [List.length_append]; exact z_set_self
  · rw [List.length_append] at hi
    unfold va_cpy
    rw [List.getD_eq_getElem?_getD]
    by_cases e : i < cs.length
    · rw [if_neg (by omega), List.getElem?_append_left e, ← List.getD_eq_getElem?_getD]
      exact h6 i e
    · rw [if_pos (by omega), List.getElem?_append_right (by omega), ← List.getD_eq_getElem?_getD, Nat.zero_add]
      exact k5 _ (by omega)
  · rcases q with q | q
    · rw [q]; exact h3
    · rw [q]; exact h0
theorem h_sb.toS (h : h_sb o μ t s n cs) (hok : z_ok g) (hw : h_wf g μ) : ∃ μ1, D_J5_toString g s μ = some (some μ.2.1, μ1) ∧ h_sm (h_o1 (h_o1 o μ.2.1 0) (μ.2.1 + 1) 0) μ1 μ.2.1 cs ∧ h_fr g (fun _ => False) o μ (h_o1 (h_o1 o μ.2.1 0) (μ.2.1 + 1) 0) μ1 ∧ h_u μ1 = h_u μ + 14 + cs.length ∧ μ1.2.1 = μ.2.1 + 2 := by
  have hL : ∀ μ' : z_M, μ'.1 s = μ.1 s → D_J4_isLatin1 g s μ' = some 1 := fun μ' he => by
    obtain ⟨h0, h1, b, f, v2, h3, h4, h5, h6⟩ := h
    rw [← he] at h4
    unfold D_J4_isLatin1
    rw [x_stS (z_cs_cmp hok), x_bS, x_viS, if_neg (by decide), x_giS h4 rfl, if_pos rfl]
  obtain ⟨h0, h1, b, f, v2, h3, h4, h5, h6⟩ := h
  have hn := h1.2.1
  have hne : μ.2.1 ≠ μ.2.1 + 1 := by omega
  have f1 := h_fr.new (o := o) (n := 4) (t := 0) (x := .inr (23, [.null, .int 0, .int 0, .int 0])) hw
  have c1 : (z_new μ 4 (.inr (23, [.null, .int 0, .int 0, .int 0]))).1 μ.2.1 = some (.inr (23, [.null, .int 0, .int 0, .int 0])) := z_new_self
  have f2 := h_fr.setF (o := h_o1 o μ.2.1 0) (fs' := [.null, .int 0, .int 0, .int 0]) f1.wf c1
  generalize hM : z_set (z_new μ 4 (.inr (23, [.null, .int 0, .int 0, .int 0]))) μ.2.1 (.inr (23, [.null, .int 0, .int 0, .int 0])) = M at f2
  have hM1 : M.2.1 = μ.2.1 + 1 := by rw [← hM]; rfl
  have s1 : (z_new μ 4 (.inr (23, [.null, .int 0, .int 0, .int 0]))).1 s = some (.inr (22, [.ref b, .int 0, .int v2, .int (nI cs.length)])) := (z_new_ne (hw.ne h4)).trans h4
  have b2 : M.1 b = some (.inl (1, n, .inl f)) := by rw [← hM]; exact (z_set_ne (hw.ne h5)).trans ((z_new_ne (hw.ne h5)).trans h5)
  have c2 : M.1 μ.2.1 = some (.inr (23, [.null, .int 0, .int 0, .int 0])) := by rw [← hM]; exact z_set_self
  obtain ⟨f', e1, e2⟩ := h_cpr (k := cs.length) f2.wf b2 h1.1 (by omega) (fun i hi => by rw [h6 i hi]; exact (h_chr _ (h_getD_lt h1.2.2 i)).2.2)
  rw [hM1] at e1
  have f3 := h_fr.new (o := h_o1 o μ.2.1 0) (n := cs.length) (t := 0) (x := .inl (1, cs.length, .inl (fun _ => 0))) f2.wf
  rw [hM1] at f3
  have f4 := h_fr.setA (o := h_o1 (h_o1 o μ.2.1 0) (μ.2.1 + 1) 0) (x' := (cs.length, .inl f')) (a := μ.2.1 + 1) f3.wf (by rw [← hM1]; exact z_new_self)
  generalize hM2 : z_set (z_new M cs.length (.inl (1, cs.length, .inl (fun _ => 0)))) (μ.2.1 + 1) (.inl (1, cs.length, .inl f')) = M2 at e1 f4
  have c3 : M2.1 μ.2.1 = some (.inr (23, [.null, .int 0, .int 0, .int 0])) := by
    rw [← hM2]; exact (z_set_ne hne).trans ((z_new_ne (by rw [hM1]; exact hne)).trans c2)
  have b3 : M2.1 (μ.2.1 + 1) = some (.inl (1, cs.length, .inl f')) := by rw [← hM2]; exact z_set_self
  have f5 := h_fr.setF (o := h_o1 (h_o1 o μ.2.1 0) (μ.2.1 + 1) 0) (fs' := [.ref (μ.2.1 + 1), .int 0, .int 0, .int 0]) f4.wf c3
  refine ⟨z_set M2 μ.2.1 (.inr (23, [.ref (μ.2.1 + 1), .int 0, .int 0, .int 0])), ?_, ⟨⟨by omega, h1.2.2⟩, μ.2.1 + 1, f', .int 0, .int 0, (if_neg hne).trans (if_pos rfl), if_pos rfl, z_set_self, (z_set_ne (Ne.symm hne)).trans b3, fun i hi => ?_⟩, ?_, ?_, ?_⟩
  · unfold D_J5_toString D_J6_init
    rw [x_nwS]
    have e : D_J6_init_2 g μ.2.1 (some s) none (z_new μ 4 (.inr (23, [.null, .int 0, .int 0, .int 0]))) = some (z_set M2 μ.2.1 (.inr (23, [.ref (μ.2.1 + 1), .int 0, .int 0, .int 0]))) := by
      unfold D_J6_init_2 D_J4_getValue D_J5_length D_J4_length
      rw [x_oS, x_obS s1, x_grR s1 rfl, x_bS, x_obS s1, x_obS s1, x_giS s1 rfl, x_bS, x_bS, x_obS s1, hL _ (z_new_ne (hw.ne h4)), x_bS, if_neg (by decide)]
      refine (x_pfS c1 (Nat.le_of_ble_eq_true rfl)).trans ?_
      have e3 : z_set (z_new μ 4 (.inr (23, [.null, .int 0, .int 0, .int 0]))) μ.2.1 (.inr (23, [Value.null, .int 0, .int 0, .int 0].set 1 (.int 0))) = M := hM
      rw [e3, e1, x_b2S]
      exact x_pfS c3 (Nat.le_of_ble_eq_true rfl)
    rw [e, x_bS]
    rfl
  · rw [e2 i hi, h6 i hi]
  · refine ((((f1.trans f2 (S := fun a => a = μ.2.1) (fun a _ q => q.elim False.elim id)).trans f3 (S := fun a => a = μ.2.1) (fun a _ q => q.elim id False.elim)).trans f4 (S := fun a => a = μ.2.1 ∨ a = μ.2.1 + 1) (fun a _ q => q)).trans f5 (fun a ha q => ?_))
    rcases q with (q | q) | q <;> (rw [q] at ha; omega)
  · rw [h_u_set, ← hM2, h_u_set, h_u_new, ← hM, h_u_set, h_u_new]
  · show M2.2.1 = _
    rw [← hM2]
    show M.2.1 + 1 = _
    rw [hM1]
end T93
