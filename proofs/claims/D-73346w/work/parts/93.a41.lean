/-! THE COMPONENT's LAW, 41: a new node -/
set_option maxRecDepth 100000
set_option linter.unusedVariables false
section T93
variable {g : z_G} {C : h_C} {o o1 : Nat → Nat} {μ μ1 : z_M} {E : Nat → List Nat} {B b p n q k w a0 t l x ce i c j d : Nat} {G G' : s_G} {S : Nat → Prop} {N : s_R} {xs es cs : List Nat} {f : Nat → Int32} {v : Int32} {fs : List Value}
/-- an array is filled -/
theorem x_fill (hw : h_wf g μ) (h : μ.1 p = some (h_ia n f)) (hn : n ≤ 100) : ∃ F, (∀ i, i < n → F i = v) ∧ D_J10_fill g (some p) v μ = some (z_set μ p (h_ia n F)) := by
  obtain ⟨s', e1, F, hs, hF, hz⟩ := x_forS (γ := z_M) (δ := Unit) (β := Option z_M)
    (R := fun k s _ => ∃ F : Nat → Int32, s.1 p = some (h_ia n F) ∧ (∀ i, i < k → F i = v) ∧ z_set s p (h_ia n F) = z_set μ p (h_ia n F))
    (L := fun fu k s => D_J10_fill_5 g p v (nI n) (fun (μ21 : z_M) => some μ21) fu (nI k) s)
    (K := fun s => some s) (st := fun _ u => u) (n := n)
    (fun fu s _ _ => by
      show D_J10_fill_5 _ _ _ _ _ (fu + 1) _ _ = _
      unfold D_J10_fill_5
      rw [if_pos (Int32.le_refl _)])
    (fun fu k s _ hR hk => by
      obtain ⟨F, h1, h2, h3⟩ := hR
      refine ⟨z_set s p (h_ia n (h_up F k v)), ?_, h_up F k v, z_set_self, fun i hi => ?_, ?_⟩
      · show D_J10_fill_5 _ _ _ _ _ (fu + 1) _ _ = _
        conv => lhs; unfold D_J10_fill_5
        rw [if_neg (nI_ge hk (by omega))]
        refine (x_arW h1 (i := nI k) rfl hk (by omega)).trans ?_
        rw [x_lS, nI_1]
      · show (if i = k then v else F i) = v
        by_cases e : i = k
        · rw [if_pos e]
        · rw [if_neg e]; exact h2 i (by omega)
      · rw [z_set_set]
        have h4 : z_set (z_set s p (h_ia n F)) p (h_ia n (h_up F k v)) = z_set (z_set μ p (h_ia n F)) p (h_ia n (h_up F k v)) := by rw [h3]
        rw [z_set_set, z_set_set] at h4
        exact h4)
    x_F 0 μ () (Nat.zero_le _) ⟨f, h, fun i hi => absurd hi (Nat.not_lt_zero _), rfl⟩ (by rw [x_Fv]; omega)
  refine ⟨F, hF, ?_⟩
  unfold D_J10_fill
  rw [x_oS, x_lnS rfl h, x_lS]
  refine (show _ = some s' from e1).trans ?_
  congr 1
  rw [← hz]
  refine Prod.ext (funext fun b => ?_) rfl
  show s'.1 b = if b = p then some (h_ia n F) else s'.1 b
  by_cases e : b = p
  · rw [if_pos e, e, hs]
  · rw [if_neg e]
theorem h_newNode (hok : z_ok g) (hw : h_wf g μ) (hn : n < 6) : ∃ o1 μ1, D_X13_init g μ.2.1 (z_new μ 4 (.inr (13, [.null, .null, .null, .long 0]))) = some μ1 ∧ h_no g o1 μ1 n μ.2.1 0 [] ([], [], 0) (fun _ => -1) ∧ h_fr g (fun _ => False) o μ o1 μ1 ∧ h_u μ1 ≤ h_u μ + 46 ∧ μ.2.1 < μ1.2.1 := by
  have f1 : h_fr g (fun _ => False) o μ (h_o1 o μ.2.1 (1030 + n)) (z_new μ 4 (.inr (13, [.null, .null, .null, .long 0]))) := h_fr.new hw
  have c1 : (z_new μ 4 (.inr (13, [.null, .null, .null, .long 0]))).1 μ.2.1 = some (.inr (13, [.null, .null, .null, .long 0])) := z_new_self
  have o1q : h_o1 o μ.2.1 (1030 + n) μ.2.1 = 1030 + n := if_pos rfl
  have u1 : h_u (z_new μ 4 (.inr (13, [.null, .null, .null, .long 0]))) = h_u μ + 9 := by rw [h_u_new]
  have l1 : μ.2.1 < (z_new μ 4 (.inr (13, [.null, .null, .null, .long 0]))).2.1 := Nat.lt_succ_self _
  generalize hM1 : z_new μ 4 (.inr (13, [.null, .null, .null, .long 0])) = M1 at f1 c1 u1 l1
  generalize ho1 : h_o1 o μ.2.1 (1030 + n) = O1 at f1 o1q
  -- the store
  obtain ⟨μ2, e2, hS, f2, n2, u2⟩ := h_listC (o := O1) (1010 + n) 5 f1.wf (by omega) (by omega)
  generalize ho2 : h_o1 (h_o1 O1 M1.2.1 (1010 + n)) (M1.2.1 + 1) (1010 + n) = O2 at hS f2
  have c2 := f2.cell f1.wf c1 (fun q => q)
  have o2q : O2 μ.2.1 = 1030 + n := (f2.2.1 _ l1).trans o1q
  have l2 : μ.2.1 < μ2.2.1 := Nat.lt_of_lt_of_le l1 f2.1
  have f3 := h_fr.setF (o := O2) (fs' := [.ref M1.2.1, .null, .null, .long 0]) f2.wf c2
  have c3 : (z_set μ2 μ.2.1 (.inr (13, [.ref M1.2.1, .null, .null, .long 0]))).1 μ.2.1 = some (.inr (13, [.ref M1.2.1, .null, .null, .long 0])) := z_set_self
  have hS3 := hS.fr f3 f2.wf (fun a ha q => by rw [q, o2q] at ha; omega)
  have u3 : h_u (z_set μ2 μ.2.1 (.inr (13, [.ref M1.2.1, .null, .null, .long 0]))) = h_u μ2 := rfl
  have n3 : (z_set μ2 μ.2.1 (.inr (13, [.ref M1.2.1, .null, .null, .long 0]))).2.1 = μ2.2.1 := rfl
  have x3 : ∀ (kk : z_M → Option z_M), x_pf μ2 μ.2.1 13 0 (.ref M1.2.1) kk = kk (z_set μ2 μ.2.1 (.inr (13, [.ref M1.2.1, .null, .null, .long 0]))) := fun kk => x_pfS c2 (Nat.le_of_ble_eq_true rfl)
  generalize hM3 : z_set μ2 μ.2.1 (.inr (13, [.ref M1.2.1, .null, .null, .long 0])) = M3 at f3 c3 hS3 u3 n3 x3
  -- the entries
  obtain ⟨μ4, e4, hE, f4, n4, u4⟩ := h_list0 (o := O2) (1020 + n) hok f3.wf
  generalize ho4 : h_o1 O2 M3.2.1 (1020 + n) = O4 at hE f4
  have l3 : μ.2.1 < M3.2.1 := by rw [n3]; exact l2
  have c4 := f4.cell f3.wf c3 (fun q => q)
  have o4q : O4 μ.2.1 = 1030 + n := (f4.2.1 _ l3).trans o2q
  have l4 : μ.2.1 < μ4.2.1 := Nat.lt_of_lt_of_le l3 f4.1
  have hS4 := hS3.fr f4 f3.wf (fun a _ q => q)
  have f5 := h_fr.setF (o := O4) (fs' := [.ref M1.2.1, .ref M3.2.1, .null, .long 0]) f4.wf c4
  have c5 : (z_set μ4 μ.2.1 (.inr (13, [.ref M1.2.1, .ref M3.2.1, .null, .long 0]))).1 μ.2.1 = some (.inr (13, [.ref M1.2.1, .ref M3.2.1, .null, .long 0])) := z_set_self
  have hS5 := hS4.fr f5 f4.wf (fun a ha q => by rw [q, o4q] at ha; omega)
  have hE5 := hE.fr f5 f4.wf (fun a ha q => by rw [q, o4q] at ha; omega)
  have u5 : h_u (z_set μ4 μ.2.1 (.inr (13, [.ref M1.2.1, .ref M3.2.1, .null, .long 0]))) = h_u μ4 := rfl
  have l5 : μ.2.1 < (z_set μ4 μ.2.1 (.inr (13, [.ref M1.2.1, .ref M3.2.1, .null, .long 0]))).2.1 := l4
  have x5 : ∀ (kk : z_M → Option z_M), x_pf μ4 μ.2.1 13 1 (.ref M3.2.1) kk = kk (z_set μ4 μ.2.1 (.inr (13, [.ref M1.2.1, .ref M3.2.1, .null, .long 0]))) := fun kk => x_pfS c4 (Nat.le_of_ble_eq_true rfl)
  generalize hM5 : z_set μ4 μ.2.1 (.inr (13, [.ref M1.2.1, .ref M3.2.1, .null, .long 0])) = M5 at f5 c5 hS5 hE5 u5 l5 x5
  -- the measures
  have f6 : h_fr g (fun _ => False) O4 M5 (h_o1 O4 M5.2.1 (1030 + n)) (z_new M5 6 (h_ia 6 (fun _ => 0))) := h_fr.new f5.wf
  have c6 : (z_new M5 6 (h_ia 6 (fun _ => 0))).1 μ.2.1 = _ := (z_new_ne (f5.wf.ne c5)).trans c5
  have d6 : (z_new M5 6 (h_ia 6 (fun _ => 0))).1 M5.2.1 = some (h_ia 6 (fun _ => 0)) := z_new_self
  have o6q : h_o1 O4 M5.2.1 (1030 + n) μ.2.1 = 1030 + n := (if_neg (by omega : ¬ μ.2.1 = M5.2.1)).trans o4q
  have o6m : h_o1 O4 M5.2.1 (1030 + n) M5.2.1 = 1030 + n := if_pos rfl
  have u6 : h_u (z_new M5 6 (h_ia 6 (fun _ => 0))) = h_u M5 + 11 := by rw [h_u_new]
  have hS6 := hS5.fr f6 f5.wf (fun a _ q => q)
  have hE6 := hE5.fr f6 f5.wf (fun a _ q => q)
  have l6 : M5.2.1 < (z_new M5 6 (h_ia 6 (fun _ => 0))).2.1 := Nat.lt_succ_self _
  generalize hM6 : z_new M5 6 (h_ia 6 (fun _ => 0)) = M6 at f6 c6 d6 u6 hS6 hE6 l6
  generalize ho6 : h_o1 O4 M5.2.1 (1030 + n) = O6 at f6 o6q o6m hS6 hE6
  have hqm : μ.2.1 ≠ M5.2.1 := by omega
  have f7 := h_fr.setF (o := O6) (fs' := [.ref M1.2.1, .ref M3.2.1, .ref M5.2.1, .long 0]) f6.wf c6
  have c7 : (z_set M6 μ.2.1 (.inr (13, [.ref M1.2.1, .ref M3.2.1, .ref M5.2.1, .long 0]))).1 μ.2.1 = some (.inr (13, [.ref M1.2.1, .ref M3.2.1, .ref M5.2.1, .long 0])) := z_set_self
  have d7 : (z_set M6 μ.2.1 (.inr (13, [.ref M1.2.1, .ref M3.2.1, .ref M5.2.1, .long 0]))).1 M5.2.1 = some (h_ia 6 (fun _ => 0)) := (z_set_ne (Ne.symm hqm)).trans d6
  have hS7 := hS6.fr f7 f6.wf (fun a ha q => by rw [q, o6q] at ha; omega)
  have hE7 := hE6.fr f7 f6.wf (fun a ha q => by rw [q, o6q] at ha; omega)
  have u7 : h_u (z_set M6 μ.2.1 (.inr (13, [.ref M1.2.1, .ref M3.2.1, .ref M5.2.1, .long 0]))) = h_u M6 := rfl
  have l7 : M5.2.1 < (z_set M6 μ.2.1 (.inr (13, [.ref M1.2.1, .ref M3.2.1, .ref M5.2.1, .long 0]))).2.1 := l6
  have x7 : ∀ (kk : z_M → Option z_M), x_pf M6 μ.2.1 13 2 (.ref M5.2.1) kk = kk (z_set M6 μ.2.1 (.inr (13, [.ref M1.2.1, .ref M3.2.1, .ref M5.2.1, .long 0]))) := fun kk => x_pfS c6 (Nat.le_of_ble_eq_true rfl)
  generalize hM7 : z_set M6 μ.2.1 (.inr (13, [.ref M1.2.1, .ref M3.2.1, .ref M5.2.1, .long 0])) = M7 at f7 c7 d7 hS7 hE7 u7 l7 x7
  obtain ⟨F, hF, e8⟩ := x_fill (v := -1) f7.wf d7 (by omega)
  have f8 := h_fr.setA (o := O6) (x' := (6, .inl F)) f7.wf d7
  refine ⟨O6, z_set M7 M5.2.1 (h_ia 6 F), ?_, ⟨o6q, M1.2.1, M3.2.1, M5.2.1, [], F, (z_set_ne hqm).trans c7, ⟨hS7.fr f8 f7.wf (fun a ha q => by rw [q, o6m] at ha; omega), h_al.nil⟩, ⟨hE7.fr f8 f7.wf (fun a ha q => by rw [q, o6m] at ha; omega), h_al.nil, List.nodup_nil⟩, o6m, z_set_self, hF⟩, ?_, ?_, ?_⟩
  · unfold D_X13_init
    rw [x_nwS, show (5 : Int32) = nI 5 from rfl, e2, x_bS, x3, x_nwS, e4, x_bS, x5, x_naL (i := 6) (n := 6) rfl (by omega), x_nwS]
    have hM6' : z_new M5 6 (.inl (0, 6, .inl (fun _ => 0))) = M6 := hM6
    rw [hM6', x7, x_grR c7 rfl, e8, x_bS]
  · refine (((((((f1.trans f2 (S := fun _ => False) (fun a _ q => q.elim id id)).trans f3 (S := fun a => a = μ.2.1) (fun a _ q => q.elim False.elim id)).trans f4 (S := fun a => a = μ.2.1) (fun a _ q => q.elim id False.elim)).trans f5 (S := fun a => a = μ.2.1) (fun a _ q => q.elim id id)).trans f6 (S := fun a => a = μ.2.1) (fun a _ q => q.elim id False.elim)).trans f7 (S := fun a => a = μ.2.1) (fun a _ q => q.elim id id)).trans f8 (S := fun a => a = μ.2.1 ∨ a = M5.2.1) (fun a _ q => q)).mono (fun a ha q => by rcases q with q | q <;> omega)
  · rw [h_u_set, u7, u6, u5, u4, u3, u2, u1]
    omega
  · show μ.2.1 < M7.2.1
    omega
end T93
