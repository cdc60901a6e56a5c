/-! THE COMPONENT's LAW, 42: a run begins -/
set_option maxRecDepth 100000
set_option linter.unusedVariables false
section T93
variable {g : z_G} {C : h_C} {o o1 : Nat → Nat} {μ μ1 : z_M} {E : Nat → List Nat} {B b p n q k w a0 t l x ce i c j d Mw Me : Nat} {G G' : s_G} {S : Nat → Prop} {N : s_R} {lk : Nat → Option Nat} {ls rs ss : List Nat} {xs es cs : List Nat} {f : Nat → Int32} {v : Int32} {fs : List Value}
theorem h_begin (cc : Nat → Nat → Int32) (hok : z_ok g) (hw : h_wf g μ) (hN : n_ok N) (hlk : s_lkok N lk) (hnt : h_nt g o μ p d N lk ls rs ss) (hMw : Mw ≤ 4096) (hMe : Me ≤ 64) (hT : ∀ b, b < μ.2.1 → o b < 880) :
    ∃ o1 μ1 C, D_X12_init g μ.2.1 (some p) (z_new μ 12 (.inr (12, [.null, .null, .null, .null, .null, .int 0, .int 0, .int 0, .int 0, .int 0, .int 0, .int 0]))) = some μ1 ∧ (c_a C = μ.2.1 ∧ c_p C = p ∧ c_d C = d ∧ c_N C = N ∧ c_lk C = lk ∧ c_Mw C = Mw ∧ c_Me C = Me ∧ c_ls C = ls) ∧
      h_go g C o1 μ1 (fun _ => []) (h_u μ + 450) (s_begin cc) ∧ h_fr g (fun _ => False) o μ o1 μ1 ∧ μ.2.1 < μ1.2.1 := by
  have h6 : n_nodes N ≤ 6 := hN.1.1.2
  have e0 : N 0 = nI (n_nodes N) := hN.1.1.1
  have f1 : h_fr g (fun _ => False) o μ (h_o1 o μ.2.1 1000) (z_new μ 12 (.inr (12, [.null, .null, .null, .null, .null, .int 0, .int 0, .int 0, .int 0, .int 0, .int 0, .int 0]))) := h_fr.new hw
  have c1 : (z_new μ 12 (.inr (12, [.null, .null, .null, .null, .null, .int 0, .int 0, .int 0, .int 0, .int 0, .int 0, .int 0]))).1 μ.2.1 = some (.inr (12, [.null, .null, .null, .null, .null, .int 0, .int 0, .int 0, .int 0, .int 0, .int 0, .int 0])) := z_new_self
  have q1 : h_o1 o μ.2.1 1000 μ.2.1 = 1000 := if_pos rfl
  have u1 : h_u (z_new μ 12 (.inr (12, [.null, .null, .null, .null, .null, .int 0, .int 0, .int 0, .int 0, .int 0, .int 0, .int 0]))) = h_u μ + 17 := by rw [h_u_new]
  have l1 : μ.2.1 < (z_new μ 12 (.inr (12, [.null, .null, .null, .null, .null, .int 0, .int 0, .int 0, .int 0, .int 0, .int 0, .int 0]))).2.1 := Nat.lt_succ_self _
  generalize hM1 : z_new μ 12 (.inr (12, [.null, .null, .null, .null, .null, .int 0, .int 0, .int 0, .int 0, .int 0, .int 0, .int 0])) = M1 at f1 c1 u1 l1
  generalize hO1 : h_o1 o μ.2.1 1000 = O1 at f1 q1
  generalize ha : μ.2.1 = a at *
  -- the nodes' list
  obtain ⟨μ2, e2, hS2, f2, n2, u2⟩ := h_listC (o := O1) 1002 6 f1.wf (by omega) (by omega)
  generalize hO2 : h_o1 (h_o1 O1 M1.2.1 1002) (M1.2.1 + 1) 1002 = O2 at hS2 f2
  have c2 := f2.cell f1.wf c1 (fun q => q)
  have q2 : O2 a = 1000 := (f2.2.1 _ l1).trans q1
  have l2 : a < μ2.2.1 := Nat.lt_of_lt_of_le l1 f2.1
  have f3 := h_fr.setF (o := O2) (fs' := [.null, .ref M1.2.1, .null, .null, .null, .int 0, .int 0, .int 0, .int 0, .int 0, .int 0, .int 0]) f2.wf c2
  have c3 : (z_set μ2 a (.inr (12, [.null, .ref M1.2.1, .null, .null, .null, .int 0, .int 0, .int 0, .int 0, .int 0, .int 0, .int 0]))).1 a = some (.inr (12, [.null, .ref M1.2.1, .null, .null, .null, .int 0, .int 0, .int 0, .int 0, .int 0, .int 0, .int 0])) := z_set_self
  have hS3 := hS2.fr f3 f2.wf (fun b hb q => by rw [q, q2] at hb; omega)
  have u3 : h_u (z_set μ2 a (.inr (12, [.null, .ref M1.2.1, .null, .null, .null, .int 0, .int 0, .int 0, .int 0, .int 0, .int 0, .int 0]))) = h_u μ2 := rfl
  have l3 : a < (z_set μ2 a (.inr (12, [.null, .ref M1.2.1, .null, .null, .null, .int 0, .int 0, .int 0, .int 0, .int 0, .int 0, .int 0]))).2.1 := l2
  have x3 : ∀ (kk : z_M → Option z_M), x_pf μ2 a 12 1 (.ref M1.2.1) kk = kk (z_set μ2 a (.inr (12, [.null, .ref M1.2.1, .null, .null, .null, .int 0, .int 0, .int 0, .int 0, .int 0, .int 0, .int 0]))) := fun kk => x_pfS c2 (Nat.le_of_ble_eq_true rfl)
  generalize hM3 : z_set μ2 a (.inr (12, [.null, .ref M1.2.1, .null, .null, .null, .int 0, .int 0, .int 0, .int 0, .int 0, .int 0, .int 0])) = M3 at f3 c3 hS3 u3 l3 x3
  -- the ways
  obtain ⟨μ4, e4, hW4, f4, n4, u4⟩ := h_list0 (o := O2) 1001 hok f3.wf
  generalize hO4 : h_o1 O2 M3.2.1 1001 = O4 at hW4 f4
  have c4 := f4.cell f3.wf c3 (fun q => q)
  have q4 : O4 a = 1000 := (f4.2.1 _ l3).trans q2
  have l4 : a < μ4.2.1 := Nat.lt_of_lt_of_le l3 f4.1
  have hS4 := hS3.fr f4 f3.wf (fun b _ q => q)
  have f5 := h_fr.setF (o := O4) (fs' := [.null, .ref M1.2.1, .ref M3.2.1, .null, .null, .int 0, .int 0, .int 0, .int 0, .int 0, .int 0, .int 0]) f4.wf c4
  have c5 : (z_set μ4 a (.inr (12, [.null, .ref M1.2.1, .ref M3.2.1, .null, .null, .int 0, .int 0, .int 0, .int 0, .int 0, .int 0, .int 0]))).1 a = some (.inr (12, [.null, .ref M1.2.1, .ref M3.2.1, .null, .null, .int 0, .int 0, .int 0, .int 0, .int 0, .int 0, .int 0])) := z_set_self
  have hS5 := hS4.fr f5 f4.wf (fun b hb q => by rw [q, q4] at hb; omega)
  have hW5 := hW4.fr f5 f4.wf (fun b hb q => by rw [q, q4] at hb; omega)
  have u5 : h_u (z_set μ4 a (.inr (12, [.null, .ref M1.2.1, .ref M3.2.1, .null, .null, .int 0, .int 0, .int 0, .int 0, .int 0, .int 0, .int 0]))) = h_u μ4 := rfl
  have l5 : a < (z_set μ4 a (.inr (12, [.null, .ref M1.2.1, .ref M3.2.1, .null, .null, .int 0, .int 0, .int 0, .int 0, .int 0, .int 0, .int 0]))).2.1 := l4
  have x5 : ∀ (kk : z_M → Option z_M), x_pf μ4 a 12 2 (.ref M3.2.1) kk = kk (z_set μ4 a (.inr (12, [.null, .ref M1.2.1, .ref M3.2.1, .null, .null, .int 0, .int 0, .int 0, .int 0, .int 0, .int 0, .int 0]))) := fun kk => x_pfS c4 (Nat.le_of_ble_eq_true rfl)
  generalize hM5 : z_set μ4 a (.inr (12, [.null, .ref M1.2.1, .ref M3.2.1, .null, .null, .int 0, .int 0, .int 0, .int 0, .int 0, .int 0, .int 0])) = M5 at f5 c5 hS5 hW5 u5 l5 x5
  -- the links that are down
  have f6 : h_fr g (fun _ => False) O4 M5 (h_o1 O4 M5.2.1 1000) (z_new M5 36 (.inl (2, 36, .inl (fun _ => 0)))) := h_fr.new f5.wf
  have c6 : (z_new M5 36 (.inl (2, 36, .inl (fun _ => 0)))).1 a = _ := (z_new_ne (f5.wf.ne c5)).trans c5
  have d6 : (z_new M5 36 (.inl (2, 36, .inl (fun _ => 0)))).1 M5.2.1 = some (.inl (2, 36, .inl (fun _ => 0))) := z_new_self
  have q6 : h_o1 O4 M5.2.1 1000 a = 1000 := (if_neg (by omega : ¬ a = M5.2.1)).trans q4
  have w6 : h_o1 O4 M5.2.1 1000 M5.2.1 = 1000 := if_pos rfl
  have u6 : h_u (z_new M5 36 (.inl (2, 36, .inl (fun _ => 0)))) = h_u M5 + 41 := by rw [h_u_new]
  have hS6 := hS5.fr f6 f5.wf (fun b _ q => q)
  have hW6 := hW5.fr f6 f5.wf (fun b _ q => q)
  have l6 : M5.2.1 < (z_new M5 36 (.inl (2, 36, .inl (fun _ => 0)))).2.1 := Nat.lt_succ_self _
  generalize hM6 : z_new M5 36 (.inl (2, 36, .inl (fun _ => 0))) = M6 at f6 c6 d6 u6 hS6 hW6 l6
  generalize hO6 : h_o1 O4 M5.2.1 1000 = O6 at f6 q6 w6 hS6 hW6
  have hqd : a ≠ M5.2.1 := by omega
  have f7 := h_fr.setF (o := O6) (fs' := [.null, .ref M1.2.1, .ref M3.2.1, .ref M5.2.1, .null, .int 0, .int 0, .int 0, .int 0, .int 0, .int 0, .int 0]) f6.wf c6
  have c7 : (z_set M6 a (.inr (12, [.null, .ref M1.2.1, .ref M3.2.1, .ref M5.2.1, .null, .int 0, .int 0, .int 0, .int 0, .int 0, .int 0, .int 0]))).1 a = some (.inr (12, [.null, .ref M1.2.1, .ref M3.2.1, .ref M5.2.1, .null, .int 0, .int 0, .int 0, .int 0, .int 0, .int 0, .int 0])) := z_set_self
  have d7 : (z_set M6 a (.inr (12, [.null, .ref M1.2.1, .ref M3.2.1, .ref M5.2.1, .null, .int 0, .int 0, .int 0, .int 0, .int 0, .int 0, .int 0]))).1 M5.2.1 = some (.inl (2, 36, .inl (fun _ => 0))) := (z_set_ne (Ne.symm hqd)).trans d6
  have hS7 := hS6.fr f7 f6.wf (fun b hb q => by rw [q, q6] at hb; omega)
  have hW7 := hW6.fr f7 f6.wf (fun b hb q => by rw [q, q6] at hb; omega)
  have u7 : h_u (z_set M6 a (.inr (12, [.null, .ref M1.2.1, .ref M3.2.1, .ref M5.2.1, .null, .int 0, .int 0, .int 0, .int 0, .int 0, .int 0, .int 0]))) = h_u M6 := rfl
  have l7 : M5.2.1 < (z_set M6 a (.inr (12, [.null, .ref M1.2.1, .ref M3.2.1, .ref M5.2.1, .null, .int 0, .int 0, .int 0, .int 0, .int 0, .int 0, .int 0]))).2.1 := l6
  have x7 : ∀ (kk : z_M → Option z_M), x_pf M6 a 12 3 (.ref M5.2.1) kk = kk (z_set M6 a (.inr (12, [.null, .ref M1.2.1, .ref M3.2.1, .ref M5.2.1, .null, .int 0, .int 0, .int 0, .int 0, .int 0, .int 0, .int 0]))) := fun kk => x_pfS c6 (Nat.le_of_ble_eq_true rfl)
  generalize hM7 : z_set M6 a (.inr (12, [.null, .ref M1.2.1, .ref M3.2.1, .ref M5.2.1, .null, .int 0, .int 0, .int 0, .int 0, .int 0, .int 0, .int 0])) = M7 at f7 c7 d7 hS7 hW7 u7 l7 x7
  -- the ends
  have f8 : h_fr g (fun _ => False) O6 M7 (h_o1 O6 M7.2.1 1000) (z_new M7 61 (.inl (6, z_nul 61))) := h_fr.new f7.wf
  have c8 : (z_new M7 61 (.inl (6, z_nul 61))).1 a = _ := (z_new_ne (f7.wf.ne c7)).trans c7
  have d8 : (z_new M7 61 (.inl (6, z_nul 61))).1 M5.2.1 = _ := (z_new_ne (f7.wf.ne d7)).trans d7
  have b8 : (z_new M7 61 (.inl (6, z_nul 61))).1 M7.2.1 = some (.inl (6, z_nul 61)) := z_new_self
  have q8 : h_o1 O6 M7.2.1 1000 a = 1000 := (if_neg (by omega : ¬ a = M7.2.1)).trans q6
  have w8 : h_o1 O6 M7.2.1 1000 M5.2.1 = 1000 := (if_neg (by omega : ¬ M5.2.1 = M7.2.1)).trans w6
  have v8 : h_o1 O6 M7.2.1 1000 M7.2.1 = 1000 := if_pos rfl
  have u8 : h_u (z_new M7 61 (.inl (6, z_nul 61))) = h_u M7 + 66 := by rw [h_u_new]
  have hS8 := hS7.fr f8 f7.wf (fun b _ q => q)
  have hW8 := hW7.fr f8 f7.wf (fun b _ q => q)
  have l8 : M7.2.1 < (z_new M7 61 (.inl (6, z_nul 61))).2.1 := Nat.lt_succ_self _
  generalize hM8 : z_new M7 61 (.inl (6, z_nul 61)) = M8 at f8 c8 d8 b8 u8 hS8 hW8 l8
  generalize hO8 : h_o1 O6 M7.2.1 1000 = O8 at f8 q8 w8 v8 hS8 hW8
  have hqe : a ≠ M7.2.1 := by omega
  have f9 := h_fr.setF (o := O8) (fs' := [.ref p, .ref M1.2.1, .ref M3.2.1, .ref M5.2.1, .ref M7.2.1, .int 0, .int 0, .int 0, .int 0, .int 0, .int 0, .int 0]) f8.wf c8
  have c9 : (z_set M8 a (.inr (12, [.ref p, .ref M1.2.1, .ref M3.2.1, .ref M5.2.1, .ref M7.2.1, .int 0, .int 0, .int 0, .int 0, .int 0, .int 0, .int 0]))).1 a = some (.inr (12, [.ref p, .ref M1.2.1, .ref M3.2.1, .ref M5.2.1, .ref M7.2.1, .int 0, .int 0, .int 0, .int 0, .int 0, .int 0, .int 0])) := z_set_self
  have d9 : (z_set M8 a (.inr (12, [.ref p, .ref M1.2.1, .ref M3.2.1, .ref M5.2.1, .ref M7.2.1, .int 0, .int 0, .int 0, .int 0, .int 0, .int 0, .int 0]))).1 M5.2.1 = some (.inl (2, 36, .inl (fun _ => 0))) := (z_set_ne (Ne.symm hqd)).trans d8
  have b9 : (z_set M8 a (.inr (12, [.ref p, .ref M1.2.1, .ref M3.2.1, .ref M5.2.1, .ref M7.2.1, .int 0, .int 0, .int 0, .int 0, .int 0, .int 0, .int 0]))).1 M7.2.1 = some (.inl (6, z_nul 61)) := (z_set_ne (Ne.symm hqe)).trans b8
  have hS9 := hS8.fr f9 f8.wf (fun b hb q => by rw [q, q8] at hb; omega)
  have hW9 := hW8.fr f9 f8.wf (fun b hb q => by rw [q, q8] at hb; omega)
  have u9 : h_u (z_set M8 a (.inr (12, [.ref p, .ref M1.2.1, .ref M3.2.1, .ref M5.2.1, .ref M7.2.1, .int 0, .int 0, .int 0, .int 0, .int 0, .int 0, .int 0]))) = h_u M8 := rfl
  have l9 : M7.2.1 < (z_set M8 a (.inr (12, [.ref p, .ref M1.2.1, .ref M3.2.1, .ref M5.2.1, .ref M7.2.1, .int 0, .int 0, .int 0, .int 0, .int 0, .int 0, .int 0]))).2.1 := l8
  have x9 : ∀ (kk : z_M → Option z_M), x_pf M8 a 12 4 (.ref M7.2.1) (fun μ38 => x_pf μ38 a 12 0 (va_rf (some p)) kk) = kk (z_set M8 a (.inr (12, [.ref p, .ref M1.2.1, .ref M3.2.1, .ref M5.2.1, .ref M7.2.1, .int 0, .int 0, .int 0, .int 0, .int 0, .int 0, .int 0]))) := fun kk => by
    refine (x_pfS c8 (Nat.le_of_ble_eq_true rfl)).trans ?_
    refine (x_pfS z_set_self (Nat.le_of_ble_eq_true rfl)).trans ?_
    rw [z_set_set]
    rfl
  generalize hM9 : z_set M8 a (.inr (12, [.ref p, .ref M1.2.1, .ref M3.2.1, .ref M5.2.1, .ref M7.2.1, .int 0, .int 0, .int 0, .int 0, .int 0, .int 0, .int 0])) = M9 at f9 c9 d9 b9 hS9 hW9 u9 l9 x9
  have fB : h_fr g (fun _ => False) o μ O8 M9 := by
    refine ((((((((f1.trans f2 (S := fun _ => False) (fun b _ q => q.elim id id)).trans f3 (S := fun b => b = a) (fun b _ q => q.elim False.elim id)).trans f4 (S := fun b => b = a) (fun b _ q => q.elim id False.elim)).trans f5 (S := fun b => b = a) (fun b _ q => q.elim id id)).trans f6 (S := fun b => b = a) (fun b _ q => q.elim id False.elim)).trans f7 (S := fun b => b = a) (fun b _ q => q.elim id id)).trans f8 (S := fun b => b = a) (fun b _ q => q.elim id False.elim)).trans f9 (S := fun b => b = a) (fun b _ q => q.elim id id)).mono (fun b hb q => by omega)
  have hntB := hnt.fr fB hw (fun b _ q => q) (fun q => q)
  have uB : h_u M9 = h_u μ + 151 := by rw [u9, u8, u7, u6, u5, u4, u3, u2, u1]
  -- the nodes
  obtain ⟨s', eL, oL, ns, r1, r2, r3, r4, r5, r6, r7⟩ := x_forS (γ := z_M) (δ := Unit) (β := Option z_M)
    (R := fun k s _ => ∃ o' ns, h_fr g (fun b => O8 b = 1002) O8 M9 o' s ∧ h_ls g o' s 1002 M1.2.1 6 ns ∧ ns.length = k ∧ (∀ n q, ns[n]? = some q → h_no g o' s n q 0 [] ([], [], 0) (fun _ => -1)) ∧ h_u s ≤ h_u M9 + 46 * k ∧ s.1 a = some (.inr (12, [.ref p, .ref M1.2.1, .ref M3.2.1, .ref M5.2.1, .ref M7.2.1, .int 0, .int 0, .int 0, .int 0, .int 0, .int 0, .int 0])) ∧ a < s.2.1)
    (L := fun fu k s => D_X12_init_52 g a (some p) (fun (μ69 : z_M) => some μ69) fu (nI k) s)
    (K := fun s => some s) (st := fun _ u => u) (n := n_nodes N)
    (fun fu s _ hR => by
      obtain ⟨o', ns, r1, r2, r3, r4, r5, r6, r7⟩ := hR
      have hnt' := hntB.fr r1 f9.wf (fun b hb (q : O8 b = 1002) => by omega) (fun (q : O8 d = 1002) => by
        obtain ⟨-, _, _, _, _, _, _, _, _, _, _, _, ⟨q3, -⟩, _⟩ := hntB
        omega)
      obtain ⟨-, _, _, _, _, _, _, _, _, _, hp, -⟩ := hnt'
      show D_X12_init_52 _ _ _ _ (fu + 1) _ _ = _
      unfold D_X12_init_52
      rw [x_oS, x_giS hp rfl, e0, if_pos (Int32.le_refl _)])
    (fun fu k s _ hR hk => by
      obtain ⟨o', ns, r1, r2, r3, r4, r5, r6, r7⟩ := hR
      have hnt' := hntB.fr r1 f9.wf (fun b hb (q : O8 b = 1002) => by omega) (fun (q : O8 d = 1002) => by
        obtain ⟨-, _, _, _, _, _, _, _, _, _, _, _, ⟨q3, -⟩, _⟩ := hntB
        omega)
      obtain ⟨-, _, _, _, _, _, _, _, _, _, hp, -⟩ := hnt'
      obtain ⟨o2, μ2, e2, hno, g2, v2, lt2⟩ := h_newNode (o := o') (n := k) hok r1.wf (by omega)
      have r22 := r2.fr g2 r1.wf (fun b _ q => q)
      obtain ⟨μ3, e3, L3, g3, v3⟩ := r22.addIn (x := s.2.1) g2.wf (by omega) ⟨"AskedNames$Node", "java/lang/Object", rfl, hno.isA, Or.inr q2989⟩
      have g23 : h_fr g (fun b => o' b = 1002) o' s o2 μ3 := g2.trans g3 (fun b hb q => q.elim False.elim (fun q => by rw [g2.2.1 b hb] at q; exact q))
      have oa : o' a = 1000 := by
        have := r1.2.1 a (by omega)
        rw [this]; exact q8
      refine ⟨μ3, ?_, o2, ns ++ [s.2.1], r1.trans g23 (fun b hb q => ?_), L3, by rw [List.length_append, r3]; rfl, fun n q hq => ?_, by have : h_u μ3 = h_u μ2 := (by unfold h_u; rw [v3]); omega, g23.cell r1.wf r6 (fun (q : o' a = 1002) => by omega), Nat.lt_of_lt_of_le r7 g23.1⟩
      · show D_X12_init_52 _ _ _ _ (fu + 1) _ _ = _
        conv => lhs; unfold D_X12_init_52
        rw [x_oS, x_giS hp rfl, e0, if_neg (nI_ge hk (by omega)), x_grR r6 rfl, x_nwS, e2, x_bS, x_oS, r22.obK, e3, x_b2S, x_lS, nI_1]
      · rcases q with q | q
        · exact q
        · rw [r1.2.1 b hb] at q; exact q
      · by_cases en : n < ns.length
        · rw [List.getElem?_append_left en] at hq
          refine ((r4 n q hq).fr g2 r1.wf (fun b _ q => q) (fun b _ q => q)).fr g3 g2.wf (fun b hb (q : o2 b = 1002) => by omega) (fun b hb (q : o2 b = 1002) => by
            have := h_tn_ge hb
            omega)
        · have hnl := (List.getElem?_eq_some_iff.mp hq).1
          rw [List.length_append] at hnl
          have hnl' : n < ns.length + 1 := hnl
          have enk : n = ns.length := by omega
          rw [enk, List.getElem?_append_right (Nat.le_refl _), Nat.sub_self] at hq
          cases hq
          rw [enk, r3]
          exact hno.fr g3 g2.wf (fun b hb (q : o2 b = 1002) => by omega) (fun b hb (q : o2 b = 1002) => by
            have := h_tn_ge hb
            omega))
    x_F 0 M9 () (Nat.zero_le _) ⟨O8, [], h_fr.refl f9.wf, hS9, rfl, (fun n q hq => by cases hq), by omega, c9, by omega⟩ (by rw [x_Fv]; omega)
  have S0 : ∀ b, O8 b = 0 → ¬ O8 b = 1002 := fun b hb => by omega
  have hd3 : O8 d = 3 := by obtain ⟨-, _, _, _, _, _, _, _, _, _, _, _, ⟨q3, -⟩, _⟩ := hntB; exact q3
  have hbl : μ.2.1 ≤ M9.2.1 := fB.1
  have hal : a < M9.2.1 := by omega
  refine ⟨oL, s', ((a, p, d, M1.2.1, M3.2.1, M5.2.1, M7.2.1), (ns, ls, rs, ss), N, lk, Mw, Me), ?_, ⟨rfl, rfl, rfl, rfl, rfl, rfl, rfl, rfl⟩, ?_, ?_, ?_⟩
  · unfold D_X12_init
    have hM6' : z_new M5 36 (.inl (2, 36, .inl (fun _ => 0))) = M6 := hM6
    rw [x_nwS, show (6 : Int32) = nI 6 from rfl, e2, x_bS, x3, x_nwS, e4, x_bS, x5, x_naL (i := 36) (n := 36) rfl (by omega), x_nwS, hM6', x7, x_naL (i := 61) (n := 61) rfl (by omega), x_nwS, hM8]
    refine (x9 _).trans ?_
    exact eL
  · refine ⟨⟨⟨hok, r1.wf⟩, ⟨hN, hlk⟩, ⟨0, by omega, rfl, (fun n hn e he => by cases he), fun i hi => Or.inl rfl⟩, hMw, hMe⟩, hntB.fr r1 f9.wf S0 (fun (q : O8 d = 1002) => by omega), ⟨(r1.2.1 a hal).trans q8, r6⟩, ⟨r2, r3⟩, ⟨fun _ => 0, (r1.2.1 _ (f9.wf.lt d9)).trans w8, r1.cell f9.wf d9 (fun (q : O8 M5.2.1 = 1002) => by omega), fun i l hi hl => ?_⟩,
      ⟨fun _ => none, (r1.2.1 _ (f9.wf.lt b9)).trans v8, r1.cell f9.wf b9 (fun (q : O8 M7.2.1 = 1002) => by omega), fun k hk => Or.inl rfl⟩, 0, fun _ => 0, [], ?_, ⟨Nat.zero_le _, fun _ => Nat.zero_le _⟩, ⟨hW9.fr r1 f9.wf (fun b hb (q : O8 b = 1002) => by omega), h_al.nil⟩, fun n q hq => r4 n q hq⟩
    · have hl15 := (hlk i l hi hl).1
      have hb := n_ln_b hN hl15
      show (0 : Int32) = if s_bit 0 (nI l) = true then 1 else 0
      rw [s_bit_0 (by omega), if_neg (by decide)]
    · show h_u s' ≤ h_u μ + 450 + 9 * (0 + s_sum6 (fun _ => 0))
      have e9 : s_sum6 (fun _ => 0) = 0 := rfl
      omega
  · exact fB.trans r1 (fun b hb q => q.elim id (fun q => by
      have e1 := fB.2.1 b hb
      have e2 := hT b (by omega)
      omega))
  · exact r7
end T93
