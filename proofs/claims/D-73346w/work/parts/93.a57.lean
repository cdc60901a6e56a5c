/-! THE COMPONENT's LAW, 57: a run begins, goes -/
set_option maxRecDepth 100000
set_option maxHeartbeats 400000
set_option linter.unusedVariables false
section T93
variable {g : z_G} {C : h_C} {N : s_R} {lk : Nat → Option Nat} {o o1 : Nat → Nat} {μ μ1 : z_M} {E : Nat → List Nat} {B a b l n q p w i k k2 ak r K t m tl dl cap cnt d Mw Me : Nat} {G G' : s_G} {ds : Nat → s_Dd} {S : Nat → Prop} {xs ls rs ss : List Nat} {W : s_W} {A : Nat → Bool}
theorem h_rn_begin (ds : Nat → s_Dd) (cc : Nat → Nat → Int32) (hok : z_ok g) (hw : h_wf g μ) (hN : n_ok N) (hlk : s_lkok N lk) (hnt : h_nt g o μ p d N lk ls rs ss) (hMw : Mw ≤ 4096) (hMe : Me ≤ 64) (hT : ∀ b, b < μ.2.1 → o b < 879) :
    ∃ o1 μ1 C ak, D_X11_init g μ.2.1 (some p) (z_new μ 5 (.inr (11, [.null, .null, .int 0, .int 0, .int 0]))) = some μ1 ∧ (c_p C = p ∧ c_d C = d ∧ c_N C = N ∧ c_lk C = lk ∧ c_Mw C = Mw ∧ c_Me C = Me ∧ c_ls C = ls) ∧
      h_rn g C o1 μ1 (fun _ => []) (h_u μ + 526) (s_begin cc) μ.2.1 ak 0 0 0 (s_Ak ds 0) ∧ h_fr g (fun _ => False) o μ o1 μ1 ∧ μ.2.1 < μ1.2.1 := by
  have F0 : h_fr g (fun _ => False) o μ (h_o1 o μ.2.1 879) (z_new μ 5 (.inr (11, [.null, .null, .int 0, .int 0, .int 0]))) := h_fr.new hw
  have c0 : (z_new μ 5 (.inr (11, [.null, .null, .int 0, .int 0, .int 0]))).1 μ.2.1 = some (.inr (11, [.null, .null, .int 0, .int 0, .int 0])) := z_new_self
  have q0 : h_o1 o μ.2.1 879 μ.2.1 = 879 := if_pos rfl
  have u0 : h_u (z_new μ 5 (.inr (11, [.null, .null, .int 0, .int 0, .int 0]))) = h_u μ + 10 := by rw [h_u_new]
  have l0 : μ.2.1 < (z_new μ 5 (.inr (11, [.null, .null, .int 0, .int 0, .int 0]))).2.1 := Nat.lt_succ_self _
  have s0 : (z_new μ 5 (.inr (11, [.null, .null, .int 0, .int 0, .int 0]))).2.1 = μ.2.1 + 1 := rfl
  have T0 : ∀ b, b < (z_new μ 5 (.inr (11, [.null, .null, .int 0, .int 0, .int 0]))).2.1 → h_o1 o μ.2.1 879 b ≤ 879 := fun b hb => by
    by_cases e : b = μ.2.1
    · rw [e, q0]; omega
    · have e2 : h_o1 o μ.2.1 879 b = o b := if_neg e
      have := hT b (by omega)
      omega
  have n0 := hnt.fr F0 hw (fun a _ q => q) (fun q => q)
  generalize hM0 : z_new μ 5 (.inr (11, [.null, .null, .int 0, .int 0, .int 0])) = M0 at F0 c0 u0 l0 s0 T0 n0
  generalize hO0 : h_o1 o μ.2.1 879 = O0 at F0 q0 T0 n0
  have F1 : h_fr g (fun _ => False) O0 M0 (h_o1 O0 M0.2.1 879) (z_new M0 61 (h_ia 61 (fun _ => 0))) := h_fr.new F0.wf
  have c1 : (z_new M0 61 (h_ia 61 (fun _ => 0))).1 μ.2.1 = _ := (z_new_ne (F0.wf.ne c0)).trans c0
  have d1 : (z_new M0 61 (h_ia 61 (fun _ => 0))).1 M0.2.1 = some (h_ia 61 (fun _ => 0)) := z_new_self
  have q1 : h_o1 O0 M0.2.1 879 μ.2.1 = 879 := (if_neg (show ¬ μ.2.1 = M0.2.1 by omega)).trans q0
  have q1' : h_o1 O0 M0.2.1 879 M0.2.1 = 879 := if_pos rfl
  have u1 : h_u (z_new M0 61 (h_ia 61 (fun _ => 0))) = h_u M0 + 66 := by rw [h_u_new]
  have l1 : M0.2.1 < (z_new M0 61 (h_ia 61 (fun _ => 0))).2.1 := Nat.lt_succ_self _
  have s1 : (z_new M0 61 (h_ia 61 (fun _ => 0))).2.1 = M0.2.1 + 1 := rfl
  have T1 : ∀ b, b < (z_new M0 61 (h_ia 61 (fun _ => 0))).2.1 → h_o1 O0 M0.2.1 879 b < 880 := fun b hb => by
    by_cases e : b = M0.2.1
    · rw [e, q1']; omega
    · have e2 : h_o1 O0 M0.2.1 879 b = O0 b := if_neg e
      have := T0 b (by omega)
      omega
  have n1 := n0.fr F1 F0.wf (fun a _ q => q) (fun q => q)
  generalize hM1 : z_new M0 61 (h_ia 61 (fun _ => 0)) = M1 at F1 c1 d1 u1 l1 s1 T1 n1
  generalize hO1 : h_o1 O0 M0.2.1 879 = O1 at F1 q1 q1' T1 n1
  have hd3 : O1 d = 3 := by obtain ⟨-, _, _, _, _, _, _, _, _, _, _, _, ⟨q, -⟩, _⟩ := n1; exact q
  have F2 : h_fr g (fun b => b = μ.2.1) O1 M1 O1 (z_set M1 μ.2.1 (.inr (11, [.null, .ref M0.2.1, .int 0, .int 0, .int 0]))) := h_fr.setF F1.wf c1
  have c2 : (z_set M1 μ.2.1 (.inr (11, [.null, .ref M0.2.1, .int 0, .int 0, .int 0]))).1 μ.2.1 = some (.inr (11, [.null, .ref M0.2.1, .int 0, .int 0, .int 0])) := z_set_self
  have d2 := F2.cell F1.wf d1 (show ¬ M0.2.1 = μ.2.1 by omega)
  have n2 := n1.fr F2 F1.wf (fun a ha q => by rw [q, q1] at ha; omega) (fun q => by rw [q, q1] at hd3; omega)
  have s2 : (z_set M1 μ.2.1 (.inr (11, [.null, .ref M0.2.1, .int 0, .int 0, .int 0]))).2.1 = M1.2.1 := rfl
  have u2 : h_u (z_set M1 μ.2.1 (.inr (11, [.null, .ref M0.2.1, .int 0, .int 0, .int 0]))) = h_u M1 := rfl
  have x2 : ∀ (kk : z_M → Option z_M), x_pf M1 μ.2.1 11 1 (.ref M0.2.1) kk = kk (z_set M1 μ.2.1 (.inr (11, [.null, .ref M0.2.1, .int 0, .int 0, .int 0]))) := fun kk => x_pfS c1 (Nat.le_of_ble_eq_true rfl)
  generalize hM2 : z_set M1 μ.2.1 (.inr (11, [.null, .ref M0.2.1, .int 0, .int 0, .int 0])) = M2 at F2 c2 d2 n2 s2 u2 x2
  obtain ⟨O3, M3, C, e3, ⟨p1, p2, p3, p4, p5, p6, p7, p8⟩, h3, F3, l3⟩ := h_begin cc hok F2.wf hN hlk n2 hMw hMe (fun b hb => T1 b (by omega))
  have c3 := F3.cell F2.wf c2 (fun q => q)
  have d3 := F3.cell F2.wf d2 (fun q => q)
  have q3 : O3 μ.2.1 = 879 := (F3.2.1 _ (by omega)).trans q1
  have q3' : O3 M0.2.1 = 879 := (F3.2.1 _ (by omega)).trans q1'
  have F4 : h_fr g (fun b => b = μ.2.1) O3 M3 O3 (z_set M3 μ.2.1 (h_rc C M0.2.1 0 0 0)) := h_fr.setF h3.wf c3
  have h4 := h3.fr (b := 0) F4 (fun a q => by subst q; omega) (by rw [h_u_set]; omega)
  refine ⟨O3, z_set M3 μ.2.1 (h_rc C M0.2.1 0 0 0), C, M0.2.1, ?_, ⟨p2, p3, p4, p5, p6, p7, p8⟩, ⟨h4.le (by omega), ⟨q3, z_set_self⟩, _, ⟨q3', F4.cell h3.wf d3 (show ¬ M0.2.1 = μ.2.1 by omega)⟩, fun j _ hA => ?_⟩, ?_, ?_⟩
  · unfold D_X11_init
    rw [x_naL (i := 61) (n := 61) rfl (by omega), x_nwS]
    show (x_pf (z_new M0 61 (h_ia 61 (fun _ => 0))) μ.2.1 11 1 (.ref M0.2.1) _) = _
    rw [hM1, x2, x_nwS, e3, x_bS, ← p1]
    exact x_pfS c3 (Nat.le_of_ble_eq_true rfl)
  · exfalso
    unfold s_Ak at hA
    rw [decide_eq_false (by omega)] at hA
    cases hA
  · refine ((F0.trans F1 (S := fun _ => False) (fun a _ q => q.elim id id)).trans F2 (S := fun b => b = μ.2.1) (fun a _ q => q.elim (fun q => q.elim) id)).trans (F3.trans F4 (S := fun b => b = μ.2.1) (fun a _ q => q.elim (fun q => q.elim) id)) ?_
    intro a ha q
    rcases q with q | q <;> omega
  · show μ.2.1 < M3.2.1
    omega
end T93
