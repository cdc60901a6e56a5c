/-! THE COMPONENT's LAW, 62: a run is laid -/
set_option maxRecDepth 100000
set_option maxHeartbeats 400000
set_option linter.unusedVariables false
section T93
variable {g : z_G} {o o1 : Nat → Nat} {μ μ1 : z_M} {a s x tb k v : Nat} {S : Nat → Prop} {N R L : s_R} {p : s_P} {T : s_T} {n r m : Int32}
theorem h_wo.netOfF (h : h_wo g o μ a T) (hw : h_wf g μ) (hn : s_row (u_nets T.1) n = some N) : ∃ x, h_ne g o μ x N ∧ ∀ (S : Nat → Prop) (o1 : Nat → Nat) (μ1 : z_M), h_fr g S o μ o1 μ1 → (∀ a, o a < 50 → ¬ S a) → D_X0_netOf g a n μ1 = some (some x) := by
  obtain ⟨s, im, fi, ⟨a1, a2⟩, -, ⟨-, s0, tp, nl, rl, ll, cn, cr, cl, f, ns, rs, ls, c1, -, ⟨-, -, n2, n3⟩, -, -⟩, -⟩ := h
  obtain ⟨e1, e2, -⟩ := s_row_some hn
  obtain ⟨x, hx, hN⟩ := n3.get e2
  refine ⟨x, hN, fun S o1 μ1 hf hS => ?_⟩
  obtain ⟨d, ls', rs', ss', hnt⟩ := hN.fr hf hw (fun a ha => hS a (by omega))
  unfold D_X0_netOf
  rw [x_grR (hf.cell hw a2 (hS a (by omega))) rfl, x_oS, e1, x_lgt (hf.cell hw c1 (hS s (by omega))) rfl (n2.fr hf hw (fun a ha => hS a (by omega))) hx hnt.isA]
/-- room for lists -/
def k_rooms (C : h_C) : Nat := 9 * (c_Mw C + c_Mw C / 2 + 10 + 6 * (c_Me C + c_Me C / 2 + 10))
theorem h_go.cost {C : h_C} {E : Nat → List Nat} {B : Nat} {G : s_G} (h : h_go g C o μ E B G) : h_u μ ≤ B + k_rooms C := by
  obtain ⟨cw, ce, ws, b1, ⟨b2, b3⟩, -, -⟩ := h.2.2.2.2.2.2
  have c0 := b3 0
  have c1 := b3 1
  have c2 := b3 2
  have c3 := b3 3
  have c4 := b3 4
  have c5 := b3 5
  unfold s_sum6 at b1
  unfold k_rooms
  omega
/-- what a run of D deeds costs on a net of R routes -/
def k_run (R D : Nat) : Nat := 526 + (266 * (D * R) + 555 * D + 1485) + 9 * ((D * R + 6 * D + 6) + (D * R + 6 * D + 6) / 2 + 10 + 6 * (D + D / 2 + 10))
theorem k_rooms_le {C : h_C} {N : s_R} {D : Nat} (h1 : c_Mw C = k_Mw N D) (h2 : c_Me C = D) : k_rooms C ≤ 9 * ((D * n_routes N + 6 * D + 6) + (D * n_routes N + 6 * D + 6) / 2 + 10 + 6 * (D + D / 2 + 10)) := by
  have := k_Mw_le (N := N) (K := D)
  unfold k_rooms
  rw [h1, h2]
  omega
theorem n_routes12 {N : s_R} (hN : n_ok N) : n_routes N ≤ 12 := hN.2.2.2.1.2
theorem k_Mw_b {N : s_R} {K : Nat} (hN : n_ok N) (hK : K ≤ 60) : k_Mw N K ≤ 4096 := by
  have h1 := k_Mw_le (N := N) (K := K)
  have h2 := Nat.mul_le_mul hK (n_routes12 hN)
  omega
theorem h_iv.runOf (cc : Nat → Nat → Int32) (h : h_iv g o μ a T) (hn : s_row (u_nets T.1) n = some N) (hr : s_row (u_runs T.1) r = some R) (hv : v < 2 ^ 31) :
    ∃ o1 μ1 C E rr ak, D_X0_runOf g a n r (nI v) μ = some (some rr, μ1) ∧ (c_N C = N ∧ c_lk C = s_lk0 N none ∧ (h_u μ + 526 + k_plays N (s_lk0 N none) (r_dd R) (min v (r_cnt R)) 0 (s_begin cc)) + k_rooms C ≤ h_u μ + k_run (n_routes N) (r_cnt R)) ∧
      h_rn g C o1 μ1 E (h_u μ + 526 + k_plays N (s_lk0 N none) (r_dd R) (min v (r_cnt R)) 0 (s_begin cc)) (s_play N (s_lk0 N none) (r_dd R) (min v (r_cnt R)) (s_begin cc)).2.2 rr ak (s_play N (s_lk0 N none) (r_dd R) (min v (r_cnt R)) (s_begin cc)).1 (s_play N (s_lk0 N none) (r_dd R) (min v (r_cnt R)) (s_begin cc)).1 (s_play N (s_lk0 N none) (r_dd R) (min v (r_cnt R)) (s_begin cc)).2.1 (s_Ak (r_dd R) (s_play N (s_lk0 N none) (r_dd R) (min v (r_cnt R)) (s_begin cc)).1) ∧ h_fr g (fun a => 879 ≤ o a) o μ o1 μ1 := by
  obtain ⟨hok, hw, hT, hwo⟩ := h
  have hN : n_ok N := by
    obtain ⟨s, fs, -, -, h3⟩ := hwo.now
    exact h3.1.2.2.2.2.1 N (s_row_some hn).2.2
  have hR : r_ok R := by
    obtain ⟨s, fs, -, -, h3⟩ := hwo.now
    exact h3.1.2.2.2.2.2.1 R (s_row_some hr).2.2
  have hc40 : r_cnt R ≤ 40 := hR.1.2
  have hlk : s_lkok N (s_lk0 N none) := s_lk0_ok hN
  obtain ⟨xn, ⟨dd, ls, rs, ss, hnt⟩, hnf⟩ := hwo.netOfF hw hn
  have F0 : h_fr g (fun _ => False) o μ (h_o1 o μ.2.1 879) (z_new μ 5 (.inr (11, [.null, .null, .int 0, .int 0, .int 0]))) := h_fr.new hw
  have en0 := hnf _ _ _ F0 (fun _ _ q => q)
  have hwo0 := hwo.fr F0 hw (fun _ _ q => q)
  obtain ⟨O1, M1, C, ak, e1, ⟨p2, p3, p4, p5, p6, p7, p8⟩, h1, F1, l1⟩ := h_rn_begin (Mw := k_Mw N (r_cnt R)) (Me := r_cnt R) (r_dd R) cc hok hw hN hlk hnt (k_Mw_b hN (by omega)) (by omega) hT
  have hwo1 := hwo.fr F1 hw (fun _ _ q => q)
  obtain ⟨xr, er, ⟨cap, xs, hdl⟩⟩ := hwo1.runAt hr
  have hA0 : s_Ak (r_dd R) 0 = fun _ => false := by
    funext j
    unfold s_Ak
    rw [decide_eq_false (by omega)]
    rfl
  have hwf1 : h_wf g M1 := F1.wf
  have hcost : (h_u μ + 526 + k_plays N (s_lk0 N none) (r_dd R) (min v (r_cnt R)) 0 (s_begin cc)) + k_rooms C ≤ h_u μ + k_run (n_routes N) (r_cnt R) := by
    have c1 := k_plays_le (c := cc) (m := min v (r_cnt R)) hN hlk (by omega) (fun j hj => hR.2 j (by omega))
    have c2 := k_rooms_le (N := N) (D := r_cnt R) p6 p7
    have c3 : min v (r_cnt R) * n_routes N ≤ r_cnt R * n_routes N := Nat.mul_le_mul_right _ (Nat.min_le_right _ _)
    unfold k_run
    omega
  rw [← p5, ← p4]
  rw [← p5, ← p4] at hcost
  obtain ⟨O2, M2, E2, e2, h2, F2⟩ := h1.goes (n := v) (tl := 0) (fun μ56 => some (some μ.2.1, μ56)) (by omega) hc40 (fun j hj => hR.2 j hj) (by rw [p6, p4]; exact Nat.le_refl _) (by rw [p7]; exact Nat.le_refl _) hv (min v (r_cnt R)) x_F 0 0 0 (fun _ => (0, 0)) O1 M1 (fun _ => []) _ _ hdl (by rw [p4]; exact s_inv_begin) s_cc_begin (by rw [hA0]; exact s_cinv_begin) (by omega) (by omega) (by rw [x_Fv]; omega)
  refine ⟨O2, M2, C, E2, μ.2.1, ak, ?_, ⟨rfl, rfl, hcost⟩, h2, (F1.mono (S := fun a => 879 ≤ o a) (fun _ _ q => q.elim)).trans F2 (fun a ha q => by
    rcases q with q | q
    · exact q
    · rw [F1.2.1 a ha] at q; exact q)⟩
  obtain ⟨r0, rc⟩ := h1.2.1
  unfold D_X0_runOf
  rw [x_nwS, hwo0.ob, en0, x_bS, e1, x_bS, er, x_obS rc]
  unfold D_X11_goes
  rw [e2, x_b2S]
end T93
