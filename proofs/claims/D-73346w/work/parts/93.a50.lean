/-! THE COMPONENT's LAW, 50: what is told of a state -/
set_option maxRecDepth 100000
set_option maxHeartbeats 400000
set_option linter.unusedVariables false
theorem nI_w : ∀ w : Fin 160, nI w.1 / (10 : Int32) = nI (w.1 / 10) ∧ nI w.1 - nI w.1 / (10 : Int32) * (10 : Int32) = nI (w.1 % 10) ∧ (100 ≤ w.1 → nI w.1 / (10 : Int32) - (10 : Int32) = nI (w.1 / 10 - 10) ∧ (nI w.1 - 100) / (10 : Int32) = nI (w.1 / 10 - 10)) := by decide
/-- what is asked of a state is small or has no answer -/
theorem s_what (x : Int32) : (∃ w, w < 160 ∧ x = nI w) ∨ x < 0 ∨ 159 < x := by
  by_cases c : 0 ≤ x
  · obtain ⟨e1, e2⟩ := v_of c
    by_cases d : v_ x < 160
    · exact Or.inl ⟨_, d, e1⟩
    · refine Or.inr (Or.inr ?_)
      rw [e1]
      exact (nI_ltI (a := 159) (by omega) e2).mpr (by omega)
  · exact Or.inr (Or.inl (Int32.not_le.mp c))
section T93
variable {g : z_G} {C : h_C} {o o1 : Nat → Nat} {μ μ1 : z_M} {E : Nat → List Nat} {B a b l n q p : Nat} {G : s_G} {what : Int32}
/-- the four numbers of a state -/
theorem h_go.told4 (h : h_go g C o μ E B G) (hlk : ∀ l, l < n_links (c_N C) → c_lk C (6 * n_la (c_N C) l + n_lb (c_N C) l) = some l) (hd : s_dwn (c_N C) G) :
    ∃ (p : Nat) (o1 : Nat → Nat) (μ1 : z_M) (f : Nat → Int32), (∀ {α : Type} (K : Nat → z_M → Option α), (x_na (4 : Int32) fun n1 =>
  x_nw μ n1 (.inl (0, n1, .inl (fun _ => 0))) fun p2 μ3 =>
  x_gi μ3 (c_a C) 12 5 fun x6 =>
  x_ar μ3 p2 0 fun n10 f11 =>
  x_ga (0 : Int32) n10 fun j13 =>
  x_l (x_ia μ3 p2 0 n10 j13 f11 x6) fun μ16 =>
  x_gr μ16 (c_a C) 12 2 fun o17 =>
  x_o o17 fun p21 =>
  x_ob μ16 p21 3 fun _ =>
  x_b (D_J2_size g p21 μ16) fun x25 =>
  x_ar μ16 p2 0 fun n26 f27 =>
  x_ga (1 : Int32) n26 fun j29 =>
  x_l (x_ia μ16 p2 0 n26 j29 f27 x25) fun μ32 =>
  x_ob μ32 (c_a C) 12 fun _ =>
  x_b2 (D_X12_entries g (c_a C) μ32) fun x36 μ37 =>
  x_ar μ37 p2 0 fun n38 f39 =>
  x_ga (2 : Int32) n38 fun j41 =>
  x_l (x_ia μ37 p2 0 n38 j41 f39 x36) fun μ44 =>
  x_ob μ44 (c_a C) 12 fun _ =>
  x_b2 (D_X12_cut g (c_a C) μ44) fun x48 μ49 =>
  x_ar μ49 p2 0 fun n50 f51 =>
  x_ga (3 : Int32) n50 fun j53 =>
  x_l (x_ia μ49 p2 0 n50 j53 f51 x48) fun μ56 => K p2 μ56) = K p μ1) ∧ μ1.1 p = some (h_ia 4 f) ∧ (f 0 = g_minute G ∧ f 1 = nI (g_ways G).length ∧ f 2 = nI (s_all (c_N C) G) ∧ f 3 = nI (s_cntB (fun k => s_bit (g_down G) (nI k)) 15)) ∧
    h_go g C o1 μ1 E (B + 27) G ∧ h_fr g (fun a => o a = 900) o μ o1 μ1 := by
  have hwf := h.wf
  obtain ⟨cw, ws, w1, w2, hcw, -⟩ := h.waysX
  have hca : μ.2.1 ≠ c_a C := fun e => hwf.ne h.ca e.symm
  have cA : ∀ {x : z_C} {m : Nat}, (z_new μ m x).1 (c_a C) = some (h_gc C G) := fun {x m} => (z_new_ne (Ne.symm hca)).trans h.ca
  generalize hf2 : h_up (h_up (fun _ => 0) 0 (g_minute G)) 1 (nI ws.length) = f2
  have h1 := h.new (m := 4) (t := 870) (x := h_ia 4 f2)
  have F1 : h_fr g (fun _ => False) o μ (h_o1 o μ.2.1 870) (z_new μ 4 (h_ia 4 f2)) := h_fr.new hwf
  have q1 : h_o1 o μ.2.1 870 μ.2.1 = 870 := if_pos rfl
  have q1' : ∀ a, a < μ.2.1 → h_o1 o μ.2.1 870 a = o a := fun a ha => if_neg (by omega)
  have hls : ∀ {x : z_C}, h_ls g (h_o1 o μ.2.1 870) (z_new μ 4 x) 1001 (c_wl C) cw ws := fun {x} => w1.fr (h_fr.new (n := 4) (t := 870) (x := x) hwf) hwf (fun a _ q => q)
  have cP : (z_new μ 4 (h_ia 4 f2)).1 μ.2.1 = some (h_ia 4 f2) := z_new_self
  obtain ⟨μ2, e2, h2, F2, -⟩ := h1.entries
  have l1 : μ.2.1 < (z_new μ 4 (h_ia 4 f2)).2.1 := Nat.lt_succ_self _
  have cP2 : μ2.1 μ.2.1 = some (h_ia 4 f2) := F2.cell F1.wf cP (by rw [q1]; omega)
  have q2 : h_o1 (h_o1 o μ.2.1 870) (z_new μ 4 (h_ia 4 f2)).2.1 900 μ.2.1 = 870 := (if_neg (by omega)).trans q1
  generalize h_o1 (h_o1 o μ.2.1 870) (z_new μ 4 (h_ia 4 f2)).2.1 900 = O2 at h2 F2 q2
  have F3 : h_fr g (fun a => a = μ.2.1) O2 μ2 O2 (z_set μ2 μ.2.1 (h_ia 4 (h_up f2 2 (nI (s_all (c_N C) G))))) := h_fr.setA h2.wf cP2
  have h3 := h2.fr (b := 0) F3 (fun a q => by subst q; omega) (by rw [h_u_set]; omega)
  have cP3 : (z_set μ2 μ.2.1 (h_ia 4 (h_up f2 2 (nI (s_all (c_N C) G))))).1 μ.2.1 = some (h_ia 4 (h_up f2 2 (nI (s_all (c_N C) G)))) := z_set_self
  obtain ⟨μ4, e4, h4, F4, -⟩ := h3.cutN hlk
  have l3 : μ.2.1 < (z_set μ2 μ.2.1 (h_ia 4 (h_up f2 2 (nI (s_all (c_N C) G))))).2.1 := Nat.lt_of_lt_of_le l1 F2.1
  have cP4 : μ4.1 μ.2.1 = some (h_ia 4 (h_up f2 2 (nI (s_all (c_N C) G)))) := F4.cell F3.wf cP3 (by rw [q2]; omega)
  have q4 : h_o1 O2 (z_set μ2 μ.2.1 (h_ia 4 (h_up f2 2 (nI (s_all (c_N C) G))))).2.1 900 μ.2.1 = 870 := (if_neg (by omega)).trans q2
  generalize h_o1 O2 (z_set μ2 μ.2.1 (h_ia 4 (h_up f2 2 (nI (s_all (c_N C) G))))).2.1 900 = O4 at h4 F4 q4
  rw [← s_cutN hd h.hN] at e4
  generalize hc : nI (s_cntB (fun k => s_bit (g_down G) (nI k)) 15) = cut at e4
  have F5 : h_fr g (fun a => a = μ.2.1) O4 μ4 O4 (z_set μ4 μ.2.1 (h_ia 4 (h_up (h_up f2 2 (nI (s_all (c_N C) G))) 3 cut))) := h_fr.setA h4.wf cP4
  have h5 := h4.fr (b := 0) F5 (fun a q => by subst q; omega) (by rw [h_u_set]; omega)
  refine ⟨μ.2.1, O4, z_set μ4 μ.2.1 (h_ia 4 (h_up (h_up f2 2 (nI (s_all (c_N C) G))) 3 cut)), h_up (h_up f2 2 (nI (s_all (c_N C) G))) 3 cut, fun K => ?_, z_set_self, ⟨?_, ?_, rfl, rfl⟩, h5.le (by omega), ?_⟩
  · rw [x_naL (i := 4) (n := 4) rfl (by omega), x_nwS, x_giS cA rfl, x_arN (i := 0) (j := 0) rfl (by omega) (by omega), x_lsz cA rfl hls]
    rw [x_arN (i := 1) (j := 1) rfl (by omega) (by omega), hf2, h1.ob, e2, x_b2S, x_arW cP2 (i := 2) (j := 2) rfl (by omega) (by omega), h3.ob, e4, x_b2S, x_arW cP4 (i := 3) (j := 3) rfl (by omega) (by omega)]
  · rw [← hf2]; rfl
  · rw [← hf2, w2.1]; rfl
  · refine ((F1.trans F2 (S := fun a => o a = 900) ?_).trans F3 (S := fun a => o a = 900 ∨ a = μ.2.1) (fun a _ q => q)).trans (F4.trans F5 (S := fun a => O2 a = 900 ∨ a = μ.2.1) (fun a _ q => q)) ?_
    · intro a ha q
      rcases q with q | q
      · exact q.elim
      · exact (q1' a ha).symm.trans q
    · intro a ha q
      have := F2.2.1 a (Nat.lt_trans ha l1)
      have e := this.trans (q1' a ha)
      rcases q with (q | q) | (q | q)
      · exact q
      · omega
      · exact e.symm.trans q
      · omega
end T93
