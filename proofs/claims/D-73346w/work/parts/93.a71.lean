/-! THE COMPONENT's LAW, 71: the call entry -/
set_option maxRecDepth 100000
set_option maxHeartbeats 400000
set_option linter.unusedVariables false
section T93
variable {g : z_G} {o o1 : Nat → Nat} {μ μ1 : z_M} {a s x tb v i : Nat} {S : Nat → Prop} {N R L : s_R} {p : s_P} {T : s_T} {n r m k node ix what : Int32} {cc : Nat → Nat → Int32}
theorem h_iv.entry (cc : Nat → Nat → Int32) (h : h_iv g o μ a T) : ∃ μ1, D_X0_entry g a n r k node ix what μ = some (q_entry T cc n r k node ix what, μ1) ∧ h_iv g (h_o9 o μ) μ1 a T ∧ h_u μ1 ≤ h_u μ + (q_kr T n r + 100) := by
  obtain ⟨o1, μ1, F, h1⟩ := h.goingOf (n := n) (r := r) (k := k) cc
  unfold D_X0_entry q_entry
  rw [h.2.2.2.ob]
  rcases h1 with ⟨e1, e2, hu⟩ | ⟨N, G, C, E, B, e1, e2, hN, ⟨p1, p2⟩, hg, hd, hu⟩
  · rw [e1, e2]
    exact ⟨μ1, rfl, h.next F, by omega⟩
  · subst p1
    have hu1 := hg.cost
    rw [e1, e2, x_b2S, x_nuS, x_grR hg.ca rfl, x_oS, hg.nt.ob, hg.nt.isNode hN, x_bS]
    show ∃ μ2, _ = some ((match s_node (c_N C) node with
      | none => (-1 : Int32)
      | some b => match s_ix ix (g_es G b).length with
        | none => (-1 : Int32)
        | some j => match (g_es G b)[j]? with
          | none => (-1 : Int32)
          | some e => q_entryOf e what), μ2) ∧ _
    cases en : s_node (c_N C) node with
    | none => exact ⟨μ1, if_pos rfl, h.next F, by omega⟩
    | some b =>
      show ∃ μ2, _ = some ((match s_ix ix (g_es G b).length with
        | none => (-1 : Int32)
        | some j => match (g_es G b)[j]? with
          | none => (-1 : Int32)
          | some e => q_entryOf e what), μ2) ∧ _
      obtain ⟨b1, b2, b3⟩ := s_node_lt hN en
      obtain ⟨q, hq⟩ := hg.nodeAt b2
      obtain ⟨ce, hno0⟩ := hg.node0 hq
      obtain ⟨-, sl, el, ml, ds, f, c1, -, ⟨c2, c3, -⟩, -⟩ := hno0
      have hlen : (E b).length = (g_es G b).length := c3.1
      have hes : (g_es G b).length < 2 ^ 31 := by
        have h1 := c2.2.1
        have h2 := c2.2.2.1
        omega
      rw [if_neg (show ¬ (if (some b).isSome = true then (1 : Int32) else 0) = 0 from fun q => absurd (show (1 : Int32) = 0 from q) (by decide)), b3, hg.getNode hq, x_oS, x_lsz c1 rfl c2, hlen, s_ixD hes, x_bS]
      cases ej : s_ix ix (g_es G b).length with
      | none => exact ⟨μ1, if_pos rfl, h.next F, by omega⟩
      | some j =>
        obtain ⟨j1, j2⟩ := s_ix_nI ej
        have e9 : D_X0_isIn what 0 7 = some (if (s_ix what 8).isSome = true then 1 else 0) := s_ixD (v := 8) (by omega)
        have hget : (g_es G b)[j]? = some (g_es G b)[j] := List.getElem?_eq_getElem j2
        show ∃ μ2, _ = some ((match (g_es G b)[j]? with
          | none => (-1 : Int32)
          | some e => q_entryOf e what), μ2) ∧ _
        rw [hget]
        generalize hee : (g_es G b)[j] = e at hget
        show ∃ μ2, _ = some (q_entryOf e what, μ2) ∧ _
        rw [if_neg (show ¬ (if (some j).isSome = true then (1 : Int32) else 0) = 0 from fun q => absurd (show (1 : Int32) = 0 from q) (by decide)), e9, x_bS]
        obtain ⟨y, hy, hen⟩ := c3.get hget
        obtain ⟨-, ywn, y61, qn, al, ca, yc, hnm, hal⟩ := hen
        have hAy : z_isA g μ1 y "AskedNames$Entry" := Or.inl ⟨17, _, _, _, yc, rfl⟩
        cases ew : s_ix what 8 with
        | none =>
          refine ⟨μ1, (if_pos rfl).trans ?_, h.next F, by omega⟩
          have ne : ∀ w : Nat, w < 8 → ¬ what = nI w := fun w hw e => by
            unfold s_ix at ew
            rw [e, v_nI (by omega), if_pos ⟨Int32.not_lt.mp (nI_pos (by omega)), hw⟩] at ew
            cases ew
          unfold q_entryOf
          rw [if_neg (show ¬ what = 0 from ne 0 (by omega)), if_neg (show ¬ what = 1 from ne 1 (by omega)), if_neg (show ¬ what = 2 from ne 2 (by omega)), if_neg (show ¬ what = 3 from ne 3 (by omega)), if_neg (show ¬ what = 4 from ne 4 (by omega)), if_neg (show ¬ what = 5 from ne 5 (by omega)), if_neg (show ¬ what = 6 from ne 6 (by omega)), if_neg (show ¬ what = 7 from ne 7 (by omega))]
        | some w =>
          obtain ⟨w1, w2⟩ := s_ix_nI ew
          have hwf := hg.wf
          have hold : ∀ {x : z_C} {b : Nat} {c : z_C}, μ1.1 b = some c → (z_new μ1 8 x).1 b = some c := fun {x b c} hb => (z_new_ne (hwf.ne hb)).trans hb
          have hyc : ∀ {x : z_C}, (z_new μ1 8 x).1 y = some (.inr (17, [.ref qn, .int (e_wish e), .int (e_ends e), .int (e_first e), .ref al, .long (e_nonces e), .int (e_in e), .int (e_out e), .int (e_tried e), .int (e_sent e)])) := fun {x} => hold yc
          have F2 : ∀ x : z_C, h_fr g (fun _ => False) o1 μ1 (h_o1 o1 μ1.2.1 870) (z_new μ1 8 x) := fun x => h_fr.new hwf
          have hnm0 := hnm.fr (F2 (h_ia 8 (fun _ => 0))) hwf (fun a _ q => q)
          have e7 : nI (v_ (e_name e)) = e_name e := ywn.1.symm
          have hsz : ∀ x : z_C, D_J2_size g al (z_new μ1 8 x) = some (nI (s_cntB (fun k => s_hasL (e_asks e) (nI k)) 64)) := fun x => by
            rw [(hal.fr (F2 x) hwf (fun a _ q => q)).size, List.length_map, s_setL_cnt]
          have hobL : ∀ {α : Type} {M : Option α} (x : z_C), x_ob (z_new μ1 8 x) al 3 (fun _ => M) = M := fun x => (hal.fr (F2 x) hwf (fun a _ q => q)).obK
          refine ⟨z_new μ1 8 (h_ia 8 (h_up (h_up (h_up (h_up (h_up (h_up (h_up (h_up (fun _ => 0) 0 (e_name e)) 1 (e_wish e)) 2 (e_in e)) 3 (nI (s_cntB (fun k => s_hasL (e_asks e) (nI k)) 64))) 4 (e_out e)) 5 (e_tried e)) 6 (e_sent e)) 7 (e_ends e))), ?_, h.next (F.trans (F2 _) (fun a _ q => q.elim id (fun q => q.elim))), by rw [h_u_new]; omega⟩
          rw [if_neg (show ¬ (if (some w).isSome = true then (1 : Int32) else 0) = 0 from fun q => absurd (show (1 : Int32) = 0 from q) (by decide)), hg.getNode hq, x_oS, j1, x_lgt c1 rfl c2 hy hAy, x_naL (i := 8) (n := 8) rfl (by omega), x_nwS, x_oS, x_grS (o := some qn) hyc rfl, hnm0.code (F2 _).wf hg.ok, x_bS, e7]
          rw [x_arN (i := 0) (j := 0) rfl (by omega) (by omega)]
          rw [x_giS hyc rfl, x_arN (i := 1) (j := 1) rfl (by omega) (by omega)]
          rw [x_giS hyc rfl, x_arN (i := 2) (j := 2) rfl (by omega) (by omega)]
          rw [x_grR hyc rfl, x_oS, hobL, hsz, x_bS, x_arN (i := 3) (j := 3) rfl (by omega) (by omega)]
          rw [x_giS hyc rfl, x_arN (i := 4) (j := 4) rfl (by omega) (by omega)]
          rw [x_giS hyc rfl, x_arN (i := 5) (j := 5) rfl (by omega) (by omega)]
          rw [x_giS hyc rfl, x_arN (i := 6) (j := 6) rfl (by omega) (by omega)]
          rw [x_giS hyc rfl, x_arN (i := 7) (j := 7) rfl (by omega) (by omega)]
          rw [x_arS z_new_self, w1, x_gaT w2 (by omega)]
          have hc : w = 0 ∨ w = 1 ∨ w = 2 ∨ w = 3 ∨ w = 4 ∨ w = 5 ∨ w = 6 ∨ w = 7 := by omega
          rcases hc with rfl | rfl | rfl | rfl | rfl | rfl | rfl | rfl <;> rfl
end T93
