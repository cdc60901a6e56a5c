/-! THE COMPONENT's LAW, 82: the call net -/
set_option maxRecDepth 100000
set_option maxHeartbeats 400000
set_option linter.unusedVariables false
section T93
variable {g : z_G} {o o1 o2 : Nat → Nat} {μ μ1 μ2 : z_M} {a s x tb v i K q d l t it nn kk j w : Nat} {S : Nat → Prop} {N R L : s_R} {p : Nat} {T : s_T} {ls rs ss xs : List Nat} {n r m k c node what : Int32}
theorem h_told {A C W : Nat → Nat} {B : Nat → Int32} (hL : h_ls g o μ 0 l nn xs) (hr : ∀ k x, xs[k]? = some x → h_rt o μ x (A k) (B k) (C k) (W k)) (hw : h_wf g μ) (hok : z_ok g) (hk : kk < 2 ^ 31) (hx : xs.length < 2 ^ 31) (hj : j < 4) :
    D_X0_told g (some l) (nI kk) (nI j) μ = some (if kk < xs.length then (if j = 0 then nI (A kk) else if j = 1 then nI (W kk) else if j = 2 then B kk else nI (C kk)) else -2) := by
  unfold D_X0_told
  rw [x_oS, hL.obK, hL.size, x_bS]
  by_cases c : kk < xs.length
  · rw [if_pos (nI_lt c hx), if_pos c]
    obtain ⟨x, hx⟩ : ∃ x, xs[kk]? = some x := ⟨_, List.getElem?_eq_getElem c⟩
    have hA : z_isA g μ x "AskedNames$Route" := (hr kk x hx).isA
    obtain ⟨x0, w', hc, hwn⟩ := hr kk x hx
    rw [hL.obK, hL.get hx, x_bS, x_gpI (x_icI hA)]
    have hj4 : j = 0 ∨ j = 1 ∨ j = 2 ∨ j = 3 := by omega
    rcases hj4 with rfl | rfl | rfl | rfl
    · rw [if_pos (show nI 0 = 0 from rfl), x_oS, x_giS hc rfl]
      rfl
    · rw [if_neg (show ¬ nI 1 = 0 by decide), if_pos (show nI 1 = 1 from rfl), x_oS, x_grS (o := some w') hc rfl, hwn.code hw hok, x_bS]
      rfl
    · rw [if_neg (show ¬ nI 2 = 0 by decide), if_neg (show ¬ nI 2 = 1 by decide), if_pos (show nI 2 = 2 from rfl), x_oS, x_giS hc rfl]
      rfl
    · rw [if_neg (show ¬ nI 3 = 0 by decide), if_neg (show ¬ nI 3 = 1 by decide), if_neg (show ¬ nI 3 = 2 by decide), x_oS, x_giS hc rfl]
      rfl
  · rw [if_neg (nI_nlt (by omega) (by omega)), if_neg c]
theorem x_inN {lo hi v : Nat} (h1 : lo < 2 ^ 31) (h2 : hi < 2 ^ 31) (hv : v < 2 ^ 31) : D_X0_isIn (nI v) (nI lo) (nI hi) = some (if lo ≤ v ∧ v ≤ hi then 1 else 0) := by
  rw [x_isIn]
  unfold s_i
  by_cases c : lo ≤ v ∧ v ≤ hi
  · rw [if_pos c, if_pos ⟨nI_le c.1 hv, nI_le c.2 h2⟩]
  · rw [if_neg c, if_neg (fun q => c ⟨(nI_leI h1 hv).mp q.1, (nI_leI hv h2).mp q.2⟩)]
theorem h_iv.net (h : h_iv g o μ a T) : ∃ μ1, D_X0_net g a n what μ = some (q_net T n what, μ1) ∧ h_iv g (h_o9 o μ) μ1 a T ∧ h_u μ1 ≤ h_u μ + 8000 := by
  have hrefl : h_iv g (h_o9 o μ) μ a T := h.next (h_fr.refl h.2.1)
  unfold D_X0_net q_net
  rw [h.2.2.2.ob, h.2.2.2.is0, x_bS]
  cases en : s_row (u_nets T.1) n with
  | none => exact ⟨μ, if_pos rfl, hrefl, by omega⟩
  | some N =>
    have hN := h.nets en
    have h12 := n_routes12 hN
    have h6s : n_serves N ≤ 6 := hN.2.2.2.2.1.2
    have h15 : n_links N ≤ 15 := hN.2.2.1.2
    have h6 : n_nodes N ≤ 6 := hN.1.1.2
    rw [if_neg (show ¬ (1 : Int32) = 0 by decide)]
    by_cases c0 : 0 ≤ what
    · obtain ⟨w1, w2⟩ := v_of c0
      rw [if_pos c0]
      have hwhat : v_ what < 2 ^ 31 := w2
      generalize hvw : v_ what = w at w1 w2 hwhat
      subst w1
      obtain ⟨xn, e4, dd, ls, rs, ss, hnt0⟩ := h.2.2.2.netOf en
      have hold : ∀ {x : z_C} {b : Nat} {c : z_C}, μ.1 b = some c → (z_new μ 5 x).1 b = some c := fun {x b c} hb => (z_new_ne (h.2.1.ne hb)).trans hb
      have FX : ∀ x : z_C, h_fr g (fun _ => False) o μ (h_o1 o μ.2.1 870) (z_new μ 5 x) := fun x => h_fr.new h.2.1
      obtain ⟨p0, rm, ll, rl, sl, nl, nr, ns, fr, fd, c1, ⟨m0, m1, m2⟩, -, ⟨L1, L2, L3⟩, ⟨R1, R2, R3⟩, ⟨S1, S2, S3⟩⟩ := id hnt0
      have hc1 : ∀ x : z_C, (z_new μ 5 x).1 xn = some (.inr (5, [.int (N 0), .int (N 1), .ref rm, .ref dd, .ref ll, .ref rl, .ref sl])) := fun x => hold c1
      obtain ⟨n2, n3, n4⟩ : N 2 = nI (n_links N) ∧ N 3 = nI (n_routes N) ∧ N 4 = nI (n_serves N) := ⟨hN.2.2.1.1, hN.2.2.2.1.1, hN.2.2.2.2.1.1⟩
      have sz : ∀ (x : z_C) (lst nn : Nat) (xs : List Nat), h_ls g o μ 0 lst nn xs → (∀ {α : Type} {M : Option α}, x_ob (z_new μ 5 x) lst 3 (fun _ => M) = M) ∧ D_J2_size g lst (z_new μ 5 x) = some (nI xs.length) := fun x lst nn xs hl => by
        have := hl.fr (FX x) h.2.1 (fun _ _ q => q)
        exact ⟨this.obK, this.size⟩
      generalize hF : h_up (h_up (h_up (h_up (h_up (fun _ => 0) 0 (N 0)) 1 (N 1)) 2 (N 2)) 3 (N 3)) 4 (N 4) = F
      have hiv : h_iv g (h_o9 o μ) (z_new μ 5 (h_ia 5 F)) a T := h.next ((FX _).mono (fun _ _ q => q.elim))
      have hnt := hnt0.fr (FX (h_ia 5 F)) h.2.1 (fun _ _ q => q) (fun q => q)
      have hwf := (FX (h_ia 5 F)).wf
      refine ⟨z_new μ 5 (h_ia 5 F), ?_, hiv, by rw [h_u_new]; omega⟩
      rw [h.2.2.2.ob, e4, x_bS, x_naL (i := 5) (n := 5) rfl (by omega), x_nwS, x_oS, x_giS (hc1 _) rfl, x_arN (i := 0) (j := 0) rfl (by omega) (by omega)]
      rw [x_giS (hc1 _) rfl, x_arN (i := 1) (j := 1) rfl (by omega) (by omega)]
      rw [x_grR (hc1 _) rfl, x_oS, (sz _ _ _ _ L1).1, (sz _ _ _ _ L1).2, x_bS, L2, ← n2, x_arN (i := 2) (j := 2) rfl (by omega) (by omega)]
      rw [x_grR (hc1 _) rfl, x_oS, (sz _ _ _ _ R1).1, (sz _ _ _ _ R1).2, x_bS, R2, ← n3, x_arN (i := 3) (j := 3) rfl (by omega) (by omega)]
      rw [x_grR (hc1 _) rfl, x_oS, (sz _ _ _ _ S1).1, (sz _ _ _ _ S1).2, x_bS, S2, ← n4, x_arN (i := 4) (j := 4) rfl (by omega) (by omega), hF]
      show _ = some ((if 0 ≤ nI w ∧ nI w ≤ 4 then N w else if 10 ≤ nI w ∧ nI w ≤ 15 then (match s_node N (nI w - 10) with
          | none => (-2 : Int32)
          | some i => N (5 + i))
        else if 100 ≤ nI w ∧ nI w ≤ 199 then (match s_node N ((nI w - 100) / 10), s_node N (nI w - nI w / 10 * 10) with
          | some a, some b => (match s_lkOf N a b with
            | none => -1
            | some l => nI (n_ld N l))
          | _, _ => -2)
        else if 200 ≤ nI w ∧ nI w ≤ 279 then (if v_ (nI w - nI w / 20 * 20) < n_routes N then N (56 + 4 * v_ (nI w - nI w / 20 * 20) + v_ ((nI w - 200) / 20)) else -2)
        else if 300 ≤ nI w ∧ nI w ≤ 359 then (if v_ (nI w - nI w / 20 * 20) < n_serves N then N (104 + 3 * v_ (nI w - nI w / 20 * 20) + v_ ((nI w - 300) / 20)) else -2)
        else -2), _)
      have cmp : ∀ lo hi : Nat, lo < 2 ^ 31 → hi < 2 ^ 31 → (nI lo ≤ nI w ∧ nI w ≤ nI hi ↔ lo ≤ w ∧ w ≤ hi) := fun lo hi h1 h2 => by rw [nI_leI h1 w2, nI_leI w2 h2]
      have q1 : (0 ≤ nI w ∧ nI w ≤ 4) ↔ (0 ≤ w ∧ w ≤ 4) := cmp 0 4 (by omega) (by omega)
      have q2 : (10 ≤ nI w ∧ nI w ≤ 15) ↔ (10 ≤ w ∧ w ≤ 15) := cmp 10 15 (by omega) (by omega)
      have q3 : (100 ≤ nI w ∧ nI w ≤ 199) ↔ (100 ≤ w ∧ w ≤ 199) := cmp 100 199 (by omega) (by omega)
      have q4 : (200 ≤ nI w ∧ nI w ≤ 279) ↔ (200 ≤ w ∧ w ≤ 279) := cmp 200 279 (by omega) (by omega)
      have q5 : (300 ≤ nI w ∧ nI w ≤ 359) ↔ (300 ≤ w ∧ w ≤ 359) := cmp 300 359 (by omega) (by omega)
      simp only [q1, q2, q3, q4, q5]
      by_cases k5 : 5 ≤ w
      · rw [if_pos (show (5 : Int32) ≤ nI w from nI_le (a := 5) k5 w2), if_neg (show ¬ (0 ≤ w ∧ w ≤ 4) by omega)]
        have i1 : D_X0_isIn (nI w) (10 : Int32) (19 : Int32) = some (if 10 ≤ w ∧ w ≤ 19 then 1 else 0) := x_inN (lo := 10) (hi := 19) (by omega) (by omega) w2
        have i2 : D_X0_isIn (nI w) (200 : Int32) (279 : Int32) = some (if 200 ≤ w ∧ w ≤ 279 then 1 else 0) := x_inN (lo := 200) (hi := 279) (by omega) (by omega) w2
        have i3 : D_X0_isIn (nI w) (300 : Int32) (359 : Int32) = some (if 300 ≤ w ∧ w ≤ 359 then 1 else 0) := x_inN (lo := 300) (hi := 359) (by omega) (by omega) w2
        have i4 : D_X0_isIn (nI w) (100 : Int32) (199 : Int32) = some (if 100 ≤ w ∧ w ≤ 199 then 1 else 0) := x_inN (lo := 100) (hi := 199) (by omega) (by omega) w2
        have m20 : nI w - nI w / (20 : Int32) * (20 : Int32) = nI (w % 20) := nI_mod (k := 20) w2 (by omega)
        have m10 : nI w - nI w / (10 : Int32) * (10 : Int32) = nI (w % 10) := nI_mod (k := 10) w2 (by omega)
        have d10 : nI w / (10 : Int32) = nI (w / 10) := nI_div (b := 10) w2 (by omega)
        rw [i1, x_bS]
        by_cases k10 : 10 ≤ w ∧ w ≤ 19
        · have s10 : nI w - (10 : Int32) = nI (w - 10) := nI_sub (b := 10) k10.1
          rw [if_pos k10, if_neg (by decide), hnt.ob, s10, hnt.isNode hN, x_bS]
          by_cases kn : w - 10 < n_nodes N
          · have esn : s_node N (nI (w - 10)) = some (w - 10) := s_node_nI hN kn
            rw [esn, if_neg (show ¬ (if (some (w - 10)).isSome = true then (1 : Int32) else 0) = 0 from fun q => absurd (show (1 : Int32) = 0 from q) (by decide)), x_grR (hc1 _) rfl, x_oS, x_arS (hold m1), x_gaT (by omega) (by omega), m2 _ (by omega), if_pos (show 10 ≤ w ∧ w ≤ 15 by omega)]
          · have esn : s_node N (nI (w - 10)) = none := by
              cases e : s_node N (nI (w - 10)) with
              | none => rfl
              | some b =>
                obtain ⟨b1, b2, b3⟩ := s_node_lt hN e
                have := (nI_eq (by omega) (by omega)).mp b3
                omega
            rw [esn, if_pos (show (if (none : Option Nat).isSome = true then (1 : Int32) else 0) = 0 from rfl)]
            by_cases k15 : 10 ≤ w ∧ w ≤ 15
            · rw [if_pos k15]
            · rw [if_neg k15, if_neg (by omega), if_neg (by omega), if_neg (by omega)]
        · rw [if_neg k10, if_pos rfl, i2, x_bS, if_neg (show ¬ (10 ≤ w ∧ w ≤ 15) by omega)]
          by_cases k2 : 200 ≤ w ∧ w ≤ 279
          · have s2 : (nI w - (200 : Int32)) / (20 : Int32) = nI ((w - 200) / 20) := by
              rw [show nI w - (200 : Int32) = nI (w - 200) from nI_sub (b := 200) k2.1]
              exact nI_div (b := 20) (by omega) (by omega)
            rw [if_pos k2, if_neg (by decide), x_grR (hc1 _) rfl, m20, s2, h_told (A := n_rn N) (B := fun k => nI (n_rt N k)) (C := n_rc N) (W := n_rw N) (R1.fr (FX _) h.2.1 (fun _ _ q => q)) (fun k x hx => (R3 k x hx).fr (FX _) h.2.1 (fun _ _ q => q)) hwf h.1 (by omega) (by omega) (by omega), x_bS, R2, if_neg (show ¬ (100 ≤ w ∧ w ≤ 199) by omega), if_pos k2, v_nI (by omega), v_nI (by omega)]
            by_cases kr : w % 20 < n_routes N
            · rw [if_pos kr, if_pos kr]
              obtain ⟨-, r1, r2, r3, r4, -⟩ := n_rt_b hN kr
              have hc : (w - 200) / 20 = 0 ∨ (w - 200) / 20 = 1 ∨ (w - 200) / 20 = 2 ∨ (w - 200) / 20 = 3 := by omega
              rcases hc with e | e | e | e
              · rw [e, if_pos rfl, Nat.add_zero, r1]
              · rw [e, if_neg (by omega), if_pos rfl, r2]
              · rw [e, if_neg (by omega), if_neg (by omega), if_pos rfl, r3]
              · rw [e, if_neg (by omega), if_neg (by omega), if_neg (by omega), r4]
            · rw [if_neg kr, if_neg kr]
          · rw [if_neg k2, if_pos rfl, i3, x_bS]
            by_cases k3 : 300 ≤ w ∧ w ≤ 359
            · have s3 : (nI w - (300 : Int32)) / (20 : Int32) = nI ((w - 300) / 20) := by
                rw [show nI w - (300 : Int32) = nI (w - 300) from nI_sub (b := 300) k3.1]
                exact nI_div (b := 20) (by omega) (by omega)
              rw [if_pos k3, if_neg (by decide), x_grR (hc1 _) rfl, m20, s3, if_neg (show ¬ (100 ≤ w ∧ w ≤ 199) by omega), if_neg k2, if_pos k3, v_nI (by omega), v_nI (by omega)]
              have tld : ∀ j, j < 4 → D_X0_told g (some sl) (nI (w % 20)) (nI j) (z_new μ 5 (h_ia 5 F)) = some (if w % 20 < ss.length then (if j = 0 then nI (n_sn N (w % 20)) else if j = 1 then nI (n_sw N (w % 20)) else if j = 2 then -1 else nI (n_sc N (w % 20))) else -2) := fun j hj =>
                h_told (A := n_sn N) (B := fun _ => -1) (C := n_sc N) (W := n_sw N) (S1.fr (FX _) h.2.1 (fun _ _ q => q)) (fun k x hx => (S3 k x hx).fr (FX _) h.2.1 (fun _ _ q => q)) hwf h.1 (by omega) (by omega) hj
              by_cases k34 : w < 340
              · rw [if_pos (show nI w < (340 : Int32) from nI_lt (b := 340) k34 (by omega)), tld _ (by omega), x_bS, S2]
                by_cases kr : w % 20 < n_serves N
                · rw [if_pos kr, if_pos kr]
                  obtain ⟨-, r1, r2, r3, -⟩ := n_sv_b hN kr
                  have hc : (w - 300) / 20 = 0 ∨ (w - 300) / 20 = 1 := by omega
                  rcases hc with e | e
                  · rw [e, if_pos rfl, Nat.add_zero, r1]
                  · rw [e, if_neg (by omega), if_pos rfl, r2]
                · rw [if_neg kr, if_neg kr]
              · have t3 := tld 3 (by omega)
                rw [if_neg (show ¬ nI w < (340 : Int32) from nI_nlt (a := w) (b := 340) (by omega) w2)]
                have t3' : D_X0_told g (some sl) (nI (w % 20)) (3 : Int32) (z_new μ 5 (h_ia 5 F)) = _ := t3
                rw [t3', x_bS, S2]
                by_cases kr : w % 20 < n_serves N
                · rw [if_pos kr, if_pos kr]
                  obtain ⟨-, r1, r2, r3, -⟩ := n_sv_b hN kr
                  have e : (w - 300) / 20 = 2 := by omega
                  rw [e, if_neg (by omega), if_neg (by omega), if_neg (by omega), r3]
                · rw [if_neg kr, if_neg kr]
            · rw [if_neg k3, if_pos rfl, x_lS, x_lS, i4, x_bS, if_neg k2, if_neg k3]
              by_cases k1 : 100 ≤ w ∧ w ≤ 199
              · have s1 : nI (w / 10) - (10 : Int32) = nI ((w - 100) / 10) := by
                  rw [show nI (w / 10) - (10 : Int32) = nI (w / 10 - 10) from nI_sub (b := 10) (by omega)]
                  congr 1
                  omega
                have s1' : (nI w - (100 : Int32)) / (10 : Int32) = nI ((w - 100) / 10) := by
                  rw [show nI w - (100 : Int32) = nI (w - 100) from nI_sub (b := 100) k1.1]
                  exact nI_div (b := 10) (by omega) (by omega)
                rw [if_pos k1, if_neg (by decide), if_pos k1, m10, d10, s1, s1', hnt.ob, hnt.isNode hN, x_bS]
                cases ea : s_node N (nI ((w - 100) / 10)) with
                | none => exact if_pos rfl
                | some x =>
                  obtain ⟨x1, x2, x3⟩ := s_node_lt hN ea
                  rw [if_neg (show ¬ (if (some x).isSome = true then (1 : Int32) else 0) = 0 from fun q => absurd (show (1 : Int32) = 0 from q) (by decide)), hnt.ob, hnt.isNode hN, x_bS]
                  cases eb : s_node N (nI (w % 10)) with
                  | none => exact if_pos rfl
                  | some y =>
                    obtain ⟨y1, y2, y3⟩ := s_node_lt hN eb
                    rw [if_neg (show ¬ (if (some y).isSome = true then (1 : Int32) else 0) = 0 from fun q => absurd (show (1 : Int32) = 0 from q) (by decide)), hnt.ob, hnt.isLink hN (s_lk0_ok hN), x_bS, ea, eb]
                    show (if (if (s_lk0 N none (6 * x + y)).isSome = true then (1 : Int32) else 0) = 0 then _ else _) = some ((match s_lk0 N none (6 * x + y) with | none => (-1 : Int32) | some l => nI (n_ld N l)), _)
                    cases e : s_lk0 N none (6 * x + y) with
                    | none => exact if_pos rfl
                    | some lk =>
                      rw [if_neg (show ¬ (if (some lk).isSome = true then (1 : Int32) else 0) = 0 from fun q => absurd (show (1 : Int32) = 0 from q) (by decide)), hnt.ob, x3, y3, hnt.delay x1 y1, x_bS]
                      unfold s_dly
                      rw [e]
              · rw [if_neg k1, if_pos rfl, if_neg k1]
      · rw [if_neg (show ¬ (5 : Int32) ≤ nI w from nI_ge (b := 5) (by omega) (by omega)), if_pos (show 0 ≤ w ∧ w ≤ 4 by omega), x_arS z_new_self, x_gaT (by omega) (by omega), ← hF]
        have hc : w = 0 ∨ w = 1 ∨ w = 2 ∨ w = 3 ∨ w = 4 := by omega
        rcases hc with rfl | rfl | rfl | rfl | rfl <;> rfl
    · rw [if_neg c0]
      refine ⟨μ, ?_, hrefl, by omega⟩
      have ne : ∀ lo : Int32, 0 ≤ lo → ¬ lo ≤ what := fun lo h1 h2 => c0 (Int32.le_trans h1 h2)
      show _ = some ((if 0 ≤ what ∧ what ≤ 4 then _ else _), μ)
      rw [if_neg (fun q => c0 q.1), if_neg (fun q => ne 10 (by decide) q.1), if_neg (fun q => ne 100 (by decide) q.1), if_neg (fun q => ne 200 (by decide) q.1), if_neg (fun q => ne 300 (by decide) q.1)]
end T93
