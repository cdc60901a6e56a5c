/-! THE COMPONENT's LAW, 72: names that are asked for; a net set going -/
set_option maxRecDepth 100000
set_option maxHeartbeats 400000
set_option linter.unusedVariables false
section T93
variable {g : z_G} {o o1 o2 : Nat → Nat} {μ μ1 μ2 : z_M} {a s x tb v i K q : Nat} {S : Nat → Prop} {N R L : s_R} {p : s_P} {T : s_T} {n r m k node ix what c wish : Int32} {cc : Nat → Nat → Int32}
theorem h_o9_o9 (h : μ.2.1 ≤ μ1.2.1) : h_o9 (h_o9 o μ) μ1 = h_o9 o μ := by
  funext b
  unfold h_o9
  by_cases c : b < μ1.2.1
  · rw [if_pos c]
  · rw [if_neg c, if_neg (by omega)]
theorem h_nm.re (h : h_nm o μ q v) (ho : ∀ b, o b = 0 → o1 b = 0) : h_nm o1 μ q v := by
  obtain ⟨h1, h2, b, f, v2, v3, h3, h4, h5⟩ := h
  exact ⟨h1, h2, b, f, v2, v3, ho _ h3, ho _ h4, h5⟩
theorem h_iv.name (h : h_iv g o μ a T) (hc : s_nm c = true) : ∃ p μ1, D_X0_name g c μ = some (some p, μ1) ∧ h_iv g (h_o9 o μ) μ1 a T ∧ h_nm (h_o9 o μ) μ1 p (v_ c) ∧ h_u μ1 ≤ h_u μ + 36 ∧ μ.2.1 ≤ μ1.2.1 := by
  obtain ⟨p, o1, μ1, e1, h1, F, hu⟩ := h_name (o := o) h.1 h.2.1 hc
  refine ⟨p, μ1, e1, h.next (F.mono (fun _ _ q => q.elim)), h1.re (fun b hb => ?_), hu, F.1⟩
  unfold h_o9
  by_cases q : b < μ.2.1
  · rw [if_pos q, ← F.2.1 b q]; exact hb
  · rw [if_neg q]
theorem h_wo.isNode (h : h_wo g o μ a T) (hN : ∀ N, s_row (u_nets T.1) n = some N → n_ok N) : D_X0_isNode g a n node μ = some (match s_row (u_nets T.1) n with
    | none => 0
    | some N => if (s_node N node).isSome = true then 1 else 0) := by
  unfold D_X0_isNode
  rw [h.ob, h.is0, x_bS]
  cases en : s_row (u_nets T.1) n with
  | none => exact if_pos rfl
  | some N =>
    obtain ⟨x, e1, d, ls, rs, ss, h1⟩ := h.netOf en
    rw [if_neg (show ¬ (1 : Int32) = 0 by decide), h.ob, e1, x_bS, x_oS, h1.ob, h1.isNode (hN N en), x_bS]
    show _ = some (if (s_node N node).isSome = true then (1 : Int32) else 0)
    by_cases q : (s_node N node).isSome = true
    · rw [if_pos q]; rfl
    · rw [if_neg q]; rfl
theorem h_iv.isNode (h : h_iv g o μ a T) : D_X0_isNode g a n node μ = some (match s_row (u_nets T.1) n with
    | none => 0
    | some N => if (s_node N node).isSome = true then 1 else 0) := h.2.2.2.isNode (fun N hn => h.nets hn)
/-- a new net that runs, for K asks at most -/
theorem h_iv.newG (cc : Nat → Nat → Int32) (h : h_iv g o μ a T) (hn : s_row (u_nets T.1) n = some N) (hK : K ≤ 60) : ∃ o1 μ1 C, (∀ {α : Type} (kk : Nat → z_M → Option α), (x_nw μ 12 (.inr (12, [.null, .null, .null, .null, .null, .int 0, .int 0, .int 0, .int 0, .int 0, .int 0, .int 0])) fun p11 μ12 => x_ob μ12 a 0 fun _ => x_b (D_X0_netOf g a n μ12) fun o16 => x_b (D_X12_init g p11 o16 μ12) fun μ18 => kk p11 μ18) = kk (c_a C) μ1) ∧
    (c_N C = N ∧ c_lk C = s_lk0 N none ∧ c_Mw C = k_Mw N K ∧ c_Me C = K) ∧ h_go g C o1 μ1 (fun _ => []) (h_u μ + 450) (s_begin cc) ∧ h_fr g (fun _ => False) o μ o1 μ1 := by
  obtain ⟨hok, hw, hT, hwo⟩ := h
  have hN : n_ok N := (show h_iv g o μ a T from ⟨hok, hw, hT, hwo⟩).nets hn
  obtain ⟨xn, ⟨dd, ls, rs, ss, hnt⟩, hnf⟩ := hwo.netOfF hw hn
  have F0 : h_fr g (fun _ => False) o μ (h_o1 o μ.2.1 879) (z_new μ 12 (.inr (12, [.null, .null, .null, .null, .null, .int 0, .int 0, .int 0, .int 0, .int 0, .int 0, .int 0]))) := h_fr.new hw
  have en0 := hnf _ _ _ F0 (fun _ _ q => q)
  have hwo0 := hwo.fr F0 hw (fun _ _ q => q)
  obtain ⟨O1, M1, C, e1, ⟨p1, p2, p3, p4, p5, p6, p7, p8⟩, h1, F1, l1⟩ := h_begin (Mw := k_Mw N K) (Me := K) cc hok hw hN (s_lk0_ok hN) hnt (k_Mw_b hN hK) (by omega) (fun b hb => Nat.lt_trans (hT b hb) (by omega))
  refine ⟨O1, M1, C, fun kk => ?_, ⟨p4, p5, p6, p7⟩, h1, F1⟩
  rw [x_nwS, hwo0.ob, en0, x_bS, e1, x_bS, p1]
end T93
