/-! THE COMPONENT's LAW, 25: an interest is taken -/
set_option maxRecDepth 100000
set_option linter.unusedVariables false
/-- a loop: what is thrown -/
noncomputable def h_J58 (g : z_G) (a0 : Nat) (a1 : Int32) (μ : z_M) : Option ((Unit ⊕ Nat) × z_M) :=
  x_gi μ a0 12 9 fun x20 =>
  x_pf μ a0 12 9 (.int (x20 + (1 : Int32))) fun μ28 =>
  x_nw μ28 7 (.inr (14, [.null, .null, .null, .null, .null, .int 0, .int 0])) fun p29 μ30 =>
  x_b (D_X14_init g p29 a1 μ30) fun μ32 =>
  x_os μ32 p29 [7, 14, 18] fun _ _ =>
  some (.inr p29, μ32)
/-- a new entry goes on -/
noncomputable def h_J59 (g : z_G) (a0 : Nat) (a1 : Int32) (a2 : Int32) (a3 : Option Nat) (a4 : Int32) (a5 : Int32) (p11 : Nat) (μ46 : z_M) : Option ((Unit ⊕ Nat) × z_M) :=
  x_nw μ46 10 (.inr (17, [.null, .int 0, .int 0, .int 0, .null, .long 0, .int 0, .int 0, .int 0, .int 0])) fun p59 μ60 =>
  x_gi μ60 a0 12 5 fun x61 =>
  x_gr μ60 a0 12 0 fun o65 =>
  x_o o65 fun p69 =>
  x_gi μ60 p69 5 1 fun x70 =>
  x_b (D_X17_init g p59 a3 a4 (x61 + x70) a5 μ60) fun μ75 =>
  x_ob μ75 p59 17 fun _ =>
  x_b (D_X17_takes g p59 a2 a5 μ75) fun μ79 =>
  x_gr μ79 p11 13 1 fun o80 =>
  x_o o80 fun p84 =>
  x_ob μ79 p84 3 fun _ =>
  x_b2 (D_J2_add g p84 (some p59) μ79) fun x88 μ89 =>
  x_ob μ89 a0 12 fun _ =>
  x_b3 (D_X12_on g a0 a1 (some p59) μ89) (fun _ μ93 => some (.inl (), μ93)) fun q94 μ95 =>
  some (.inr q94, μ95)
noncomputable def h_J77 (g : z_G) (a0 : Nat) (a1 : Int32) (a2 : Int32) (a3 : Option Nat) (a4 : Int32) (a5 : Int32) (p11 : Nat) (o15 : Option Nat) (μ : z_M) : Option ((Unit ⊕ Nat) × z_M) :=
  x_gi μ a0 12 5 fun x38 =>
  x_ob μ p11 13 fun _ =>
  x_b2 (D_X13_uses g p11 a3 a4 x38 μ) fun o45 μ46 =>
  x_gr μ46 a0 12 0 fun o47 =>
  x_o o47 fun p51 =>
  x_ob μ46 p51 5 fun _ =>
  x_b (D_X5_server g p51 a1 a3 μ46) fun o55 =>
  x_nu o45 (x_nu o55 (x_nu o15 (h_J59 g a0 a1 a2 a3 a4 a5 p11 μ46) fun p58 =>
  x_gi μ46 a0 12 8 fun x96 =>
  x_pf μ46 a0 12 8 (.int (x96 + (1 : Int32))) fun μ104 =>
  x_ob μ104 p58 17 fun _ =>
  x_b (D_X17_takes g p58 a2 a5 μ104) fun μ108 =>
  some (.inl (), μ108)) fun p57 =>
  x_nw μ46 3 (.inr (16, [.null, .int 0, .int 0])) fun p109 μ110 =>
  x_gi μ110 a0 12 5 fun x111 =>
  x_gi μ110 p57 8 2 fun x115 =>
  x_b (D_X16_init g p109 a3 (x111 + x115) a1 μ110) fun μ120 =>
  x_ob μ120 a0 12 fun _ =>
  x_b (D_X12_gives g a0 a1 a2 a5 (some p109) ((10 : Int32) * a1) μ120) fun μ124 =>
  some (.inl (), μ124)) fun p56 =>
  x_gi μ46 a0 12 7 fun x125 =>
  x_pf μ46 a0 12 7 (.int (x125 + (1 : Int32))) fun μ133 =>
  x_ob μ133 a0 12 fun _ =>
  x_b (D_X12_gives g a0 a1 a2 a5 (some p56) (((10 : Int32) * a1) + (1 : Int32)) μ133) fun μ137 =>
  some (.inl (), μ137)
theorem x_takesJ {g : z_G} {a0 : Nat} {a1 a2 : Int32} {a3 : Option Nat} {a4 a5 : Int32} {μ : z_M} : D_X12_takes g a0 a1 a2 a3 a4 a5 μ = (x_gr μ a0 12 1 fun o1 => x_o o1 fun p5 => x_ob μ p5 3 fun _ => x_b (D_J2_get g p5 a1 μ) fun o9 => x_gp (x_ic g μ o9 "AskedNames$Node") <| x_o o9 fun p11 => x_ob μ p11 13 fun _ => x_b (D_X13_entry g p11 a3 a4 μ) fun o15 => x_gl μ p11 13 3 fun y16 =>
    if (lg_cmp ((y16 >>> ((a5).toInt64 &&& 63)) &&& (1 : Int64)) (1 : Int64)) = 0 then h_J58 g a0 a1 μ else
    x_nu o15 (h_J77 g a0 a1 a2 a3 a4 a5 p11 o15 μ) fun p138 => x_gl μ p138 17 5 fun y139 => if (lg_cmp ((y139 >>> ((a5).toInt64 &&& 63)) &&& (1 : Int64)) (1 : Int64)) = 0 then h_J58 g a0 a1 μ else h_J77 g a0 a1 a2 a3 a4 a5 p11 o15 μ) := rfl
section T93
variable {g : z_G} {C : h_C} {o o1 : Nat → Nat} {μ μ1 : z_M} {E : Nat → List Nat} {B b p n q k w a0 t l x ce room i c j d : Nat} {G G' : s_G} {S : Nat → Prop} {N : s_R} {xs es cs : List Nat} {nd : s_N} {ms : Nat → Int32} {but nonce name wish ends src : Int32} {e : s_E} {fs : List Value} {r : s_Q}
theorem h_go.J58 (h : h_go g C o μ E B G) : ∃ q o1 μ1, h_J58 g (c_a C) (nI n) μ = some (.inr q, μ1) ∧ h_go g C o1 μ1 E (B + 12) (g_sloops G (g_loops G + 1)) ∧ h_why o1 μ1 0 q 2 (nI n) ∧ h_fr g (fun a => o a = 1000) o μ o1 μ1 := by
  obtain ⟨h1, f1⟩ := h.head (G' := g_sloops G (g_loops G + 1)) rfl rfl rfl rfl rfl (h.1.2.2.1.same rfl rfl rfl)
  have f2 := h_fr.new (o := o) (n := 7) (t := 0) (x := .inr (14, [.null, .null, .null, .null, .null, .int 0, .int (nI n)])) f1.wf
  refine ⟨(z_set μ (c_a C) (h_gc C (g_sloops G (g_loops G + 1)))).2.1, h_o1 o (z_set μ (c_a C) (h_gc C (g_sloops G (g_loops G + 1)))).2.1 0, z_new (z_set μ (c_a C) (h_gc C (g_sloops G (g_loops G + 1)))) 7 (.inr (14, [.null, .null, .null, .null, .null, .int 0, .int (nI n)])), ?_, h1.new (t := 0), ⟨if_pos rfl, _, rfl, Or.inr ⟨rfl, z_new_self⟩⟩, f1.trans f2 (fun a _ q => q.elim id False.elim)⟩
  unfold h_J58
  rw [x_giS h.ca rfl, x_pfS h.ca (Nat.le_of_ble_eq_true rfl)]
  show x_nw (z_set μ (c_a C) (h_gc C (g_sloops G (g_loops G + 1)))) 7 _ _ = _
  rw [x_nwS, x_init14 h.ok, x_bS]
  exact x_osS z_new_self (by decide)
/-- the store of a node changes: the run -/
theorem h_go.uses (h : h_go g C o μ E B G) (hqn : (c_ns C)[n]? = some q) (hq : h_nm o μ w (v_ name)) (hnm : s_wn name) (hwish : wish = 0 ∨ wish = 1) (hnod : ((g_ds G n).map (fun d => d.1)).Nodup) (hr : (g_ds G n).length ≤ n_room (c_N C) n) :
    (s_fresh (g_ds G n) (s_at name (g_ds G n)) wish (g_minute G) = none ∧ D_X13_uses g q (some w) wish (g_minute G) μ = some (none, μ)) ∨
    ∃ d p μ1, s_fresh (g_ds G n) (s_at name (g_ds G n)) wish (g_minute G) = some d ∧ d.1 = name ∧ D_X13_uses g q (some w) wish (g_minute G) μ = some (some p, μ1) ∧ h_dt o μ1 p d ∧
      h_go g C o μ1 E B (g_sds G n (s_put (n_room (c_N C) n) (name, d.2.1, d.2.2) (g_ds G n))) ∧ h_fr g (fun a => o a = 1010 + n) o μ o μ1 := by
  obtain ⟨ce, hno, hce, hn6, hnn, reb⟩ := h.node hqn
  rcases hno.uses (mi := g_minute G) hq hnm h.wf h.ok hwish hnod with ⟨a1, a2⟩ | ⟨j, d, p, μ1, a1, a2, a3, a4, a5, a6, a7, a8, a9⟩
  · exact Or.inl ⟨a1, a2⟩
  · refine Or.inr ⟨d, p, μ1, a1, a4, a5, a6, ?_, a8⟩
    have hjl := (List.getElem?_eq_some_iff.mp a3).1
    have a3' : (g_ds G n)[j]? = some d := a3
    have hjl' : j < (g_ds G n).length := hjl
    have ed : (name, d.2.1, d.2.2) = d := by rw [← a4]
    have eput : s_put (n_room (c_N C) n) (name, d.2.1, d.2.2) (g_ds G n) = (g_ds G n).eraseIdx j ++ [d] := by
      unfold s_put s_trim
      rw [ed, s_erase1_at hnod a3' rfl, if_neg]
      rw [List.length_append, List.length_eraseIdx, if_pos hjl']
      show ¬ _ < _ + 1
      omega
    rw [eput]
    have hu : h_u μ1 = h_u μ := by unfold h_u; rw [a9]
    have H := reb _ o μ1 ce (E n) ((g_nd G n).1, (g_nd G n).2.1.eraseIdx j ++ [d], (g_nd G n).2.2) (g_meas G) 0 a8 (fun a ha => Or.inl ha) a7 hce (by omega) (fun _ _ _ _ _ => rfl) (h.1.2.2.1.node (fun e he => h.1.2.2.1.sent hn6 e he))
    have eE : s_up1 E n (E n) = E := funext fun m => by
      by_cases em : m = n
      · rw [em, s_up1_s]
      · rw [s_up1_n em]
    rw [eE] at H
    exact H
theorem x_init16 {a1 : Option Nat} {a2 a3 : Int32} : D_X16_init g μ.2.1 a1 a2 a3 (z_new μ 3 (.inr (16, [.null, .int 0, .int 0]))) = some (z_new μ 3 (.inr (16, [va_rf a1, .int a2, .int a3]))) := by
  unfold D_X16_init
  refine (x_pfN (Nat.le_of_ble_eq_true rfl)).trans ?_
  refine (x_pfN (Nat.le_of_ble_eq_true rfl)).trans ?_
  exact x_pfN (Nat.le_of_ble_eq_true rfl)
theorem h_go.giveT' (h : h_go g C o μ E B G) (hn : n < n_nodes (c_N C)) (ht : s_tgo C t nonce) (hd : h_dt o μ d (name, r.1, r.2.1)) (hs : ∃ m f, m < 6 ∧ f < 2 ∧ src = nI (10 * m + f) ∧ r.2.2.1 = nI m ∧ r.2.2.2 = nI f) (hl : (g_ways G).length ≤ c_Mw C) :
    ∃ o1 μ1, (x_ob μ (c_a C) 12 fun _ => x_b (D_X12_gives g (c_a C) (nI n) (s_ft t) nonce (some d) src μ) fun μ1 => some ((.inl () : Unit ⊕ Nat), μ1)) = some (.inl (), μ1) ∧ h_go g C o1 μ1 E (B + 20) (s_data (c_N C) (c_lk C) n t name r G) ∧ h_fr g (fun a => o a = 1000 ∨ o a = 1001) o μ o1 μ1 := by
  obtain ⟨o1, μ1, e1, h1, f1⟩ := h.giveT hn ht hd hs hl
  exact ⟨o1, μ1, by rw [h.ob, e1, x_bS], h1, f1⟩
end T93
