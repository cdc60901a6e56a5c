/-! THE COMPONENT's LAW, 54: a deed is done -/
set_option maxRecDepth 100000
set_option maxHeartbeats 400000
set_option linter.unusedVariables false
/-- a run: its deeds done (k2), the next one (k), most entries (w); when the asks of A were asked -/
def h_rn (g : z_G) (C : h_C) (o : Nat → Nat) (μ : z_M) (E : Nat → List Nat) (B : Nat) (G : s_G) (r ak k2 k w : Nat) (A : Nat → Bool) : Prop :=
  h_go g C o μ E B G ∧ (o r = 879 ∧ μ.1 r = some (h_rc C ak k2 k w)) ∧ ∃ fa, (o ak = 879 ∧ μ.1 ak = some (h_ia 61 fa)) ∧ ∀ j, j < 60 → A j = true → fa j = g_came G 59 j
/-- what a deed costs -/
def k_does (N : s_R) (lk : Nat → Option Nat) (d : s_Dd) (G : s_G) : Nat := 9 + if d.1 = 2 then k_goMany N lk (v_ d.2.1) G else 469
section T93
variable {g : z_G} {C : h_C} {N : s_R} {lk : Nat → Option Nat} {o o1 : Nat → Nat} {μ μ1 : z_M} {E : Nat → List Nat} {B a b l n q p w i k k2 ak r K t m : Nat} {G G' : s_G} {d : s_Dd} {S : Nat → Prop} {fs : List Value} {W : s_W} {A : Nat → Bool} {y : Int32} {nm : Option Nat}
theorem x_vrR {α : Type} {p : Nat} {kk : Option Nat → Option α} : x_vr (.ref p) kk = kk (some p) := rfl
theorem a59_goMany : ∀ (m : Nat) (G : s_G), g_a59 (s_goMany N lk m G) = g_a59 G := by
  intro m
  induction m with
  | zero => intro G; rfl
  | succ m ih => intro G; rw [s_goMany_succ, ih, a59_goesBy]
/-- an ask, fresh or not -/
theorem h_rn.ask (h : h_rn g C o μ E B G r ak k2 k w A) (hi2 : i ≤ 1) (hi : s_inv (c_N C) k W t t [] 0 0 0 G) (hp0 : s_cc w_0 (c_N C) k [] 0 G) (hk : k < 60) (hMw : k_Mw (c_N C) k ≤ c_Mw C) (hMe : k ≤ c_Me C) (hn : n < n_nodes (c_N C)) (hx : d.2.1 = nI n) (hnm : s_wn d.2.2) (hq : h_nm o μ q (v_ d.2.2)) (ho : o p = 0) (hp : μ.1 p = some (.inr (10, [.ref (z_ad g (5 + i)), .int d.2.1, .int y, va_rf (some q)]))) (hA : A k = false) (h57 : g_came G 57 k = -1) :
    ∃ o1 μ1 E', (∀ J : z_M → Option z_M, (x_gr μ r 11 1 fun o41 => x_gi μ r 11 3 fun x45 => x_gr μ r 11 0 fun o49 => x_o o49 fun p53 => x_gi μ p53 12 5 fun x54 => x_o o41 fun p58 => x_ar μ p58 0 fun n59 f60 => x_ga x45 n59 fun j62 => x_l (x_ia μ p58 0 n59 j62 f60 x54) fun μ65 =>
        x_gr μ65 r 11 0 fun o66 => x_gi μ65 p 10 1 fun x70 => x_gr μ65 p 10 3 fun o74 => x_gr μ65 p 10 0 fun o78 => x_b (x_st g "AskedNames$Doing" "FRESH" "LAskedNames$Doing;") fun u82 => x_vr u82 fun o83 =>
        x_l (fun (s85 : Option Nat) (s86 : Int32) (s87 : Int32) (s88 : Option Nat) (s89 : Int32) => x_gi μ65 r 11 3 fun x90 => x_o s85 fun p94 => x_ob μ65 p94 12 fun _ => x_b (D_X12_asks g p94 s86 s87 s88 s89 x90 μ65) fun μ98 => J μ98) fun J76 =>
        if o78 = o83 then (J76 o66 x70 (-1 : Int32) o74 (1 : Int32)) else J76 o66 x70 (-1 : Int32) o74 (0 : Int32)) = J μ1) ∧
      h_rn g C o1 μ1 E' (B + 469) (s_ask (c_N C) (c_lk C) n k d.2.2 (nI i) G) r ak k2 k w (s_up1 A k true) ∧ h_fr g (fun a => 879 ≤ o a) o μ o1 μ1 := by
  obtain ⟨h1, ⟨r0, rc⟩, fa, ⟨a0, ac⟩, hfa⟩ := h
  have h6 : n_nodes (c_N C) ≤ 6 := h1.hN.1.1.2
  have hwf := h1.wf
  have hok := h1.ok
  have hra : r ≠ ak := fun e => by rw [e, ac] at rc; cases rc
  have F1 : h_fr g (fun a => a = ak) o μ o (z_set μ ak (h_ia 61 (h_up fa k (g_minute G)))) := h_fr.setA hwf ac
  have h2 := (h1.fr (b := 0) F1 (fun a q => by subst q; omega) (by rw [h_u_set]; omega)).asked h57
  have rc2 := F1.cell hwf rc hra
  have pc2 := F1.cell hwf hp (fun e => by rw [e] at ho; omega)
  have ac2 : (z_set μ ak (h_ia 61 (h_up fa k (g_minute G)))).1 ak = some (h_ia 61 (h_up fa k (g_minute G))) := z_set_self
  have hq2 := hq.fr F1 hwf (fun a ha e => by rw [e] at ha; omega)
  have lr := hwf.lt rc
  have la := hwf.lt ac
  have hgo : ∀ j, j ≠ k → g_came (s_asked k G) 59 j = g_came G 59 j := fun j hj => by
    show (if j = k ∧ 59 = 57 then _ else if j = k ∧ 59 = 59 then _ else _) = _
    rw [if_neg (fun q => hj q.1), if_neg (fun q => hj q.1)]
  have hgk : g_came (s_asked k G) 59 k = g_minute G := by
    show (if k = k ∧ 59 = 57 then _ else if k = k ∧ 59 = 59 then _ else _) = _
    rw [if_neg (by omega), if_pos ⟨rfl, rfl⟩]
  generalize hM : z_set μ ak (h_ia 61 (h_up fa k (g_minute G))) = M at F1 h2 rc2 pc2 ac2 hq2
  have hwish : nI i = 0 ∨ nI i = 1 := by
    have hc : i = 0 ∨ i = 1 := by omega
    rcases hc with rfl | rfl
    · exact Or.inl rfl
    · exact Or.inr rfl
  obtain ⟨o3, μ3, E3, e3, h3, F3⟩ := h2.askI (hi.congr rfl rfl rfl) (hp0.congr rfl rfl) hk hMw hMe hn hnm hq2 hwish
  refine ⟨o3, μ3, E3, fun J => ?_, ⟨h3, ⟨(F3.2.1 r (Nat.lt_of_lt_of_le lr F1.1)).trans r0, F3.cell F1.wf rc2 (by omega)⟩, _, ⟨(F3.2.1 ak (Nat.lt_of_lt_of_le la F1.1)).trans a0, F3.cell F1.wf ac2 (by omega)⟩, fun j hj hAj => ?_⟩, F1.trans F3 (fun a ha q => by
    rcases q with q | q
    · rw [q, a0]; omega
    · omega)⟩
  · have hfr : x_st g "AskedNames$Doing" "FRESH" "LAskedNames$Doing;" = some (.ref (z_ad g (5 + 1))) := x_stS (h_doing hok (i := 1) (by omega)).2.2
    rw [x_grR rc rfl, x_giS rc rfl, x_grR rc rfl, x_oS, x_giS h1.ca rfl, x_oS, x_arS ac, x_gaT (by omega) (by omega), x_lS]
    show (x_gr (z_set μ ak (h_ia 61 (h_up fa k (g_minute G)))) r 11 0 fun o66 => x_gi (z_set μ ak (h_ia 61 (h_up fa k (g_minute G)))) p 10 1 fun x70 => x_gr (z_set μ ak (h_ia 61 (h_up fa k (g_minute G)))) p 10 3 fun o74 => x_gr (z_set μ ak (h_ia 61 (h_up fa k (g_minute G)))) p 10 0 fun o78 => x_b (x_st g "AskedNames$Doing" "FRESH" "LAskedNames$Doing;") fun u82 => x_vr u82 fun o83 =>
        x_l (fun (s85 : Option Nat) (s86 : Int32) (s87 : Int32) (s88 : Option Nat) (s89 : Int32) => x_gi (z_set μ ak (h_ia 61 (h_up fa k (g_minute G)))) r 11 3 fun x90 => x_o s85 fun p94 => x_ob (z_set μ ak (h_ia 61 (h_up fa k (g_minute G)))) p94 12 fun _ => x_b (D_X12_asks g p94 s86 s87 s88 s89 x90 (z_set μ ak (h_ia 61 (h_up fa k (g_minute G))))) fun μ98 => J μ98) fun J76 =>
        if o78 = o83 then (J76 o66 x70 (-1 : Int32) o74 (1 : Int32)) else J76 o66 x70 (-1 : Int32) o74 (0 : Int32)) = _
    rw [hM, x_grR rc2 rfl, x_giS pc2 rfl, x_grS (o := some q) pc2 rfl, x_grR pc2 rfl, hfr, x_bS, x_vrR, x_lS]
    have hc : i = 0 ∨ i = 1 := by omega
    rcases hc with rfl | rfl
    · rw [if_neg (show ¬ some (z_ad g (5 + 0)) = some (z_ad g (5 + 1)) from fun e => absurd (h_doing_inj hok (by omega) (by omega) (Option.some.inj e)) (by omega))]
      show (x_gi M r 11 3 fun x90 => x_o (some (c_a C)) fun p94 => x_ob M p94 12 fun _ => x_b (D_X12_asks g p94 d.2.1 (-1) (some q) (nI 0) x90 M) fun μ98 => J μ98) = _
      rw [x_giS rc2 rfl, x_oS, h2.ob, hx, e3, x_bS]
    · rw [if_pos rfl]
      show (x_gi M r 11 3 fun x90 => x_o (some (c_a C)) fun p94 => x_ob M p94 12 fun _ => x_b (D_X12_asks g p94 d.2.1 (-1) (some q) (nI 1) x90 M) fun μ98 => J μ98) = _
      rw [x_giS rc2 rfl, x_oS, h2.ob, hx, e3, x_bS]
  · have e9 : g_came (s_ask (c_N C) (c_lk C) n k d.2.2 (nI i) G) 59 j = g_came (s_asked k G) 59 j := congrFun (a59_interest (N := c_N C) (lk := c_lk C) (G := s_asked k G) (n := n) (t := 100 + k) (name := d.2.2) (wish := nI i) (nonce := nI k)) j
    rw [e9]
    by_cases e : j = k
    · subst e
      rw [hgk]
      exact if_pos rfl
    · rw [hgo j e]
      have e8 : s_up1 A k true j = A j := s_up1_n e
      rw [e8] at hAj
      exact (if_neg e).trans (hfa j hj hAj)
end T93
