/-! THE COMPONENT's LAW, 44: what is asked of a run holds -/
set_option maxRecDepth 100000
set_option linter.unusedVariables false
section T93
variable {g : z_G} {C : h_C} {o o1 : Nat → Nat} {μ μ1 : z_M} {E : Nat → List Nat} {B b p n q k w a0 t x c i j d K tm P : Nat} {G G' : s_G} {W : s_W} {Q : List s_M} {name wish : Int32}
theorem s_inv.cp {z y : Int} (h : s_inv (c_N C) K W t tm Q P 0 0 G) (hN : n_ok (c_N C)) (hp : s_cc w_0 (c_N C) K Q 0 G) (hK : K ≤ 60) (hMw : k_Mw (c_N C) K ≤ c_Mw C) (hMe : K ≤ c_Me C) (hn : n < n_nodes (c_N C)) :
    ((g_ds G n).map (fun d => d.1)).Nodup ∧ (g_ds G n).length ≤ n_room (c_N C) n ∧ (g_ways G).length + 6 * (g_es G n).length + 6 ≤ c_Mw C ∧ (g_es G n).length ≤ c_Me C := by
  have h6 : n_nodes (c_N C) ≤ 6 := hN.1.1.2
  obtain ⟨f1, f2⟩ := h.few hK
  have e1 := f1 n (by omega)
  have f3 := hp.few h (by omega)
  unfold k_Mw at hMw
  obtain ⟨-, -, d1, d2, -⟩ := h.1.2.1 n (by omega)
  exact ⟨d1, d2, by omega, by omega⟩
theorem h_cpAll_of (hN : n_ok (c_N C)) (hlk : s_lkok (c_N C) (c_lk C)) (hK : K ≤ 60) (hMw : k_Mw (c_N C) K ≤ c_Mw C) (hMe : K ≤ c_Me C) : ∀ (Q : List s_M) (G : s_G), s_inv (c_N C) K W t tm Q P 0 0 G → s_cc w_0 (c_N C) K Q 0 G → (∀ m ∈ Q, m_due m = nI tm) → h_cpAll C Q G := by
  intro Q
  induction Q with
  | nil => intro G _ _ _; exact trivial
  | cons m Q ih =>
    intro G h hp hd
    have hm := h.1.2.2.1 m (List.mem_cons_self ..)
    refine ⟨⟨fun n hn => h.cp (z := 0) (y := 0) hN hp hK hMw hMe hn, ?_, fun _ => hm.2.2.2.2⟩, ih _ (h.comes hN hlk (by omega)) (hp.comes0 h hN hlk (by omega)) (fun m' hm' => hd m' (List.mem_cons_of_mem _ hm'))⟩
    rw [h.1.1.1]
    exact hd m (List.mem_cons_self ..)
/-- a minute, from what holds of a run -/
theorem h_go.minuteI (h : h_go g C o μ E B G) (hi : s_inv (c_N C) K W t t [] 0 0 0 G) (hp : s_cc w_0 (c_N C) K [] 0 G) (ht : t + 1 ≤ 99) (hK : K ≤ 60) (hMw : k_Mw (c_N C) K ≤ c_Mw C) (hMe : K ≤ c_Me C) :
    ∃ o1 μ1 E', D_X12_minute g (c_a C) μ = some μ1 ∧ h_go g C o1 μ1 E' (B + k_goesBy (c_N C) (c_lk C) G) (s_goesBy (c_N C) (c_lk C) G) ∧ h_fr g (fun a => 890 ≤ o a) o μ o1 μ1 := by
  have h6 : n_nodes (c_N C) ≤ 6 := h.hN.1.1.2
  obtain ⟨b1, b2, b3⟩ := hi.begins ht (by omega) h.hN
  refine h.minute (tm := t) hi.1.1.1 ht (fun k hk e he => ?_) ?_
  · obtain ⟨-, ⟨x, x1, x2, x3⟩, ⟨out, o1, o2, -⟩, -⟩ := (hi.1.2.1 k (by omega)).1 e he
    exact ⟨⟨x, by omega, x3, x1⟩, out, o1, o2⟩
  · show h_cpAll C (s_nowl (g_minute (s_endsAll (c_N C) (g_sminute G (g_minute G + 1)))) (g_ways (s_endsAll (c_N C) (g_sminute G (g_minute G + 1))))) (g_sways (s_endsAll (c_N C) (g_sminute G (g_minute G + 1))) (s_restl (g_minute (s_endsAll (c_N C) (g_sminute G (g_minute G + 1)))) (g_ways (s_endsAll (c_N C) (g_sminute G (g_minute G + 1))))))
    rw [b2, b3]
    refine h_cpAll_of h.hN h.hlk hK hMw hMe _ _ b1 (hp.begins0 hi ht (by omega) h.hN) (fun m hm => ?_)
    unfold s_nowl at hm
    exact of_decide_eq_true (List.mem_filter.mp hm).2
/-- many minutes -/
def k_goMany (N : s_R) (lk : Nat → Option Nat) : Nat → s_G → Nat
  | 0, _ => 0
  | m + 1, G => k_goesBy N lk G + k_goMany N lk m (s_goesBy N lk G)
theorem s_goMany_succ {N : s_R} {lk : Nat → Option Nat} {m : Nat} : s_goMany N lk (m + 1) G = s_goMany N lk m (s_goesBy N lk G) := by
  unfold s_goMany
  show s_fold (fun _ G => s_goesBy N lk G) (0 + 1) m (s_goesBy N lk G) = _
  have H : ∀ m k k' (G : s_G), s_fold (fun _ G => s_goesBy N lk G) k m G = s_fold (fun _ G => s_goesBy N lk G) k' m G := by
    intro m
    induction m with
    | zero => intro k k' G; rfl
    | succ m ih => intro k k' G; exact ih (k + 1) (k' + 1) _
  exact H m _ _ _
/-- an ask, from what holds of a run -/
theorem h_go.askI (h : h_go g C o μ E B G) (hi : s_inv (c_N C) k W t t [] 0 0 0 G) (hp : s_cc w_0 (c_N C) k [] 0 G) (hk : k < 60) (hMw : k_Mw (c_N C) k ≤ c_Mw C) (hMe : k ≤ c_Me C) (hn : n < n_nodes (c_N C)) (hnm : s_wn name) (hq : h_nm o μ w (v_ name)) (hwish : wish = 0 ∨ wish = 1) :
    ∃ o1 μ1 E', D_X12_asks g (c_a C) (nI n) (-1) (some w) wish (nI k) μ = some μ1 ∧ h_go g C o1 μ1 E' (B + 469) (s_interest (c_N C) (c_lk C) n (100 + k) name wish (nI k) G) ∧ h_fr g (fun a => 1000 ≤ o a) o μ o1 μ1 := by
  have h6 : n_nodes (c_N C) ≤ 6 := h.hN.1.1.2
  obtain ⟨d1, d2, d3, d4⟩ := hi.cp (z := 0) (y := 0) h.hN hp (by omega) hMw hMe hn
  obtain ⟨o1, μ1, E', e1, h1, f1⟩ := h.asks (n := n) (t := 100 + k) (nonce := nI k) (wish := wish) ⟨hn, Or.inr ⟨by omega, by omega, by rw [Nat.add_sub_cancel_left]⟩, d1, d2, by omega, d4, fun _ e he j hj hb => by
    have := ((hi.1.2.1 n (by omega)).1 e he).2.2.2.2.1 j hj hb
    omega⟩ hnm hq hwish
  have eft : s_ft (100 + k) = -1 := by unfold s_ft; rw [if_neg (by omega)]
  have etc : s_tc (100 + k) = 400 := by unfold s_tc; rw [if_neg (by omega)]
  rw [eft] at e1
  rw [etc] at h1
  exact ⟨o1, μ1, E', e1, h1, f1⟩
end T93
