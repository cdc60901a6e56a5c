/-! THE COMPONENT's LAW, 59: behind a run -/
set_option maxRecDepth 100000
set_option maxHeartbeats 400000
set_option linter.unusedVariables false
theorem c_common : ∀ (f p q : Nat), p < 2 ^ 31 → q < 2 ^ 31 → q < f → D_X0_common_f f (nI p) (nI q) = some (nI (Nat.gcd p q)) := by
  intro f
  induction f with
  | zero => intro p q _ _ h; omega
  | succ f ih =>
    intro p q hp hq hf
    show (if nI q = 0 then _ else _) = _
    by_cases c : q = 0
    · subst c
      rw [if_pos nI_0, Nat.gcd_zero_right]
    · have hm := Nat.mod_lt p (Nat.pos_of_ne_zero c)
      rw [if_neg (nI_ne0 (Nat.pos_of_ne_zero c) hq), nI_mod hp hq, ih q (p % q) hq (by omega) (by omega)]
      rw [Nat.gcd_comm p q, Nat.gcd_rec q p, Nat.gcd_comm]
/-- one step more -/
theorem c_step {f p q : Nat} (hp : p < 2 ^ 31) (hq : q < 2 ^ 31) (h0 : 0 < q) (h : D_X0_common_f f (nI q) (nI (p % q)) = some (nI (Nat.gcd q (p % q)))) : D_X0_common_f (f + 1) (nI p) (nI q) = some (nI (Nat.gcd p q)) := by
  show (if nI q = 0 then _ else D_X0_common_f f (nI q) (nI p - nI p / nI q * nI q)) = _
  rw [if_neg (nI_ne0 h0 hq), nI_mod hp hq, h]
  rw [Nat.gcd_comm p q, Nat.gcd_rec q p, Nat.gcd_comm]
theorem x_common {p q : Nat} (hp : p < 2 ^ 31) (hq : q ≤ 40) : D_X0_common (nI p) (nI q) = some (nI (Nat.gcd p q)) := by
  unfold D_X0_common
  by_cases c : q = 40
  · subst c
    have hm := Nat.mod_lt p (show 0 < 40 by omega)
    refine c_step hp (by omega) (by omega) ?_
    by_cases d : p % 40 = 39
    · rw [d]
      exact c_step (by omega) (by omega) (by omega) (c_common 38 39 (40 % 39) (by omega) (by omega) (by omega))
    · exact c_common 39 40 (p % 40) (by omega) (by omega) (by omega)
  · exact c_common 40 p q hp (by omega) (by omega)
section T93
variable {g : z_G} {C : h_C} {N : s_R} {lk : Nat → Option Nat} {o o1 : Nat → Nat} {μ μ1 : z_M} {E : Nat → List Nat} {B a b l n q p w i k k2 ak r K t m tm : Nat} {G G' : s_G} {A : Nat → Bool}
theorem h_rn.after {wh : Nat} (h : h_rn g C o μ E B G r ak k2 k w A) (hc : s_cinv A tm G) (htm : tm ≤ 99) (hk : k ≤ 40) (hA : ∀ j, k ≤ j → A j = false) (hwh : wh < 9) :
    ∃ o1 μ1, D_X11_after g r (nI wh) μ = some (q_afterOf w G (nI wh), μ1) ∧ h_rn g C o1 μ1 E (B + 19) G r ak k2 k w A ∧ h_fr g (fun _ => False) o μ o1 μ1 := by
  obtain ⟨h1, ⟨r0, rc⟩, fa, ⟨a0, ac⟩, hfa⟩ := id h
  have hwf := h1.wf
  have hold : ∀ {x : z_C} {b : Nat} {c : z_C}, μ.1 b = some c → (z_new μ 7 x).1 b = some c := fun {x b c} hb => (z_new_ne (hwf.ne hb)).trans hb
  have hrc : ∀ {x : z_C}, (z_new μ 7 x).1 r = some (h_rc C ak k2 k w) := fun {x} => hold rc
  have hca : ∀ {x : z_C}, (z_new μ 7 x).1 (c_a C) = some (h_gc C G) := fun {x} => hold h1.ca
  generalize hf : h_up (h_up (h_up (h_up (h_up (h_up (h_up (fun _ => 0) 0 (g_sent G)) 1 (g_hits G)) 2 (g_joined G)) 3 (g_loops G)) 4 (g_dropped G)) 5 (g_missed G)) 6 (nI w) = f
  have F1 : h_fr g (fun _ => False) o μ (h_o1 o μ.2.1 870) (z_new μ 7 (h_ia 7 f)) := h_fr.new hwf
  have h2 : h_rn g C (h_o1 o μ.2.1 870) (z_new μ 7 (h_ia 7 f)) E (B + 12) G r ak k2 k w A := ⟨h1.new, ⟨(F1.2.1 r (hwf.lt rc)).trans r0, hold rc⟩, fa, ⟨(F1.2.1 ak (hwf.lt ac)).trans a0, hold ac⟩, hfa⟩
  have hp : (z_new μ 7 (h_ia 7 f)).1 μ.2.1 = some (h_ia 7 f) := z_new_self
  have hob : ∀ {α : Type} {M : Option α}, x_ob (z_new μ 7 (h_ia 7 f)) r 11 (fun _ => M) = M := x_obS hrc
  have hD : D_X11_after g r (nI wh) μ = if (7 : Int32) ≤ nI wh then (x_ob (z_new μ 7 (h_ia 7 f)) r 11 fun _ =>
      x_b2 (D_X11_got g r (z_new μ 7 (h_ia 7 f))) fun o117 μ118 => x_o o117 fun p119 => x_ar μ118 p119 0 fun n120 f121 => x_ga (1 : Int32) n120 fun j123 => if (f121 j123) = 0 then (some ((-1 : Int32), μ118)) else
      x_ar μ118 p119 0 fun n125 f126 => x_ga (nI wh - (7 : Int32)) n125 fun j128 => x_ar μ118 p119 0 fun n129 f130 => x_ga (0 : Int32) n129 fun j132 => x_ar μ118 p119 0 fun n133 f134 => x_ga (1 : Int32) n133 fun j136 => x_b (D_X0_common (f130 j132) (f134 j136)) fun x138 => x_g (¬ x138 = 0) <| some (((f126 j128) / x138), μ118)) else
      x_ar (z_new μ 7 (h_ia 7 f)) μ.2.1 0 fun n140 f141 => x_ga (nI wh) n140 fun j143 => some ((f141 j143), z_new μ 7 (h_ia 7 f)) := by
    unfold D_X11_after
    rw [x_naL (i := 7) (n := 7) rfl (by omega), x_nwS, x_grR hrc rfl, x_oS, x_giS hca rfl, x_arN (i := 0) (j := 0) rfl (by omega) (by omega)]
    rw [x_grR hrc rfl, x_oS, x_giS hca rfl, x_arN (i := 1) (j := 1) rfl (by omega) (by omega)]
    rw [x_grR hrc rfl, x_oS, x_giS hca rfl, x_arN (i := 2) (j := 2) rfl (by omega) (by omega)]
    rw [x_grR hrc rfl, x_oS, x_giS hca rfl, x_arN (i := 3) (j := 3) rfl (by omega) (by omega)]
    rw [x_grR hrc rfl, x_oS, x_giS hca rfl, x_arN (i := 4) (j := 4) rfl (by omega) (by omega)]
    rw [x_grR hrc rfl, x_oS, x_giS hca rfl, x_arN (i := 5) (j := 5) rfl (by omega) (by omega)]
    rw [x_giS hrc rfl, x_arN (i := 6) (j := 6) rfl (by omega) (by omega), hf]
  by_cases c7 : 7 ≤ wh
  · obtain ⟨o3, μ3, p3, f3, e3, m3, s0, s1, h3, F3⟩ := h2.got hc htm hk hA
    have hS := s_gotS_le hc htm (m := 40) (by omega)
    have hNn : s_gotN G 40 ≤ 40 := s_cntB_le _ _
    refine ⟨o3, μ3, ?_, h3.1.le (by omega) |> fun q => ⟨q, h3.2⟩, F1.trans F3 (fun a _ q => q.elim id id)⟩
    rw [hD, if_pos (show (7 : Int32) ≤ nI wh from nI_le (a := 7) c7 (by omega)), hob, e3, x_b2S, x_oS, x_arS m3, x_gaL (i := 1) (j := 1) (n := 2) rfl (by omega) (by omega), s1]
    have hq : q_afterOf w G (nI wh) = q_mean G (decide (wh = 8)) := by
      have hcs : wh = 7 ∨ wh = 8 := by omega
      rcases hcs with rfl | rfl <;> rfl
    rw [hq]
    unfold q_mean
    by_cases c : s_gotN G 40 = 0
    · rw [if_pos c, if_pos (show nI (s_gotN G 40) = 0 by rw [c, nI_0])]
    · have hgp : 0 < Nat.gcd (s_gotN G 40) (s_gotS G 40) := Nat.gcd_pos_of_pos_left _ (by omega)
      have hgl : Nat.gcd (s_gotN G 40) (s_gotS G 40) ≤ 40 := Nat.le_trans (Nat.gcd_le_left _ (by omega)) hNn
      have e7 : nI wh - (7 : Int32) = nI (wh - 7) := nI_sub (b := 7) c7
      rw [if_neg c, if_neg (show ¬ nI (s_gotN G 40) = 0 from nI_ne0 (by omega) (by omega)), x_arS m3, e7, x_gaT (by omega) (by omega), x_arS m3, x_gaL (i := 0) (j := 0) (n := 2) rfl (by omega) (by omega), x_arS m3, x_gaL (i := 1) (j := 1) (n := 2) rfl (by omega) (by omega), s0, s1, x_common (by omega) hNn, x_bS, Nat.gcd_comm (s_gotS G 40), x_gS (nI_ne0 hgp (by omega))]
      have hcs : wh = 7 ∨ wh = 8 := by omega
      rcases hcs with rfl | rfl
      · show some (f3 0 / _, μ3) = some (nI (s_gotS G 40 / _), μ3)
        rw [s0, nI_div (by omega) (by omega)]
      · show some (f3 1 / _, μ3) = some (nI (s_gotN G 40 / _), μ3)
        rw [s1, nI_div (by omega) (by omega)]
  · refine ⟨_, _, ?_, h2.1.le (by omega) |> fun q => ⟨q, h2.2⟩, F1⟩
    rw [hD, if_neg (show ¬ (7 : Int32) ≤ nI wh from nI_ge (a := wh) (b := 7) (by omega) (by omega)), x_arS hp, x_gaT (by omega) (by omega)]
    have hcs : wh = 0 ∨ wh = 1 ∨ wh = 2 ∨ wh = 3 ∨ wh = 4 ∨ wh = 5 ∨ wh = 6 := by omega
    rcases hcs with rfl | rfl | rfl | rfl | rfl | rfl | rfl <;> rw [← hf] <;> rfl
end T93
