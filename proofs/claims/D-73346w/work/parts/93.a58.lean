/-! THE COMPONENT's LAW, 58: what a run got -/
set_option maxRecDepth 100000
set_option maxHeartbeats 400000
set_option linter.unusedVariables false
section T93
variable {g : z_G} {C : h_C} {N : s_R} {lk : Nat → Option Nat} {o o1 : Nat → Nat} {μ μ1 : z_M} {E : Nat → List Nat} {B a b l n q p w i k k2 ak r K t m tm : Nat} {G G' : s_G} {A : Nat → Bool}
theorem x_iaN {f : Nat → Int32} {j : Nat} {v : Int32} : x_ia (z_new μ n (h_ia n f)) μ.2.1 0 n j f v = z_new μ n (h_ia n (h_up f j v)) := z_new_set
/-- one more ask is looked at -/
def s_gotP (G : s_G) (j : Nat) (a : Nat × Nat) : Nat × Nat := (if g_came G 57 j = 1 then a.1 + (v_ (g_came G 58 j) - v_ (g_came G 59 j)) else a.1, if g_came G 57 j = 1 then a.2 + 1 else a.2)
theorem s_gotP1 {j : Nat} {a : Nat × Nat} (c : g_came G 57 j = 1) : s_gotP G j a = (a.1 + (v_ (g_came G 58 j) - v_ (g_came G 59 j)), a.2 + 1) := by
  unfold s_gotP
  rw [if_pos c, if_pos c]
theorem s_gotP0 {j : Nat} {a : Nat × Nat} (c : ¬ g_came G 57 j = 1) : s_gotP G j a = a := by
  unfold s_gotP
  rw [if_neg c, if_neg c]
theorem s_gotPE (hA : ∀ j, k ≤ j → j < 40 → g_came G 57 j ≠ 1) (hk : k ≤ 40) : s_fold (s_gotP G) 0 k (0, 0) = (s_gotS G 40, s_gotN G 40) := by
  have H : ∀ m j (a : Nat × Nat), s_fold (s_gotP G) j m a = (s_fold (fun k a => if g_came G 57 k = 1 then a + (v_ (g_came G 58 k) - v_ (g_came G 59 k)) else a) j m a.1, s_fold (fun k a => if decide (g_came G 57 k = 1) = true then a + 1 else a) j m a.2) := by
    intro m
    induction m with
    | zero => intro j a; rfl
    | succ m ih =>
      intro j a
      refine (ih (j + 1) _).trans ?_
      have e1 : (fun k a => if g_came G 57 k = 1 then a + (v_ (g_came G 58 k) - v_ (g_came G 59 k)) else a) j a.1 = (s_gotP G j a).1 := rfl
      have e2 : (fun k a => if decide (g_came G 57 k = 1) = true then a + 1 else a) j a.2 = (s_gotP G j a).2 := by
        unfold s_gotP
        by_cases c : g_came G 57 j = 1
        · exact (if_pos (decide_eq_true c)).trans (if_pos c).symm
        · exact (if_neg (by rw [decide_eq_false c]; decide)).trans (if_neg c).symm
      show (s_fold _ (j + 1) m _, s_fold _ (j + 1) m _) = (s_fold _ (j + 1) m ((fun k a => if g_came G 57 k = 1 then a + (v_ (g_came G 58 k) - v_ (g_came G 59 k)) else a) j a.1), s_fold _ (j + 1) m ((fun k a => if decide (g_came G 57 k = 1) = true then a + 1 else a) j a.2))
      rw [e1, e2]
  rw [H]
  have e1 : ∀ m, k ≤ m → m ≤ 40 → s_fold (fun k a => if g_came G 57 k = 1 then a + (v_ (g_came G 58 k) - v_ (g_came G 59 k)) else a) 0 m 0 = s_fold (fun k a => if g_came G 57 k = 1 then a + (v_ (g_came G 58 k) - v_ (g_came G 59 k)) else a) 0 k 0 := by
    intro m
    induction m with
    | zero => intro h1 _; rw [show k = 0 by omega]
    | succ m ih =>
      intro h1 h2
      by_cases e : k = m + 1
      · rw [e]
      · rw [s_fold_succ, Nat.zero_add, if_neg (hA m (by omega) (by omega))]
        exact ih (by omega) (by omega)
  have e2 : ∀ m, k ≤ m → m ≤ 40 → s_fold (fun k a => if decide (g_came G 57 k = 1) = true then a + 1 else a) 0 m 0 = s_fold (fun k a => if decide (g_came G 57 k = 1) = true then a + 1 else a) 0 k 0 := by
    intro m
    induction m with
    | zero => intro h1 _; rw [show k = 0 by omega]
    | succ m ih =>
      intro h1 h2
      by_cases e : k = m + 1
      · rw [e]
      · rw [s_fold_succ, Nat.zero_add, if_neg (show ¬ decide (g_came G 57 m = 1) = true by rw [decide_eq_false (hA m (by omega) (by omega))]; decide)]
        exact ih (by omega) (by omega)
  unfold s_gotS s_gotN s_cntB
  rw [e1 40 hk (Nat.le_refl _), e2 40 hk (Nat.le_refl _)]
theorem h_rn.got (h : h_rn g C o μ E B G r ak k2 k w A) (hc : s_cinv A tm G) (htm : tm ≤ 99) (hk : k ≤ 40) (hA : ∀ j, k ≤ j → A j = false) :
    ∃ o1 μ1 p f, D_X11_got g r μ = some (some p, μ1) ∧ μ1.1 p = some (h_ia 2 f) ∧ f 0 = nI (s_gotS G 40) ∧ f 1 = nI (s_gotN G 40) ∧ h_rn g C o1 μ1 E (B + 7) G r ak k2 k w A ∧ h_fr g (fun _ => False) o μ o1 μ1 := by
  obtain ⟨h1, ⟨r0, rc⟩, fa, ⟨a0, ac⟩, hfa⟩ := h
  have hwf := h1.wf
  obtain ⟨fe, f1, f2, f3⟩ := h1.2.2.2.2.2.1
  have hold : ∀ {x : z_C} {b : Nat} {c : z_C}, μ.1 b = some c → (z_new μ 2 x).1 b = some c := fun {x b c} hb => (z_new_ne (hwf.ne hb)).trans hb
  obtain ⟨s3, e3, f, rfl, r1, r2, -⟩ := x_forS (γ := z_M) (δ := Nat × Nat) (β := Option (Option Nat × z_M))
    (fun j s acc => ∃ f, s = z_new μ 2 (h_ia 2 f) ∧ f 0 = nI acc.1 ∧ f 1 = nI acc.2 ∧ acc.1 ≤ 99 * j)
    (fun fu j s => D_X11_got_14 g r μ.2.1 (fun μ120 => some (some μ.2.1, μ120)) fu (nI j) s) (fun s => some (some μ.2.1, s)) (s_gotP G) k
    (fun fu s acc hR => by
      obtain ⟨f, rfl, r1, r2, r3⟩ := hR
      conv => lhs; unfold D_X11_got_14
      rw [x_giS (hold rc) rfl, if_pos (Int32.le_refl _)])
    (fun fu j s acc hR hj => by
      obtain ⟨f, rfl, r1, r2, r3⟩ := hR
      have hE := f3 j (by omega)
      have e9 : nI j + (1 : Int32) = nI (j + 1) := nI_add j 1
      have hnn : ¬ nI k ≤ nI j := nI_ge hj (by omega)
      have hca : (z_new μ 2 (h_ia 2 f)).1 (c_a C) = some (h_gc C G) := hold h1.ca
      have hcp : (z_new μ 2 (h_ia 2 f)).1 μ.2.1 = some (h_ia 2 f) := z_new_self
      cases hf : fe j with
      | none =>
        rw [hf] at hE
        have hn1 : ¬ g_came G 57 j = 1 := fun q => by
          rcases hE with hE | hE <;> rw [hE] at q <;> exact absurd q (by decide)
        refine ⟨z_new μ 2 (h_ia 2 f), ?_, f, rfl, ?_, ?_, ?_⟩
        · conv => lhs; unfold D_X11_got_14
          rw [x_giS (hold rc) rfl, if_neg hnn, x_grR (hold rc) rfl, x_oS, x_grR hca rfl, x_oS, x_aaS (hold f2), x_gaT (by omega) (by omega), x_lS, hf, x_nuN, x_lS, e9]
        · rw [s_gotP0 hn1]; exact r1
        · rw [s_gotP0 hn1]; exact r2
        · rw [s_gotP0 hn1]; show acc.1 ≤ _; omega
      | some x =>
        rw [hf] at hE
        obtain ⟨x0, fx, xc, x57, x58, -⟩ := hE
        have hD : D_X11_got_14 g r μ.2.1 (fun μ120 => some (some μ.2.1, μ120)) (fu + 1) (nI j) (z_new μ 2 (h_ia 2 f)) = if g_came G 57 j = 1 then D_X11_got_14 g r μ.2.1 (fun μ120 => some (some μ.2.1, μ120)) fu (nI (j + 1)) (z_new μ 2 (h_ia 2 (h_up (h_up f 0 (f 0 + (g_came G 58 j - fa j))) 1 (f 1 + 1)))) else D_X11_got_14 g r μ.2.1 (fun μ120 => some (some μ.2.1, μ120)) fu (nI (j + 1)) (z_new μ 2 (h_ia 2 f)) := by
          conv => lhs; unfold D_X11_got_14
          rw [x_giS (hold rc) rfl, if_neg hnn, x_grR (hold rc) rfl, x_oS, x_grR hca rfl, x_oS, x_aaS (hold f2), x_gaT (by omega) (by omega), x_lS, hf, x_nuS, x_grR (hold rc) rfl, x_oS, x_grR hca rfl, x_oS, x_aaS (hold f2), x_gaT (by omega) (by omega), x_lS, hf, x_oS, x_arS (hold xc), x_gaL (i := 0) (j := 0) (n := 7) rfl (by omega) (by omega), x57]
          by_cases c : g_came G 57 j = 1
          · rw [if_pos c, if_pos c, x_arS hcp, x_gaL (i := 0) (j := 0) (n := 2) rfl (by omega) (by omega), x_grR (hold rc) rfl, x_oS, x_grR hca rfl, x_oS, x_aaS (hold f2), x_gaT (by omega) (by omega), x_lS, hf, x_oS, x_arS (hold xc), x_gaL (i := 1) (j := 1) (n := 7) rfl (by omega) (by omega), x_grR (hold rc) rfl, x_oS, x_arS (hold ac), x_gaT (by omega) (by omega), x_arS hcp, x_gaL (i := 0) (j := 0) (n := 2) rfl (by omega) (by omega), x_lS, x_iaN, x58]
            rw [x_arS z_new_self, x_gaL (i := 1) (j := 1) (n := 2) rfl (by omega) (by omega), x_arS z_new_self, x_gaL (i := 1) (j := 1) (n := 2) rfl (by omega) (by omega), x_lS, x_iaN, x_lS, e9]
            rfl
          · rw [if_neg c, if_neg c, x_lS, e9]
        by_cases c : g_came G 57 j = 1
        · obtain ⟨q1, q2⟩ := hc.2.2 j (by omega)
          have hAj : A j = true := by
            cases hA' : A j with
            | false => rw [q1 hA'] at c; exact absurd c (by decide)
            | true => rfl
          obtain ⟨a1, b1, b2, b3⟩ := q2 hAj
          obtain ⟨b, c1, c2, c3⟩ : ∃ b, a1 ≤ b ∧ b ≤ tm ∧ g_came G 58 j = nI b := by
            rcases b3 with b3 | ⟨-, b, c1, c2, c3⟩
            · rw [b3] at c; exact absurd c (by decide)
            · exact ⟨b, c1, c2, c3⟩
          rw [if_pos c] at hD
          refine ⟨_, hD, _, rfl, ?_, ?_, ?_⟩
          · show f 0 + (g_came G 58 j - fa j) = _
            rw [s_gotP1 c, hfa j (by omega) hAj, b2, c3, v_nI (by omega), v_nI (by omega), nI_sub c1, r1]
            exact nI_add ..
          · show f 1 + 1 = _
            rw [s_gotP1 c, r2]
            exact nI_add ..
          · rw [s_gotP1 c, c3, v_nI (by omega)]
            show acc.1 + _ ≤ _
            omega
        · rw [if_neg c] at hD
          refine ⟨_, hD, f, rfl, ?_, ?_, ?_⟩
          · rw [s_gotP0 c]; exact r1
          · rw [s_gotP0 c]; exact r2
          · rw [s_gotP0 c]; show acc.1 ≤ _; omega)
    x_F 0 (z_new μ 2 (h_ia 2 (h_up (h_up (fun _ => 0) 0 0) 1 0))) (0, 0) (Nat.zero_le _) ⟨_, rfl, rfl, rfl, Nat.zero_le _⟩ (by rw [x_Fv]; omega)
  rw [Nat.sub_zero, s_gotPE (fun j h1 h2 q => by
    rw [(hc.2.2 j (by omega)).1 (hA j h1)] at q
    exact absurd q (by decide)) hk] at r1 r2
  have F1 : h_fr g (fun _ => False) o μ (h_o1 o μ.2.1 870) (z_new μ 2 (h_ia 2 f)) := h_fr.new hwf
  refine ⟨h_o1 o μ.2.1 870, z_new μ 2 (h_ia 2 f), μ.2.1, f, ?_, z_new_self, r1, r2, ⟨h1.new, ⟨(F1.2.1 r (hwf.lt rc)).trans r0, hold rc⟩, fa, ⟨(F1.2.1 ak (hwf.lt ac)).trans a0, hold ac⟩, hfa⟩, F1⟩
  unfold D_X11_got
  rw [x_naL (i := 2) (n := 2) rfl (by omega), x_nwS, x_arN (i := 0) (j := 0) rfl (by omega) (by omega), x_arN (i := 1) (j := 1) rfl (by omega) (by omega)]
  exact e3
end T93
