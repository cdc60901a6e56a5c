/-! THE COMPONENT's LAW, 15: an ask's end; data, refusals are given -/
set_option maxRecDepth 100000
set_option linter.unusedVariables false
/-- what is put down of an ask -/
def s_row7 (n : Nat) (fw : Nat → Int32) (mi : Int32) (i : Nat) : Int32 := if i = 0 then fw 0 else if i = 1 then mi else if i - 1 < n then fw (i - 1) else -1
section T93
variable {g : z_G} {C : h_C} {o o1 : Nat → Nat} {μ μ1 : z_M} {E : Nat → List Nat} {B b p n q k w : Nat} {G G' : s_G} {S : Nat → Prop} {N : s_R}
theorem x_end {fw : Nat → Int32} {fe : Nat → Option Nat} (hc : μ.1 (c_a C) = some (h_gc C G)) (he : μ.1 (c_en C) = some (.inl (6, 61, .inr (.inr (.inr (.inr fe)))))) (hwf : h_wf g μ) (hk : k < 61) (hw : μ.1 w = some (h_ia n fw)) (hn : 1 ≤ n ∧ n ≤ 6) :
    ∃ F, (∀ i, i < 7 → F i = s_row7 n fw (g_minute G) i) ∧ D_X12_end g (c_a C) (nI k) (some w) μ = some (z_set (z_new μ 7 (h_ia 7 F)) (c_en C) (.inl (6, 61, .inr (.inr (.inr (.inr (fun j => if j = k then some μ.2.1 else fe j))))))) := by
  have hwn : w ≠ μ.2.1 := hwf.ne hw
  have can : c_a C ≠ μ.2.1 := hwf.ne hc
  have cen : c_en C ≠ μ.2.1 := hwf.ne he
  have W : ∀ F, (z_new μ 7 (h_ia 7 F)).1 w = some (h_ia n fw) := fun F => (z_new_ne hwn).trans hw
  have A : ∀ F, (z_new μ 7 (h_ia 7 F)).1 (c_a C) = some (h_gc C G) := fun F => (z_new_ne can).trans hc
  generalize hF0 : h_up (h_up (h_up (h_up (h_up (h_up (h_up (fun _ => 0) 0 (fw 0)) 1 (g_minute G)) 2 (-1)) 3 (-1)) 4 (-1)) 5 (-1)) 6 (-1) = F0
  obtain ⟨s', e1, hj0, F, hs, hF⟩ := x_forS (γ := z_M) (δ := Unit) (β := Option z_M)
    (R := fun j s _ => 1 ≤ j ∧ ∃ F : Nat → Int32, s = z_new μ 7 (h_ia 7 F) ∧ ∀ i, F i = if 2 ≤ i ∧ i < j + 1 then fw (i - 1) else F0 i)
    (L := fun fu j s => D_X12_end_42 g (c_a C) (nI k) w μ.2.1 (fun (μ86 : z_M) => x_gr μ86 (c_a C) 12 4 fun o87 => x_o o87 fun p91 => x_aa μ86 p91 6 fun n92 f93 => x_ga (nI k) n92 fun j95 => x_ar μ86 μ.2.1 0 fun _ _ => x_l (x_ra μ86 p91 6 n92 j95 f93 (some μ.2.1)) fun μ96 => some μ96) fu (nI j) s)
    (K := fun μ86 => x_gr μ86 (c_a C) 12 4 fun o87 => x_o o87 fun p91 => x_aa μ86 p91 6 fun n92 f93 => x_ga (nI k) n92 fun j95 => x_ar μ86 μ.2.1 0 fun _ _ => x_l (x_ra μ86 p91 6 n92 j95 f93 (some μ.2.1)) fun μ96 => some μ96)
    (st := fun _ d => d) (n := n)
    (fun fu s _ hR => by
      obtain ⟨hj1, F, rfl, hF⟩ := hR
      show D_X12_end_42 _ _ _ _ _ _ (fu + 1) _ _ = _
      unfold D_X12_end_42
      rw [x_lnS rfl (W F), if_pos (Int32.le_refl _)])
    (fun fu j s _ hR hj => by
      obtain ⟨hj1, F, rfl, hF⟩ := hR
      refine ⟨_, ?_, by omega, h_up F (j + 1) (fw j), rfl, fun i => ?_⟩
      · show D_X12_end_42 _ _ _ _ _ _ (fu + 1) _ _ = _
        conv => lhs; unfold D_X12_end_42
        rw [x_lnS rfl (W F), if_neg (nI_ge hj (by omega)), x_arS (W F), x_gaT hj (by omega), nI_1]
        refine (x_arN (i := nI (j + 1)) rfl (by omega) (by omega)).trans ?_
        rw [x_lS]
      · show (if i = j + 1 then fw j else F i) = _
        by_cases e : i = j + 1
        · rw [if_pos e, if_pos (by omega), show i - 1 = j from by omega]
        · rw [if_neg e, hF i]
          by_cases e2 : 2 ≤ i ∧ i < j + 1
          · rw [if_pos e2, if_pos (by omega)]
          · rw [if_neg e2, if_neg (by omega)])
    x_F 1 (z_new μ 7 (h_ia 7 F0)) () hn.1 ⟨Nat.le_refl _, F0, rfl, fun i => by rw [if_neg (by omega)]⟩ (by rw [x_Fv]; omega)
  subst hs
  refine ⟨F, fun i hi => ?_, ?_⟩
  · rw [hF i, ← hF0]
    unfold s_row7
    by_cases c : 2 ≤ i ∧ i < n + 1
    · rw [if_pos c, if_neg (by omega), if_neg (by omega), if_pos (by omega)]
    · rw [if_neg c]
      rcases (by omega : i = 0 ∨ i = 1 ∨ i = 2 ∨ i = 3 ∨ i = 4 ∨ i = 5 ∨ i = 6) with rfl | rfl | rfl | rfl | rfl | rfl | rfl
      · rfl
      · rfl
      · rw [if_neg (by omega), if_neg (by omega), if_neg (by omega)]; rfl
      · rw [if_neg (by omega), if_neg (by omega), if_neg (by omega)]; rfl
      · rw [if_neg (by omega), if_neg (by omega), if_neg (by omega)]; rfl
      · rw [if_neg (by omega), if_neg (by omega), if_neg (by omega)]; rfl
      · rw [if_neg (by omega), if_neg (by omega), if_neg (by omega)]; rfl
  · unfold D_X12_end
    rw [x_naL (i := 7) (n := 7) rfl (by omega), x_nwS, x_oS]
    rw [x_arS (W _), x_gaL (i := 0) (j := 0) rfl (by omega) (by omega)]
    refine (x_arN (i := 0) (j := 0) rfl (by omega) (by omega)).trans ?_
    refine (x_giS (A _) rfl).trans ?_
    refine (x_arN (i := 1) (j := 1) rfl (by omega) (by omega)).trans ?_
    refine (x_arN (i := 2) (j := 2) rfl (by omega) (by omega)).trans ?_
    refine (x_arN (i := 3) (j := 3) rfl (by omega) (by omega)).trans ?_
    refine (x_arN (i := 4) (j := 4) rfl (by omega) (by omega)).trans ?_
    refine (x_arN (i := 5) (j := 5) rfl (by omega) (by omega)).trans ?_
    refine (x_arN (i := 6) (j := 6) rfl (by omega) (by omega)).trans ?_
    rw [← hF0] at e1
    refine e1.trans ?_
    have e2 : (z_new μ 7 (h_ia 7 F)).1 (c_en C) = some (.inl (6, 61, .inr (.inr (.inr (.inr fe))))) := (z_new_ne cen).trans he
    show x_gr _ _ _ _ _ = _
    rw [x_grR (A F) rfl, x_oS, x_aaS e2, x_gaT hk (by omega), x_arS (z_new_self (μ := μ)), x_lS]
    rfl
/-- an ask comes to an end -/
theorem h_go.endS {fw : Nat → Int32} {c' : Nat → Nat → Int32} (h : h_go g C o μ E B G) (hk : k < 61) (hw : μ.1 w = some (h_ia n fw)) (hn : 1 ≤ n ∧ n ≤ 6) (hc : ∀ j f, j ≠ k → c' f j = g_came G f j)
    (hr : ∀ F : Nat → Int32, (∀ i, i < 7 → F i = s_row7 n fw (g_minute G) i) → F 0 = c' 57 k ∧ F 1 = c' 58 k ∧ (c' 57 k = 1 ∧ F 2 = c' 60 k ∧ F 3 = c' 61 k ∧ F 4 = -1 ∧ F 5 = -1 ∧ F 6 = -1 ∨ c' 57 k = 2 ∧ F 2 = -1 ∧ F 3 = -1 ∧ F 4 = c' 62 k ∧ F 5 = c' 63 k ∧ F 6 = c' 64 k ∨ c' 57 k = 3 ∧ F 2 = -1 ∧ F 3 = -1 ∧ F 4 = -1 ∧ F 5 = -1 ∧ F 6 = -1)) :
    ∃ o1 μ1, D_X12_end g (c_a C) (nI k) (some w) μ = some μ1 ∧ h_go g C o1 μ1 E (B + 12) (g_scame G c') ∧ h_fr g (fun a => o a = 1000) o μ o1 μ1 := by
  obtain ⟨fe, f1, f2, f3⟩ := h.2.2.2.2.2.1
  obtain ⟨F, hF, e1⟩ := x_end h.ca f2 h.wf hk hw hn
  have h2 := h.new (t := 0) (m := 7) (x := h_ia 7 F)
  have g2 := h_fr.new (o := o) (n := 7) (t := 0) (x := h_ia 7 F) h.wf
  have c2 : (z_new μ 7 (h_ia 7 F)).1 (c_en C) = some (.inl (6, 61, .inr (.inr (.inr (.inr fe))))) := (z_new_ne (h.wf.ne f2)).trans f2
  obtain ⟨h3, g3⟩ := h2.row (r := μ.2.1) hk ⟨if_pos rfl, F, z_new_self, hr F hF⟩ hc c2
  refine ⟨_, _, e1, h3, g2.trans g3 (fun a ha q => ?_)⟩
  rcases q with q | q
  · exact q.elim
  · exact (if_neg (by omega : ¬ a = μ.2.1)).symm.trans q
theorem h_o1_lt {t a : Nat} (ha : a < μ.2.1) : h_o1 o μ.2.1 t a = o a := if_neg (by omega)
theorem x_mod10 {m f : Nat} (hm : m < 6) (hf : f < 2) : nI (10 * m + f) / (10 : Int32) = nI m ∧ nI (10 * m + f) - nI (10 * m + f) / (10 : Int32) * (10 : Int32) = nI f := by
  have e1 : nI (10 * m + f) / (10 : Int32) = nI ((10 * m + f) / 10) := nI_div (b := 10) (by omega) (by omega)
  have e2 : nI (10 * m + f) - nI (10 * m + f) / (10 : Int32) * (10 : Int32) = nI ((10 * m + f) % 10) := nI_mod (k := 10) (by omega) (by omega)
  rw [e1] at e2 ⊢
  rw [e2, show (10 * m + f) / 10 = m from by omega, show (10 * m + f) % 10 = f from by omega]
  exact ⟨rfl, rfl⟩
/-- data are given to an ask -/
theorem h_go.getK {r : s_Q} {src a1 : Int32} {a4 : Option Nat} (h : h_go g C o μ E B G) (hk : k < 61) (hs : ∃ m f, m < 6 ∧ f < 2 ∧ src = nI (10 * m + f) ∧ r.2.2.1 = nI m ∧ r.2.2.2 = nI f) :
    ∃ o1 μ1, D_X12_gives g (c_a C) a1 (-1) (nI k) a4 src μ = some μ1 ∧ h_go g C o1 μ1 E (B + 20) (s_get r k G) ∧ h_fr g (fun a => o a = 1000) o μ o1 μ1 := by
  obtain ⟨m, f, m1, m2, rfl, m3, m4⟩ := hs
  obtain ⟨x1, x2⟩ := x_mod10 m1 m2
  have h1 := h.new (t := 0) (m := 3) (x := h_ia 3 (h_up (h_up (h_up (fun _ => 0) 0 1) 1 (nI m)) 2 (nI f)))
  have g1 := h_fr.new (o := o) (n := 3) (t := 0) (x := h_ia 3 (h_up (h_up (h_up (fun _ => 0) 0 1) 1 (nI m)) 2 (nI f))) h.wf
  obtain ⟨o2, μ2, e2, h2, g2⟩ := h1.endS (k := k) (w := μ.2.1) (c' := fun f j => if j = k ∧ f = 57 then 1 else if j = k ∧ f = 58 then g_minute G else if j = k ∧ f = 60 then r.2.2.1 else if j = k ∧ f = 61 then r.2.2.2 else g_came G f j) hk z_new_self (by omega) (fun j f hj => by
    show (if j = k ∧ f = 57 then _ else if j = k ∧ f = 58 then _ else if j = k ∧ f = 60 then _ else if j = k ∧ f = 61 then _ else _) = _
    rw [if_neg (fun q => hj q.1), if_neg (fun q => hj q.1), if_neg (fun q => hj q.1), if_neg (fun q => hj q.1)]) (fun F hF => by
    refine ⟨(hF 0 (by omega)).trans ?_, (hF 1 (by omega)).trans ?_, Or.inl ⟨?_, (hF 2 (by omega)).trans ?_, (hF 3 (by omega)).trans ?_, (hF 4 (by omega)).trans ?_, (hF 5 (by omega)).trans ?_, (hF 6 (by omega)).trans ?_⟩⟩
    · exact (if_pos ⟨rfl, rfl⟩).symm
    · exact ((if_neg (by omega)).trans (if_pos ⟨rfl, rfl⟩)).symm
    · exact if_pos ⟨rfl, rfl⟩
    · refine Eq.trans ?_ ((if_neg (by omega)).trans ((if_neg (by omega)).trans (if_pos ⟨rfl, rfl⟩))).symm
      exact m3.symm
    · refine Eq.trans ?_ ((if_neg (by omega)).trans ((if_neg (by omega)).trans ((if_neg (by omega)).trans (if_pos ⟨rfl, rfl⟩)))).symm
      exact m4.symm
    · rfl
    · rfl
    · rfl)
  refine ⟨o2, μ2, ?_, h2, g1.trans g2 (fun a ha q => ?_)⟩
  · unfold D_X12_gives
    rw [if_pos rfl, x_naL (i := 3) (n := 3) rfl (by omega), x_nwS, x2, x1]
    refine (x_arN (i := 0) (j := 0) rfl (by omega) (by omega)).trans ?_
    refine (x_arN (i := 1) (j := 1) rfl (by omega) (by omega)).trans ?_
    refine (x_arN (i := 2) (j := 2) rfl (by omega) (by omega)).trans ?_
    rw [h1.ob, e2, x_bS]
  · rcases q with q | q
    · exact q.elim
    · exact (h_o1_lt ha).symm.trans q
/-- data are given to a node -/
theorem h_go.givN {t d m f : Nat} {name src a3 : Int32} {r : s_Q} (h : h_go g C o μ E B G) (hn : n < n_nodes (c_N C)) (ht : t < n_nodes (c_N C)) (hd : h_dt o μ d (name, r.1, r.2.1)) (hs : ∃ m f, m < 6 ∧ f < 2 ∧ src = nI (10 * m + f) ∧ r.2.2.1 = nI m ∧ r.2.2.2 = nI f) (hl : (g_ways G).length ≤ c_Mw C) :
    ∃ o1 μ1, D_X12_gives g (c_a C) (nI n) (nI t) a3 (some d) src μ = some μ1 ∧ h_go g C o1 μ1 E (B + 14) (s_send (c_N C) (c_lk C) 1 n t name 0 0 r G) ∧ h_fr g (fun a => o a = 1000 ∨ o a = 1001) o μ o1 μ1 := by
  have h6 : n_nodes (c_N C) ≤ 6 := h.hN.1.1.2
  have hd' := hd
  obtain ⟨d0, d1, q, d2, d3⟩ := hd'
  have d1' : s_wn name := d1
  obtain ⟨o1, μ1, e1, h1, g1⟩ := h.post (kind := 1) (name := name) (wish := 0) (nonce := 0) (src := src) (r := r) (q := q) (dr := some d) (wr := none) hn ht d1' d3 hl (fun l _ => Or.inr (Or.inl ⟨rfl, rfl, ⟨d, rfl, hd⟩, hs⟩))
  refine ⟨o1, μ1, ?_, h1, g1⟩
  have hN := h.new (m := 9) (t := 0) (x := .inr (15, [.int 0, .int 0, .int 0, .int 0, .int 0, .int 0, .null, .null, .null]))
  have c2 : (z_new μ 9 (.inr (15, [.int 0, .int 0, .int 0, .int 0, .int 0, .int 0, .null, .null, .null]))).1 d = some (.inr (16, [.ref q, .int r.1, .int r.2.1])) := (z_new_ne (h.wf.ne d2)).trans d2
  have hI : h_go g C (h_o1 o μ.2.1 0) (z_new μ 9 (.inr (15, [.int (nI n), .int (nI t), .int (g_minute G + s_dly (c_N C) (c_lk C) (6 * n + t)), .int 0, .int 0, .int src, .ref q, va_rf (some d), va_rf none]))) E (B + (5 + 9)) G := h.new
  unfold D_X12_gives
  rw [if_neg (oI_none (by omega)), x_nwS, hN.ob, hN.delay (by omega) (by omega), x_bS, x_oS, x_grR c2 rfl, x_init15, x_bS]
  refine Eq.trans hI.ob ?_
  exact congrArg (fun z => x_b z fun μ18 => some μ18) e1
end T93
