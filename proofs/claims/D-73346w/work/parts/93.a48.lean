/-! THE COMPONENT's LAW, 48: cut links are counted in the memory -/
set_option maxRecDepth 100000
set_option linter.unusedVariables false
section T93
variable {g : z_G} {C : h_C} {o o1 : Nat → Nat} {μ μ1 : z_M} {E : Nat → List Nat} {B a b l n q p : Nat} {G : s_G}
/-- the links of the run's net -/
theorem h_go.links (h : h_go g C o μ E B G) : ∃ fs ll nl, μ.1 (c_p C) = some (.inr (5, fs)) ∧ fs[4]? = some (.ref ll) ∧ h_ls g o μ 0 ll nl (c_ls C) ∧ (c_ls C).length = n_links (c_N C) ∧ ∀ k x, (c_ls C)[k]? = some x → h_pr o μ x (n_la (c_N C) k) (n_lb (c_N C) k) := by
  obtain ⟨h0, rm, ll, rl, sl, nl, nr, ns, fr, f, hp, -, -, ⟨r1, r2, r3⟩, -⟩ := h.nt
  exact ⟨_, ll, nl, hp, rfl, r1, r2, r3⟩
theorem h_go.cutN (h : h_go g C o μ E B G) (hlk : ∀ l, l < n_links (c_N C) → c_lk C (6 * n_la (c_N C) l + n_lb (c_N C) l) = some l) : ∃ μ1, D_X12_cut g (c_a C) μ = some (nI (s_cntB (fun k => s_bit (g_down G) (nI k)) (n_links (c_N C))), μ1) ∧ h_go g C (h_o1 o μ.2.1 900) μ1 E (B + 9) G ∧ h_fr g (fun a => o a = 900) o μ (h_o1 o μ.2.1 900) μ1 ∧ h_u μ1 = h_u μ + 9 := by
  have h15 : n_links (c_N C) ≤ 15 := h.hN.2.2.1.2
  have hN := h.hN
  obtain ⟨fs, ll, nl, hp, hk4, hL, hlen, hpr⟩ := h.links
  obtain ⟨μ2, e2, hI, f2, n2, u2⟩ := hL.iter (t' := 900) h.wf
  have h2 := h.fr (b := 9) f2 (fun a q => q.elim) (by omega)
  have hit : h_o1 o μ.2.1 900 μ.2.1 = 900 := if_pos rfl
  have hL2 := hL.fr f2 h.wf (fun a ha q => q)
  have hpr2 : ∀ k x, (c_ls C)[k]? = some x → h_pr (h_o1 o μ.2.1 900) μ2 x (n_la (c_N C) k) (n_lb (c_N C) k) := fun k x hx => (hpr k x hx).fr f2 h.wf (fun a ha q => q)
  have hO' : ∀ a, a < μ.2.1 → h_o1 o μ.2.1 900 a = o a := fun a ha => if_neg (by omega)
  generalize h_o1 o μ.2.1 900 = O at f2 h2 hit hL2 hpr2 hO'
  obtain ⟨s3, e3, r1, r2, r3, r4⟩ := x_forS (γ := Int32 × z_M) (δ := Nat) (β := Option (Int32 × z_M))
    (fun k s acc => s.1 = nI acc ∧ h_it s.2 μ.2.1 ll k ∧ h_fr g (fun a => O a = 900) O μ2 O s.2 ∧ s.2.2 = μ2.2)
    (fun fu _ s => D_X12_cut_13 g (c_a C) (some μ.2.1) (fun v m => some (v, m)) fu s.1 s.2) (fun s => some s) (fun k a => if s_bit (g_down G) (nI k) = true then a + 1 else a) (n_links (c_N C))
    (fun fu s acc hR => by
      obtain ⟨r1, r2, r3, r4⟩ := hR
      have hL3 := hL2.fr r3 f2.wf (fun a ha => by omega)
      conv => lhs; unfold D_X12_cut_13
      rw [← hlen] at r2
      rw [x_oS, r2.end hL3])
    (fun fu k s acc hR hk => by
      obtain ⟨r1, r2, r3, r4⟩ := hR
      have hL3 := hL2.fr r3 f2.wf (fun a ha => by omega)
      obtain ⟨x, hx⟩ := h_at hlen hk
      have hx3 := (hpr2 k x hx).fr r3 f2.wf (fun a ha => by omega)
      obtain ⟨μ4, e4, i4, f4, u4⟩ := r2.elem hL3 r3.wf hx hx3.isA
      have f4' : h_fr g (fun a => O a = 900) O s.2 O μ4 := f4.mono (fun a _ q => by rw [q]; exact hit)
      have hg := (h2.fr (b := 0) r3 (fun a ha => by omega) (by unfold h_u; rw [r4]; omega)).fr (b := 0) f4' (fun a ha => by omega) (by unfold h_u; rw [u4]; omega)
      obtain ⟨fd, d1, d2, d3⟩ := hg.2.2.2.2.1
      obtain ⟨-, f, c1, c2, c3⟩ := hx3.fr f4' r3.wf (fun a ha => by omega)
      have hla : n_la (c_N C) k < 6 ∧ n_lb (c_N C) k < 6 := by have := n_ln_b hN hk; omega
      have hfd := d3 _ _ (by omega) (hlk k hk)
      have hD : D_X12_cut_13 g (c_a C) (some μ.2.1) (fun v m => some (v, m)) (fu + 1) s.1 s.2 = (if fd (6 * n_la (c_N C) k + n_lb (c_N C) k) = 0 then x_l (s.1 + (0 : Int32)) fun v52 => D_X12_cut_13 g (c_a C) (some μ.2.1) (fun v m => some (v, m)) fu v52 μ4 else x_l (s.1 + (1 : Int32)) fun v53 => D_X12_cut_13 g (c_a C) (some μ.2.1) (fun v m => some (v, m)) fu v53 μ4) := by
        conv => lhs; unfold D_X12_cut_13
        rw [x_oS, e4, x_grR hg.ca rfl, x_oS, x_arS c1, x_gaL (i := 0) (j := 0) (n := 2) rfl (by omega) (by omega), x_arS c1, x_gaL (i := 1) (j := 1) (n := 2) rfl (by omega) (by omega), x_oS, x_arS d2, c2, c3, nI_6, x_gaT (by omega) (by omega)]
      by_cases c : s_bit (g_down G) (nI k) = true
      · refine ⟨(s.1 + 1, μ4), ?_, ?_, i4, r3.trans f4' (fun a _ q => q.elim id id), u4.trans r4⟩
        · show D_X12_cut_13 g (c_a C) (some μ.2.1) (fun v m => some (v, m)) (fu + 1) s.1 s.2 = _
          rw [hD, hfd, if_pos c, if_neg (show ¬ (1 : Int32) = 0 by decide), x_lS]
        · rw [if_pos c, r1]; exact nI_add ..
      · refine ⟨(s.1 + 0, μ4), ?_, ?_, i4, r3.trans f4' (fun a _ q => q.elim id id), u4.trans r4⟩
        · show D_X12_cut_13 g (c_a C) (some μ.2.1) (fun v m => some (v, m)) (fu + 1) s.1 s.2 = _
          rw [hD, hfd, if_neg c, if_pos rfl, x_lS]
        · rw [if_neg c, r1]; exact Int32.add_zero _)
    x_F 0 (0, μ2) 0 (Nat.zero_le _) ⟨rfl, hI, h_fr.refl f2.wf, rfl⟩ (by rw [x_Fv]; omega)
  refine ⟨s3.2, ?_, ?_, f2.trans r3 (fun a ha q => by
    rcases q with q | q
    · exact q.elim
    · exact (hO' a ha).symm.trans q), by unfold h_u at u2 ⊢; rw [r4]; exact u2⟩
  · unfold D_X12_cut
    rw [x_grR h.ca rfl, x_oS, x_grR hp hk4, x_oS, hL.obK, e2, x_b2S]
    have e3' : D_X12_cut_13 g (c_a C) (some μ.2.1) (fun v m => some (v, m)) x_F 0 μ2 = some s3 := e3
    rw [e3']
    have : s3 = (s3.1, s3.2) := rfl
    rw [this, r1]
    rfl
  · exact h2.fr (b := 0) r3 (fun a ha => by omega) (by unfold h_u; rw [r4]; omega)
end T93
