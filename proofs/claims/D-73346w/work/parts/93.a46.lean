/-! THE COMPONENT's LAW, 46: entries, cut links are counted -/
set_option maxRecDepth 100000
set_option linter.unusedVariables false
section T93
variable {g : z_G} {C : h_C} {o o1 : Nat → Nat} {μ μ1 : z_M} {E : Nat → List Nat} {B a b l n q : Nat} {cut : Bool} {G : s_G}
/-- a node's lists -/
theorem h_go.sizes (h : h_go g C o μ E B G) (hq : (c_ns C)[n]? = some q) : ∃ (sl el ml ce : Nat) (ds : List Nat) (f : Nat → Int32), μ.1 q = some (.inr (13, [.ref sl, .ref el, .ref ml, .long (g_dead G n)])) ∧ h_ls g o μ (1010 + n) sl 5 ds ∧ ds.length = (g_ds G n).length ∧ h_ls g o μ (1020 + n) el ce (E n) ∧ (E n).length = (g_es G n).length ∧ o ml = 1030 + n ∧ μ.1 ml = some (.inl (0, 6, .inl f)) ∧ ∀ j, j < 6 → f j = g_meas G (6 * n + j) := by
  obtain ⟨ce, ⟨-, sl, el, ml, ds, f, h1, ⟨h2, h3⟩, ⟨h4, h5, -⟩, h6⟩, -⟩ := h.node hq
  exact ⟨sl, el, ml, ce, ds, f, h1, h2, h3.1, h4, h5.1, h6⟩
theorem h_go.entries (h : h_go g C o μ E B G) : ∃ μ1, D_X12_entries g (c_a C) μ = some (nI (s_all (c_N C) G), μ1) ∧ h_go g C (h_o1 o μ.2.1 900) μ1 E (B + 9) G ∧ h_fr g (fun a => o a = 900) o μ (h_o1 o μ.2.1 900) μ1 ∧ h_u μ1 = h_u μ + 9 := by
  have h6 : n_nodes (c_N C) ≤ 6 := h.hN.1.1.2
  obtain ⟨hL, hlen⟩ := h.nodes
  obtain ⟨μ2, e2, hI, f2, n2, u2⟩ := hL.iter (t' := 900) h.wf
  have h2 := h.fr (b := 9) f2 (fun a q => q.elim) (by omega)
  have hit : h_o1 o μ.2.1 900 μ.2.1 = 900 := if_pos rfl
  generalize hO : h_o1 o μ.2.1 900 = O at f2 h2 hit
  obtain ⟨s3, e3, r1, r2, r3, r4⟩ := x_forS (γ := Int32 × z_M) (δ := Nat) (β := Option (Int32 × z_M))
    (fun k s acc => s.1 = nI acc ∧ h_it s.2 μ.2.1 (c_nl C) k ∧ h_fr g (fun a => O a = 900) O μ2 O s.2 ∧ s.2.2 = μ2.2)
    (fun fu _ s => D_X12_entries_10 g (c_a C) (some μ.2.1) (fun v m => some (v, m)) fu s.1 s.2) (fun s => some s) (fun n a => a + (g_es G n).length) (n_nodes (c_N C))
    (fun fu s acc hR => by
      obtain ⟨r1, r2, r3, r4⟩ := hR
      have hg := (h2.fr (b := 0) r3 (fun a ha => by omega) (by unfold h_u; rw [r4]; omega)).nodes
      conv => lhs; unfold D_X12_entries_10
      rw [← hg.2] at r2
      rw [x_oS, r2.end hg.1])
    (fun fu k s acc hR hk => by
      obtain ⟨r1, r2, r3, r4⟩ := hR
      have hg := h2.fr (b := 0) r3 (fun a ha => by omega) (by unfold h_u; rw [r4]; omega)
      obtain ⟨q, hq⟩ := hg.nodeAt hk
      have hA : z_isA g s.2 q "AskedNames$Node" := (hg.node0 hq).choose_spec.isA
      obtain ⟨μ4, e4, i4, f4, u4⟩ := r2.elem hg.nodes.1 hg.wf hq hA
      have f4' : h_fr g (fun a => O a = 900) O s.2 O μ4 := f4.mono (fun a _ q => by rw [q]; exact hit)
      obtain ⟨sl, el, ml, ce, ds, f, c1, -, -, c4, c5, -⟩ := (hg.fr (b := 0) f4' (fun a ha => by omega) (by unfold h_u; rw [u4]; omega)).sizes hq
      refine ⟨(s.1 + nI (E k).length, μ4), ?_, by rw [r1, c5]; exact nI_add .., i4, r3.trans f4' (fun a _ q => q.elim id id), u4.trans r4⟩
      conv => lhs; unfold D_X12_entries_10
      rw [x_oS, e4, x_oS, x_lsz c1 rfl c4, x_lS])
    x_F 0 (0, μ2) 0 (Nat.zero_le _) ⟨rfl, hI, h_fr.refl f2.wf, rfl⟩ (by rw [x_Fv]; omega)
  refine ⟨s3.2, ?_, ?_, f2.trans r3 (fun a ha q => by
    rcases q with q | q
    · exact q.elim
    · rw [← hO] at q
      have e9 : h_o1 o μ.2.1 900 a = o a := if_neg (by omega)
      exact e9.symm.trans q), by unfold h_u at u2 ⊢; rw [r4]; exact u2⟩
  · unfold D_X12_entries
    rw [x_grR h.ca rfl, x_oS, hL.obK, e2, x_b2S]
    have e3' : D_X12_entries_10 g (c_a C) (some μ.2.1) (fun v m => some (v, m)) x_F 0 μ2 = some s3 := e3
    rw [e3']
    have : s3 = (s3.1, s3.2) := rfl
    rw [this, r1]
    rfl
  · exact h2.fr (b := 0) r3 (fun a ha => by omega) (by unfold h_u; rw [r4]; omega)
end T93
