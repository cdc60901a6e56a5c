/-! THE COMPONENT's LAW, 37: entries end -/
set_option maxRecDepth 100000
set_option linter.unusedVariables false
/-- what the ends of a node's entries cost -/
def k_endsN (N : s_R) (n : Nat) : Nat → Nat → s_G → Nat
  | 0, _, G => 0
  | m + 1, i, G => match (g_es G n)[i]? with
    | none => 0
    | some e => if e_ends e = g_minute G then (9 + 18 * (s_setL (e_asks e)).length) + k_endsN N n m i (s_ends1 N n i e G) else k_endsN N n m (i + 1) G
/-- entries end now or later; they went somewhere -/
def s_eo (tm : Nat) (es : List s_E) : Prop := ∀ e ∈ es, (∃ x, tm ≤ x ∧ x ≤ 300 ∧ e_ends e = nI x) ∧ ∃ o, o < 6 ∧ e_out e = nI o
section T93
variable {g : z_G} {C : h_C} {o o1 : Nat → Nat} {μ μ1 : z_M} {E : Nat → List Nat} {B b p n q k w a0 t l x ce i c j d pit al ca fr pm dep tm : Nat} {G G' : s_G} {S : Nat → Prop} {N : s_R} {xs es cs : List Nat} {nd : s_N} {ms : Nat → Int32} {but nonce name wish ends src v : Int32} {e : s_E} {fs : List Value} {r : s_Q} {m : s_M}
/-- an ask comes to nothing -/
theorem h_go.late (h : h_go g C o μ E B G) (hk : k < 61) : ∃ o1 μ1, (x_na (1 : Int32) fun n115 => x_nw μ n115 (.inl (0, n115, .inl (fun _ => 0))) fun p116 μ117 => x_ar μ117 p116 0 fun n120 f121 => x_ga (0 : Int32) n120 fun j123 => x_l (x_ia μ117 p116 0 n120 j123 f121 (3 : Int32)) fun μ126 => x_ob μ126 (c_a C) 12 fun _ => D_X12_end g (c_a C) (nI k) (some p116) μ126) = some μ1 ∧
    h_go g C o1 μ1 E (B + 18) (s_late k G) ∧ h_fr g (fun a => o a = 1000) o μ o1 μ1 := by
  have h1 := h.new (t := 0) (m := 1) (x := h_ia 1 (h_up (fun _ => 0) 0 3))
  have g1 := h_fr.new (o := o) (n := 1) (t := 0) (x := h_ia 1 (h_up (fun _ => 0) 0 3)) h.wf
  obtain ⟨o2, μ2, e2, h2, g2⟩ := h1.endS (k := k) (w := μ.2.1) (n := 1) (fw := h_up (fun _ => 0) 0 3) (c' := fun f j => if j = k ∧ f = 57 then 3 else if j = k ∧ f = 58 then g_minute G else g_came G f j) hk z_new_self (by omega) (fun j f hj => by
    show (if j = k ∧ f = 57 then _ else if j = k ∧ f = 58 then _ else _) = _
    rw [if_neg (fun q => hj q.1), if_neg (fun q => hj q.1)]) (fun F hF => by
    refine ⟨(hF 0 (by omega)).trans ?_, (hF 1 (by omega)).trans ?_, Or.inr (Or.inr ⟨?_, (hF 2 (by omega)).trans ?_, (hF 3 (by omega)).trans ?_, (hF 4 (by omega)).trans ?_, (hF 5 (by omega)).trans ?_, (hF 6 (by omega)).trans ?_⟩)⟩
    · exact (if_pos ⟨rfl, rfl⟩).symm
    · exact ((if_neg (by omega)).trans (if_pos ⟨rfl, rfl⟩)).symm
    · exact if_pos ⟨rfl, rfl⟩
    · rfl
    · rfl
    · rfl
    · rfl
    · rfl)
  refine ⟨o2, μ2, ?_, h2, g1.trans g2 (fun a ha q => ?_)⟩
  · rw [x_naL (i := 1) (n := 1) rfl (by omega), x_nwS]
    refine (x_arN (i := 0) (j := 0) rfl (by omega) (by omega)).trans ?_
    rw [h1.ob, e2]
  · rcases q with q | q
    · exact q.elim
    · exact (h_o1_lt ha).symm.trans q
/-- the asks of an entry come to nothing -/
theorem h_go.lateAll {v1 : Nat} {v2 : Int32} (K : z_M → Option z_M) (h : h_go g C o μ E B G) (hen : h_en g o μ n p e) :
    ∃ o1 μ1, (x_gr μ p 17 4 fun o84 => x_o o84 fun p88 => x_ob μ p88 3 fun _ => x_b2 (D_J2_iterator g p88 μ) fun o92 μ93 => D_X12_runsOut_89 g (c_a C) v1 v2 o92 K x_F μ93) = K μ1 ∧
      h_go g C o1 μ1 E (B + (9 + 18 * (s_setL (e_asks e)).length)) (s_lateAll (e_asks e) G) ∧ h_fr g (fun a => o a = 1000) o μ o1 μ1 := by
  obtain ⟨fs, al, ca, c1, c2, hL⟩ := hen.asks
  have hlen := s_setL_le (e_asks e)
  obtain ⟨μ2, e2, hI, f2, n2, u2⟩ := hL.iter (t' := 900) h.wf
  have h2 := h.fr (b := 9) f2 (fun a q => q.elim) (by omega)
  obtain ⟨μ3, e3, o3, r1, r2, r3, r4⟩ := x_forL (γ := z_M) (δ := s_G) (β := Option z_M) (s_setL (e_asks e))
    (R := fun k s G' => ∃ o', h_go g C o' s E (B + (9 + 18 * k)) G' ∧ h_it s μ.2.1 al k ∧ o' μ.2.1 = 900 ∧ h_fr g (fun a => o a = 1000) o μ o' s)
    (L := fun fu s => D_X12_runsOut_89 g (c_a C) v1 v2 (some μ.2.1) K fu s)
    (K := K) (f := fun k G => s_late k G)
    (fun fu s G' hR => by
      obtain ⟨o', h1, i1, o1, f1⟩ := hR
      have hL1 := hL.fr f1 h.wf (fun a ha (q : o a = 1000) => by have := hen.1; omega)
      show D_X12_runsOut_89 _ _ _ _ _ _ (fu + 1) _ = _
      unfold D_X12_runsOut_89
      rw [x_oS]
      exact i1.stop hL1 _ _)
    (fun fu k m s G' hR hk => by
      obtain ⟨o', h1, i1, o1, f1⟩ := hR
      have hL1 := hL.fr f1 h.wf (fun a ha (q : o a = 1000) => by have := hen.1; omega)
      have hm61 : m < 61 := hen.2.2.1 m (s_setL_mem (List.mem_of_getElem? hk)).1 (s_setL_mem (List.mem_of_getElem? hk)).2
      obtain ⟨μ4, e4, i4, f4, u4⟩ := i1.int hL1 h1.wf h.ok hk (by omega) (fun x114 μ109 => x_na (1 : Int32) fun n115 => x_nw μ109 n115 (.inl (0, n115, .inl (fun _ => 0))) fun p116 μ117 => x_ar μ117 p116 0 fun n120 f121 => x_ga (0 : Int32) n120 fun j123 => x_l (x_ia μ117 p116 0 n120 j123 f121 (3 : Int32)) fun μ126 => x_ob μ126 (c_a C) 12 fun _ => x_b (D_X12_end g (c_a C) x114 (some p116) μ126) fun μ130 => D_X12_runsOut_89 g (c_a C) v1 v2 (some μ.2.1) K fu μ130) (K s)
      have f14 : h_fr g (fun a => o a = 1000) o μ o' μ4 := f1.trans f4 (fun a ha q => by
        rcases q with q | q
        · exact q
        · omega)
      have h4 := h1.fr (b := 0) f4 (fun a q => by rw [q, o1]; omega) (by unfold h_u; rw [u4]; omega)
      obtain ⟨o5, μ5, e5, h5, f5⟩ := h4.late (k := m) hm61
      have hpl : μ.2.1 < s.2.1 := by
        obtain ⟨x, mm, arr, sz, k1, k2⟩ := i1
        exact h1.wf.lt k1
      have hp4 : μ.2.1 < μ4.2.1 := by rw [u4]; exact hpl
      refine ⟨μ5, ?_, o5, h5.le (by omega), i4.fr f5 f4.wf (fun (q : o' μ.2.1 = 1000) => by omega) (fun (q : o' al = 1000) => by have := hL1.1; have := hen.1; have := f1.2.1 p (hen.lt h.wf); omega), (f5.2.1 _ hp4).trans o1, f14.trans f5 (fun a ha q => ?_)⟩
      · show D_X12_runsOut_89 _ _ _ _ _ _ (fu + 1) _ = _
        conv => lhs; unfold D_X12_runsOut_89
        rw [x_oS]
        refine e4.trans ?_
        have h9 := h4.new (t := 0) (m := 1) (x := h_ia 1 (h_up (fun _ => 0) 0 3))
        have e5' : D_X12_end g (c_a C) (nI m) (some μ4.2.1) (z_new μ4 1 (h_ia 1 (h_up (fun _ => 0) 0 3))) = some μ5 := by
          rw [x_naL (i := 1) (n := 1) rfl (by omega), x_nwS] at e5
          have e6 := (x_arN (μ := μ4) (k := 1) (n := 1) (f := fun _ => 0) (i := 0) (j := 0) (v := 3) (kk := fun μ126 => x_ob μ126 (c_a C) 12 fun _ => D_X12_end g (c_a C) (nI m) (some μ4.2.1) μ126) rfl (by omega) (by omega)).symm.trans e5
          rw [h9.ob] at e6
          exact e6
        rw [x_naL (i := 1) (n := 1) rfl (by omega), x_nwS]
        refine (x_arN (i := 0) (j := 0) rfl (by omega) (by omega)).trans ?_
        rw [h9.ob, e5', x_bS]
      · rcases q with q | q
        · exact q
        · rw [f14.2.1 a ha] at q; exact q)
    x_F μ2 G ⟨h_o1 o μ.2.1 900, h2, hI, if_pos rfl, f2.mono (fun a _ q => q.elim)⟩ (by rw [x_Fv]; omega)
  refine ⟨o3, μ3, ?_, ?_, r4⟩
  · rw [x_grR c1 c2, x_oS, hL.obK, e2, x_b2S]
    exact e3
  · rw [s_lateAllL]
    exact r1
/-- an entry is taken out by its place -/
theorem h_go.removeE (h : h_go g C o μ E B G) (hq : (c_ns C)[n]? = some q) (hp : (E n)[i]? = some p) : ∃ μ1, (∀ (α : Type) (kk : Option Nat → z_M → Option α), (x_gr μ q 13 1 fun o36 => x_o o36 fun p40 => x_ob μ p40 3 fun _ => x_b2 (D_J2_remove g p40 (nI i) μ) kk) = kk (some p) μ1) ∧
    h_go g C o μ1 (s_up1 E n ((E n).eraseIdx i)) B (g_ses G n ((g_es G n).eraseIdx i)) ∧ h_fr g (fun a => o a = 1020 + n) o μ o μ1 ∧ μ1.2 = μ.2 := by
  obtain ⟨ce, hno, hce, hn6, hnn, reb⟩ := h.node hq
  have hno' := hno
  obtain ⟨h0, sl, el, ml, ds, f, h1, ⟨h2, h3⟩, ⟨h4, h5, h6⟩, h7, h8, h9⟩ := hno'
  obtain ⟨μ1, e1, q1, q2, q3⟩ := h4.remove h.wf hp
  have S0 : ∀ a, o a = 0 → ¬ o a = 1020 + n := fun a ha => by omega
  have hno1 : h_no g o μ1 n q ce ((E n).eraseIdx i) ((g_nd G n).1.eraseIdx i, (g_nd G n).2) (g_meas G) := ⟨h0, sl, el, ml, ds, f, q2.cell h.wf h1 (by omega), ⟨h2.fr q2 h.wf (fun a ha => by omega), h3.mono (fun x y _ hr => hr.fr q2 h.wf S0)⟩, ⟨q1, (h5.mono (fun x y _ hr => hr.fr q2 h.wf S0 (fun a ha (q : o a = 1020 + n) => by
    have := hr.1
    omega))).erase i, h6.sublist ((List.eraseIdx_sublist ..).map _)⟩, h7, q2.cell h.wf h8 (by omega), h9⟩
  have hu : h_u μ1 = h_u μ := by unfold h_u; rw [q3]
  have H := reb _ o μ1 ce _ _ (g_meas G) 0 q2 (fun a ha => Or.inr (Or.inl ha)) hno1 hce (by omega) (fun _ _ _ _ _ => rfl) ((h.1.2.2.1.node (n := n) (nd := ((g_nd G n).1.eraseIdx i, (g_nd G n).2)) (fun e he => h.1.2.2.1.sent hn6 e (List.mem_of_mem_eraseIdx he))))
  exact ⟨μ1, fun α kk => by rw [x_grR h1 rfl, x_oS, h4.obK, e1, x_b2S], H, q2, q3⟩
theorem s_lateAll_nd {set : Int64} : g_nd (s_lateAll set G) = g_nd G := s_fold_nd (fun k G => by
  by_cases c : s_hasL set (nI k) = true
  · rw [if_pos c]; rfl
  · rw [if_neg c]) _ _ _
theorem s_ends1_close : s_ends1 N n i e G = s_lateAll (e_asks e) (g_smeas (s_close n i (e_nonces e) G) (s_up1 (g_meas G) (6 * n + v_ (e_out e)) (N 1))) := by
  have h1 : s_ends1 N n i e G = g_ses (s_lateAll (e_asks e) (g_smeas (g_sdead G n (g_dead G n ||| e_nonces e)) (s_up1 (g_meas G) (6 * n + v_ (e_out e)) (N 1)))) n ((g_es (s_lateAll (e_asks e) (g_smeas (g_sdead G n (g_dead G n ||| e_nonces e)) (s_up1 (g_meas G) (6 * n + v_ (e_out e)) (N 1)))) n).eraseIdx i) := rfl
  rw [h1]
  unfold g_ses g_es
  rw [s_lateAll_nd, ← s_lateAll_snd, s_close_snd]
  congr 1
  show g_snd (g_smeas (g_snd G (s_up1 (g_nd G) n ((g_nd G n).1, (g_nd G n).2.1, g_dead G n ||| e_nonces e))) (s_up1 (g_meas G) (6 * n + v_ (e_out e)) (N 1))) (s_up1 (s_up1 (g_nd G) n ((g_nd G n).1, (g_nd G n).2.1, g_dead G n ||| e_nonces e)) n ((s_up1 (g_nd G) n ((g_nd G n).1, (g_nd G n).2.1, g_dead G n ||| e_nonces e) n).1.eraseIdx i, (s_up1 (g_nd G) n ((g_nd G n).1, (g_nd G n).2.1, g_dead G n ||| e_nonces e) n).2)) = _
  rw [s_up1_up1, s_up1_s]
  rfl
end T93
