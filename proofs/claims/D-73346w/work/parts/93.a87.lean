/-! THE COMPONENT's LAW, 87: the runs of a log -/
set_option maxRecDepth 100000
set_option maxHeartbeats 1000000
set_option linter.unusedVariables false
section T93
variable {g : z_G} {C : h_C} {o o1 o2 : Nat → Nat} {μ μ1 μ2 : z_M} {a s x tb v i K q B w0 en fa dl lgx pn d k cap : Nat} {S : Nat → Prop} {N R L : s_R} {p : s_Ft} {G : s_G} {w : Int32} {ks xs ls rs ss : List Nat} {A : Nat → Bool} {tm : Nat}
theorem h_fit.fr (h : h_fit g o μ fa dl w ks p) (hf : h_fr g S o μ o1 μ1) (hw : h_wf g μ) (hS : ∀ b, 870 ≤ o b ∧ o b ≤ 872 → ¬ S b) : h_fit g o1 μ1 fa dl w ks p := by
  obtain ⟨⟨h1, ll, ga, cap, fg, c1, c2, c3, c4, c5⟩, h2⟩ := h
  exact ⟨⟨(hf.2.1 fa (hw.lt c1)).trans h1, ll, ga, cap, fg, hf.cell hw c1 (hS fa (by omega)), c2.fr hf hw (fun b hb => hS b (by omega)), (hf.2.1 ga (hw.lt c4)).trans c3, hf.cell hw c4 (hS ga (by omega)), c5⟩, h2⟩
/-- two delays are changed -/
theorem h_nt.delays {lk lk' : Nat → Option Nat} {x y : Nat} (h : h_nt g o μ pn d N lk ls rs ss) (hw : h_wf g μ) (hx : x < 6) (hy : y < 6) (c : Int32) (hlk : ∀ j, j < 36 → s_dly N lk' j = if j = 6 * x + y ∨ j = 6 * y + x then c else s_dly N lk j) :
    ∃ f, μ.1 d = some (h_ia 36 f) ∧ (∀ j, j < 36 → f j = s_dly N lk j) ∧ (∀ {α : Type} (kk : z_M → Option α), (x_gr μ pn 5 3 fun o8 => x_o o8 fun p12 => x_ar μ p12 0 fun n13 f14 => x_ga (((6 : Int32) * nI x) + nI y) n13 fun j16 => x_l (x_ia μ p12 0 n13 j16 f14 c) fun μ19 => x_gr μ19 pn 5 3 fun o20 => x_o o20 fun p24 => x_ar μ19 p24 0 fun n25 f26 => x_ga (((6 : Int32) * nI y) + nI x) n25 fun j28 => x_l (x_ia μ19 p24 0 n25 j28 f26 c) kk) = kk (z_set μ d (h_ia 36 (h_up (h_up f (6 * x + y) c) (6 * y + x) c)))) ∧
      h_nt g o (z_set μ d (h_ia 36 (h_up (h_up f (6 * x + y) c) (6 * y + x) c))) pn d N lk' ls rs ss ∧ h_fr g (fun b => b = d) o μ o (z_set μ d (h_ia 36 (h_up (h_up f (6 * x + y) c) (6 * y + x) c))) := by
  obtain ⟨p0, rm, ll, rl, sl, nl, nr, ns, fr, fd, c1, ⟨m1, m2, m3⟩, ⟨d3, d4, d5⟩, ⟨L1, L2, L3⟩, ⟨R1, R2, R3⟩, ⟨S1, S2, S3⟩⟩ := id h
  have hpd : pn ≠ d := fun e => by rw [e, d4] at c1; cases c1
  have F : h_fr g (fun b => b = d) o μ o (z_set μ d (h_ia 36 (h_up (h_up fd (6 * x + y) c) (6 * y + x) c))) := h_fr.setA hw d4
  have S0 : ∀ b, o b = 0 → ¬ b = d := fun b hb q => by rw [q, d3] at hb; exact absurd hb (by decide)
  refine ⟨fd, d4, d5, fun kk => ?_, ⟨(F.2.1 pn (hw.lt c1)).trans p0, rm, ll, rl, sl, nl, nr, ns, fr, _, F.cell hw c1 hpd, ⟨m1, F.cell hw m2 (S0 _ m1), m3⟩, ⟨d3, z_set_self, fun j hj => ?_⟩, ⟨L1.fr F hw S0, L2, fun k x hx => (L3 k x hx).fr F hw S0⟩, ⟨R1.fr F hw S0, R2, fun k x hx => (R3 k x hx).fr F hw S0⟩, ⟨S1.fr F hw S0, S2, fun k x hx => (S3 k x hx).fr F hw S0⟩⟩, F⟩
  · have c1' : (z_set μ d (h_ia 36 (h_up fd (6 * x + y) c))).1 pn = _ := (z_set_ne hpd).trans c1
    have d4' : (z_set μ d (h_ia 36 (h_up fd (6 * x + y) c))).1 d = some (h_ia 36 (h_up fd (6 * x + y) c)) := z_set_self
    rw [x_grR c1 rfl, x_oS, nI_6, x_arW d4 rfl (by omega) (by omega), x_grR c1' rfl, x_oS, nI_6, x_arW d4' rfl (by omega) (by omega), z_set_set]
  · rw [hlk j hj]
    show (if j = 6 * y + x then c else if j = 6 * x + y then c else fd j) = _
    by_cases e1 : j = 6 * y + x
    · rw [if_pos e1, if_pos (Or.inr e1)]
    · rw [if_neg e1]
      by_cases e2 : j = 6 * x + y
      · rw [if_pos e2, if_pos (Or.inl e2)]
      · rw [if_neg e2, if_neg (by omega), d5 j hj]
/-- the nodes of a link, or none -/
theorem h_nt.pick {sel : Nat} (h : h_nt g o μ pn d N (s_lk0 N none) ls rs ss) (hN : n_ok N) (hi : i ≤ n_links N) (hs : sel < 2) {α : Type} (J : Int32 → Option α) : (if oI (s_away i) = (-1 : Int32) then (J (0 : Int32)) else x_o (some pn) fun p130 => x_gr μ p130 5 4 fun o131 => x_o o131 fun p135 => x_ob μ p135 3 fun _ => x_b (D_J2_get g p135 (oI (s_away i)) μ) fun o139 => x_gp (x_ic g μ o139 "[I") <| x_o o139 fun p141 => x_ar μ p141 0 fun n142 f143 => x_ga (nI sel) n142 fun j145 => J (f143 j145)) = J (nI (if sel = 0 then s_wx N i else s_wy N i)) := by
  have h15 : n_links N ≤ 15 := hN.2.2.1.2
  unfold s_wx s_wy s_away
  by_cases c : i = 0
  · rw [if_pos c, if_pos (show oI none = -1 from rfl), if_pos c, if_pos c]
    split <;> rfl
  · obtain ⟨p0, rm, ll, rl, sl, nl, nr, ns, fr, fd, c1, -, -, ⟨L1, L2, L3⟩, -, -⟩ := id h
    obtain ⟨y, hy⟩ := h_at L2 (show i - 1 < n_links N by omega)
    obtain ⟨y0, fy, yc, f0, f1⟩ := L3 (i - 1) y hy
    have hA : z_isA g μ y "[I" := Or.inr (Or.inl ⟨0, _, yc, by omega, rfl⟩)
    have hg : D_J2_get g ll (oI (some (i - 1))) μ = some (some y) := L1.get hy
    rw [if_neg c, if_neg (show ¬ oI (some (i - 1)) = -1 from oI_none (by omega)), x_oS, x_grR c1 rfl, x_oS, L1.obK, hg, x_bS, x_gpI (x_icI hA), x_oS, x_arS yc, x_gaT (by omega) (by omega), if_neg c, if_neg c]
    have hc : sel = 0 ∨ sel = 1 := by omega
    rcases hc with rfl | rfl
    · rw [f0, if_pos rfl]
    · rw [f1, if_neg (by omega)]
theorem h_fit.tries (cc : Nat → Nat → Int32) (hfit : h_fit g o μ fa dl w ks p) (hok : z_ok g) (hw : h_wf g μ) (hT : ∀ b, b < μ.2.1 → o b < 879) (hN : n_ok N) (hR : r_ok R) (hL : l_ok L) (hnt : h_nt g o μ pn d N (s_lk0 N none) ls rs ss) (hdl : h_dl g o μ 0 dl cap xs (r_dd R) (r_cnt R)) (hlo : h_lo g o μ lgx L) (hi : i ≤ n_links N) (hp : p.1 ≤ 15) :
    ∃ o1 μ1 ks', D_X20_tries g fa (some pn) (oI (s_away i)) (some lgx) μ = some μ1 ∧ h_fit g o1 μ1 fa dl w ks' (s_fit1 N R L w cc i p) ∧ h_fr g (fun b => 870 ≤ o b ∧ o b ≤ 872) o μ o1 μ1 ∧ (∀ b, b < μ1.2.1 → o1 b < 879) ∧ h_u μ1 ≤ h_u μ + (k_run (n_routes N) (r_cnt R) + 310) := by
  have h6 : n_nodes N ≤ 6 := hN.1.1.2
  have hc40 : r_cnt R ≤ 40 := hR.1.2
  have h15 : n_links N ≤ 15 := hN.2.2.1.2
  obtain ⟨hx6, hy6⟩ := s_wxy hN hi
  obtain ⟨⟨fa0, ll, ga, lcap, fg, fc, hll, ga0, gc, g40⟩, ⟨p1, p2, p3, p4⟩, p5, p6⟩ := id hfit
  have d3 : o d = 3 := by obtain ⟨-, _, _, _, _, _, _, _, _, _, _, _, ⟨q, -⟩, _⟩ := id hnt; exact q
  have hlk' := s_lk0_ok (N := N) (away := s_away i) hN
  -- the link is away
  obtain ⟨f, dc, df, D1, hnt1, F1⟩ := hnt.delays (lk' := s_lk0 N (s_away i)) hw hx6 hy6 0 (fun j hj => s_dly_away hN hi hj)
  have hdel : D_X5_delay g pn (nI (s_wx N i)) (nI (s_wy N i)) μ = some (s_dly N (s_lk0 N none) (6 * s_wx N i + s_wy N i)) := hnt.delay hx6 hy6
  generalize hM1 : z_set μ d (h_ia 36 (h_up (h_up f (6 * s_wx N i + s_wy N i) 0) (6 * s_wy N i + s_wx N i) 0)) = M1 at D1 hnt1 F1
  have M1u : h_u M1 = h_u μ := by rw [← hM1]; rfl
  have M1s : M1.2.1 = μ.2.1 := by rw [← hM1]; rfl
  have M1d : M1.1 d = some (h_ia 36 (h_up (h_up f (6 * s_wx N i + s_wy N i) 0) (6 * s_wy N i + s_wx N i) 0)) := by rw [← hM1]; exact z_set_self
  have dS0 : ∀ b, o b = 0 → ¬ b = d := fun b hb q => by rw [q, d3] at hb; exact absurd hb (by decide)
  -- the run
  obtain ⟨o2, M2, C, ak, e2, ⟨q2, q3, q4, q5, q6, q7, q8⟩, h2, F2, l2⟩ := h_rn_begin (Mw := k_Mw N (r_cnt R)) (Me := r_cnt R) (r_dd R) cc hok F1.wf hN hlk' hnt1 (k_Mw_b hN (by omega)) (by omega) (fun b hb => hT b (by omega))
  have fc1 := F1.cell hw fc (fun e => by rw [e, d3] at fa0; exact absurd fa0 (by decide))
  have fc2 := F2.cell F1.wf fc1 (fun q => q)
  have hdl2 := (hdl.fr F1 hw (fun b hb => dS0 b (by omega))).fr F2 F1.wf (fun _ _ q => q)
  have hA0 : s_Ak (r_dd R) 0 = fun _ => false := by
    funext j
    unfold s_Ak
    rw [decide_eq_false (by omega)]
    rfl
  obtain ⟨o3, M3, E3, e3, h3, F3⟩ := h2.goes (n := 40) (tl := 0) (fun μ56 => some (some M1.2.1, μ56)) (by omega) hc40 (fun j hj => hR.2 j hj) (by rw [q6, q4]; exact Nat.le_refl _) (by rw [q7]; exact Nat.le_refl _) (by omega) (min 40 (r_cnt R)) x_F 0 0 0 (fun _ => (0, 0)) o2 M2 (fun _ => []) _ _ hdl2 s_inv_begin s_cc_begin (by rw [hA0]; exact s_cinv_begin) (by omega) (by omega) (by rw [x_Fv]; omega)
  rw [show min 40 (r_cnt R) = r_cnt R by omega, q4, q5] at h3
  -- what it cost
  have hcost : h_u M3 ≤ h_u μ + k_run (n_routes N) (r_cnt R) := by
    have c0 := h3.1.cost
    have c1 := k_plays_le (c := cc) (m := r_cnt R) hN hlk' (by omega) (fun j hj => hR.2 j hj)
    have c2 := k_rooms_le (N := N) (D := r_cnt R) q6 q7
    have c3 : (s_plays N (s_lk0 N (s_away i)) (r_dd R) (r_cnt R) 0 0 (s_begin cc)) = (s_play N (s_lk0 N (s_away i)) (r_dd R) (r_cnt R) (s_begin cc)) := rfl
    unfold k_run
    omega
  have hcv : ∃ t', t' ≤ 99 ∧ s_cinv (s_Ak (r_dd R) (s_play N (s_lk0 N (s_away i)) (r_dd R) (r_cnt R) (s_begin cc)).1) t' (s_play N (s_lk0 N (s_away i)) (r_dd R) (r_cnt R) (s_begin cc)).2.2 := s_play_cinv (c := cc) hN hlk' hR (Nat.le_refl _)
  have hh3 : h_rn g C o3 M3 E3 _ (s_play N (s_lk0 N (s_away i)) (r_dd R) (r_cnt R) (s_begin cc)).2.2 M1.2.1 ak (s_play N (s_lk0 N (s_away i)) (r_dd R) (r_cnt R) (s_begin cc)).1 (s_play N (s_lk0 N (s_away i)) (r_dd R) (r_cnt R) (s_begin cc)).1 (s_play N (s_lk0 N (s_away i)) (r_dd R) (r_cnt R) (s_begin cc)).2.1 (s_Ak (r_dd R) (s_play N (s_lk0 N (s_away i)) (r_dd R) (r_cnt R) (s_begin cc)).1) := h3
  generalize hP : s_play N (s_lk0 N (s_away i)) (r_dd R) (r_cnt R) (s_begin cc) = P at hh3 hcv
  obtain ⟨t', ht', hcv'⟩ := hcv
  obtain ⟨r0, rc⟩ := hh3.2.1
  have F13 : h_fr g (fun b => b = d) o μ o3 M3 := (F1.trans F2 (S := fun b => b = d) (fun b _ q => q.elim id (fun q => q.elim))).trans F3 (fun b hb q => by
    rcases q with q | q
    · exact q
    · have e9 := (F1.trans F2 (S := fun b => b = d) (fun b _ q => q.elim id (fun q => q.elim))).2.1 b hb
      rw [e9] at q
      have := hT b hb
      omega)
  have d2 := F2.cell F1.wf M1d (fun q => q)
  have o2d : o2 d = 3 := (F2.2.1 d (F1.wf.lt M1d)).trans d3
  have d3' := F3.cell F2.wf d2 (by omega)
  have hnt3 : h_nt g o3 M3 pn d N (s_lk0 N (s_away i)) ls rs ss := by
    refine (hnt1.fr F2 F1.wf (fun _ _ q => q) (fun q => q)).fr F3 F2.wf (fun b hb => ?_) (by omega)
    omega
  have he9 : h_e9 o3 M3 (c_en C) P.2.2 := by
    obtain ⟨fe, a1, a2, a3⟩ := hh3.1.2.2.2.2.2.1
    exact ⟨fe, a2, a3⟩
  have oen : o3 (c_en C) = 1000 := by
    obtain ⟨fe, a1, a2, a3⟩ := hh3.1.2.2.2.2.2.1
    exact a1
  have o3d : o3 d = 3 := (F3.2.1 d (F2.wf.lt d2)).trans o2d
  -- the link is back
  obtain ⟨f4, dc4, df4, D4, hnt4, F4⟩ := hnt3.delays (lk' := s_lk0 N none) h3.1.wf hx6 hy6 (s_dly N (s_lk0 N none) (6 * s_wx N i + s_wy N i)) (fun j hj => by
    rw [s_dly_away hN hi hj]
    by_cases e1 : j = 6 * s_wx N i + s_wy N i
    · rw [if_pos (Or.inl e1), e1]
    · by_cases e2 : j = 6 * s_wy N i + s_wx N i
      · rw [if_pos (Or.inr e2), e2]
        exact s_dly_sym hN hi
      · rw [if_neg (by omega), if_neg (by omega)])
  have hback : h_up (h_up f4 (6 * s_wx N i + s_wy N i) (s_dly N (s_lk0 N none) (6 * s_wx N i + s_wy N i))) (6 * s_wy N i + s_wx N i) (s_dly N (s_lk0 N none) (6 * s_wx N i + s_wy N i)) = f := by
    have hf4 : f4 = h_up (h_up f (6 * s_wx N i + s_wy N i) 0) (6 * s_wy N i + s_wx N i) 0 := by
      rw [d3'] at dc4
      have e := Option.some.inj dc4
      have e1 : (h_ia 36 (h_up (h_up f (6 * s_wx N i + s_wy N i) 0) (6 * s_wy N i + s_wx N i) 0)) = h_ia 36 f4 := e
      injection e1 with e2
      injection e2 with e3 e4
      injection e4 with e5 e6
      injection e6 with e7
      exact e7.symm
    rw [hf4]
    funext j
    show (if j = 6 * s_wy N i + s_wx N i then _ else if j = 6 * s_wx N i + s_wy N i then _ else if j = 6 * s_wy N i + s_wx N i then (0 : Int32) else if j = 6 * s_wx N i + s_wy N i then (0 : Int32) else f j) = f j
    by_cases e1 : j = 6 * s_wy N i + s_wx N i
    · rw [if_pos e1, ← s_dly_sym hN hi, ← e1]
      exact (df j (by omega)).symm
    · rw [if_neg e1]
      by_cases e2 : j = 6 * s_wx N i + s_wy N i
      · rw [if_pos e2, ← e2]
        exact (df j (by omega)).symm
      · rw [if_neg e2, if_neg e1, if_neg e2]
  rw [hback] at D4 hnt4 F4
  have M4d : (z_set M3 d (h_ia 36 f)).1 d = μ.1 d := by rw [dc]; exact z_set_self
  have M4u : h_u (z_set M3 d (h_ia 36 f)) = h_u M3 := rfl
  have F14 : h_fr g (fun _ => False) o μ o3 (z_set M3 d (h_ia 36 f)) := h_fr.drop ((F13.trans F4 (S := fun b => b = d ∨ False) (fun b _ q => q.elim Or.inl Or.inl))) M4d
  have he4 := he9.fr F4 h3.1.wf (fun b hb q => by rw [q, o3d] at hb; exact absurd hb (by decide)) (fun q => by rw [q, o3d] at oen; exact absurd oen (by decide))
  generalize hM4 : z_set M3 d (h_ia 36 f) = M4 at D4 hnt4 F4 M4d M4u F14 he4
  -- tags
  have F14' := F14.clip hT
  have hfit4 := hfit.fr F14' hw (fun _ _ q => q)
  have hlo4 := hlo.fr F14' hw (fun _ _ q => q)
  have he4' : h_e9 (h_cl o3) M4 (c_en C) P.2.2 := by
    obtain ⟨fe, a1, a2⟩ := he4
    refine ⟨fe, a1, fun k hk => ?_⟩
    have hE := a2 k hk
    cases hfk : fe k with
    | none => rw [hfk] at hE; exact hE
    | some y =>
      rw [hfk] at hE
      obtain ⟨b1, b2⟩ := hE
      exact ⟨h_cl_eq b1 (by omega), b2⟩
  have hso := he4'.isSo hL hlo4 hcv' ht'
  -- the whole up to the log
  have hD : D_X20_tries g fa (some pn) (oI (s_away i)) (some lgx) μ = if s_isSo L P.2.2 = true then (x_gr M4 fa 20 0 fun o82 => x_b2 (D_J19_valueOf g (oI (s_away i)) M4) fun o87 μ88 => x_o o82 fun p89 => x_ob μ88 p89 3 fun _ => x_b2 (D_J2_add g p89 o87 μ88) fun x93 μ94 => D_X20_tries_166 g fa (some (c_en C)) (fun (μ128 : z_M) => some μ128) x_F (0 : Int32) μ94) else some M4 := by
    unfold D_X20_tries
    have pk0 : ∀ J : Int32 → Option z_M, (x_l J fun J22 => if oI (s_away i) = (-1 : Int32) then (J22 (0 : Int32)) else x_o (some pn) fun p130 => x_gr μ p130 5 4 fun o131 => x_o o131 fun p135 => x_ob μ p135 3 fun _ => x_b (D_J2_get g p135 (oI (s_away i)) μ) fun o139 => x_gp (x_ic g μ o139 "[I") <| x_o o139 fun p141 => x_ar μ p141 0 fun n142 f143 => x_ga (0 : Int32) n142 fun j145 => J22 (f143 j145)) = J (nI (s_wx N i)) := fun J => hnt.pick (sel := 0) hN hi (by omega) J
    have pk1 : ∀ J : Int32 → Option z_M, (x_l J fun J22 => if oI (s_away i) = (-1 : Int32) then (J22 (0 : Int32)) else x_o (some pn) fun p130 => x_gr μ p130 5 4 fun o131 => x_o o131 fun p135 => x_ob μ p135 3 fun _ => x_b (D_J2_get g p135 (oI (s_away i)) μ) fun o139 => x_gp (x_ic g μ o139 "[I") <| x_o o139 fun p141 => x_ar μ p141 0 fun n142 f143 => x_ga (1 : Int32) n142 fun j145 => J22 (f143 j145)) = J (nI (s_wy N i)) := fun J => hnt.pick (sel := 1) hN hi (by omega) J
    rw [pk0, pk1, x_oS,  hnt.ob, hdel, x_bS, D1, x_nwS, e2, x_bS, x_grS (o := some dl) fc2 rfl]
    have hob2 : ∀ {α : Type} {M : Option α}, x_ob M2 M1.2.1 11 (fun _ => M) = M := by
      obtain ⟨-, ⟨-, z⟩, -⟩ := id h2
      exact x_obS z
    rw [hob2]
    unfold D_X11_goes
    have e3' : D_X11_goes_0 g M1.2.1 (some dl) (40 : Int32) (fun μ56 => some (some M1.2.1, μ56)) x_F M2 = some (some M1.2.1, M3) := e3
    rw [e3', x_b2S, x_oS, x_grR rc rfl, x_oS, x_grR h3.1.ca rfl, D4, hso, x_bS]
    by_cases cso : s_isSo L P.2.2 = true
    · rw [if_pos cso, if_neg (show ¬ (1 : Int32) = 0 by decide), if_pos cso]
    · rw [if_neg cso, if_pos rfl, if_neg cso]
  rw [hD]
  have hfit1 : s_fit1 N R L w cc i p = if s_isSo L P.2.2 = true then s_note w (s_away i) P.2.2 p else p := by
    unfold s_fit1
    rw [hP]
  rw [hfit1]
  by_cases cso : s_isSo L P.2.2 = true
  · rw [if_pos cso, if_pos cso]
    obtain ⟨⟨fa4, ll4, ga4, lcap4, fg4, fc4, hll4, ga04, gc4, g404⟩, -⟩ := id hfit4
    have hT4 : ∀ b, b < M4.2.1 → h_cl o3 b < 879 := fun b _ => h_cl_lt _ _
    obtain ⟨o5, M5, n5, e5, hll5, F5, n51, n52, u5⟩ := hll4.add hok F14'.wf (x := h_iw g i) (by rw [List.length_map, p1]; omega) ⟨_, _, rfl, h_iw_isA hok (by omega), Or.inr (by decide)⟩
    have F5' := F5.clip hT4
    have fc5 := F5'.cell F14'.wf fc4 (by omega)
    have gc5 := F5'.cell F14'.wf gc4 (by omega)
    have he5 := he4'.fr F5' F14'.wf (fun b hb q => by omega) (by
      have : h_cl o3 (c_en C) = 0 := by unfold h_cl; rw [oen]; rfl
      omega)
    have ga5 : h_cl o5 ga4 = 872 := (F5'.2.1 ga4 (F14'.wf.lt gc4)).trans ga04
    have fa5 : h_cl o5 fa = 870 := (F5'.2.1 fa (F14'.wf.lt fc4)).trans fa4
    have en5 : h_cl o5 (c_en C) ≠ 872 := by
      have hlt : c_en C < M4.2.1 := by
        obtain ⟨fe, a1, -⟩ := he4'
        exact F14'.wf.lt a1
      rw [F5'.2.1 _ hlt]
      unfold h_cl
      rw [oen]
      decide
    obtain ⟨M6, e6, F6, ⟨fg6, gc6, g406⟩, u6⟩ := h_e9.counts (g := g) (μ := M5) (o := h_cl o5) (en := c_en C) (G := P.2.2) (fa := fa) (ga := ga4) (c0 := p.2.2) (fc := 0) (fun (μ128 : z_M) => some μ128) ⟨_, _, fc5⟩ ga5 fa5 en5 (fun k => by have := p4 k; omega) 40 x_F 0 M5 (h_fr.refl F5'.wf) F5'.wf he5 ⟨fg4, gc5, fun j _ hj => by omega, fun j hj _ => g404 j hj⟩ (by omega) (by rw [x_Fv]; omega)
    have hfa_ga : fa ≠ ga4 := fun e => by rw [e, ga5] at fa5; exact absurd fa5 (by decide)
    have F46 := F5'.trans F6 (S := fun b => 871 ≤ h_cl o3 b ∧ h_cl o3 b ≤ 872) (fun b hb q => by
      rcases q with q | q
      · omega
      · rw [q, ga04]; omega)
    have F16 : h_fr g (fun b => 870 ≤ o b ∧ o b ≤ 872) o μ (h_cl o5) M6 := F14'.trans F46 (fun b hb q => by
      rcases q with q | q
      · exact q.elim
      · rw [F14'.2.1 b hb] at q; omega)
    have hM6u : h_u M6 = h_u M5 := by unfold h_u; rw [u6]
    have hlenk : (ks.map (h_iw g)).length = ks.length := List.length_map _
    refine ⟨h_cl o5, M6, ks ++ [i], ?_, ⟨⟨fa5, ll4, ga4, n5, fg6, F6.cell F5'.wf fc5 hfa_ga, ?_, ga5, gc6, fun k hk => ?_⟩, ⟨?_, ?_, ?_, ?_⟩, ?_, ?_⟩, F16, fun b _ => h_cl_lt _ _, ?_⟩
    · rw [x_grR fc4 rfl, h_iw_of hok (by omega), x_b2S, x_oS, hll4.obK, e5, x_b2S]
      exact e6
    · rw [List.map_append]
      exact (hll5.clip (by omega)).fr F6 F5'.wf (fun b hb q => by rw [q, ga5] at hb; exact absurd hb (by decide))
    · exact g406 k hk
    · rw [List.length_append, p1]
      rfl
    · intro j hj
      rcases List.mem_append.mp hj with q | q
      · exact p2 j q
      · rw [List.mem_singleton.mp q]; omega
    · show p.1 + 1 ≤ 16
      omega
    · intro k
      show (if g_came P.2.2 57 k = 1 then p.2.2 k + 1 else p.2.2 k) ≤ p.1 + 1
      have := p4 k
      split <;> omega
    · intro j y hj hjw
      show (if nI p.1 = w then oI (s_away i) else p.2.1) = oI (s_away y)
      rcases l_snoc_get hj with q | ⟨q1, q2⟩
      · have hjl := (List.getElem?_eq_some_iff.mp q).1
        rw [if_neg (fun e => by
          have := (nI_eq (by omega) (by omega)).mp (e.trans hjw.symm)
          omega)]
        exact p5 j y q hjw
      · rw [q2, if_pos (by rw [← hjw, q1, p1])]
    · intro hj
      show (if nI p.1 = w then oI (s_away i) else p.2.1) = -2
      have hlen : (ks ++ [i]).length = p.1 + 1 := by rw [List.length_append, p1]; rfl
      rw [if_neg (hj p.1 (by omega))]
      exact p6 (fun j hj' => hj j (by omega))
    · rw [hM6u]
      rw [hlenk, p1] at n52
      have : h_u M5 ≤ h_u M4 + 300 := by
        rcases n52 with q | q
        · rw [q] at u5; omega
        · omega
      omega
  · rw [if_neg cso, if_neg cso]
    exact ⟨h_cl o3, M4, ks, rfl, hfit4, F14'.mono (fun _ _ q => q.elim), fun b _ => h_cl_lt _ _, by omega⟩
end T93
