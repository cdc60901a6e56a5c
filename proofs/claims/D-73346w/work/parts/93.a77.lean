/-! THE COMPONENT's LAW, 77: the call far -/
set_option maxRecDepth 100000
set_option maxHeartbeats 400000
set_option linter.unusedVariables false
/-- six small numbers in a row -/
def h_r6 (o : Nat → Nat) (μ : z_M) (p : Nat) (M : Nat → Nat) : Prop := o p = 870 ∧ (∀ y, y < 6 → M y ≤ 268435456) ∧ ∃ f, μ.1 p = some (h_ia 6 f) ∧ ∀ y, y < 6 → f y = nI (M y)
section T93
variable {g : z_G} {o o1 o2 : Nat → Nat} {μ μ1 μ2 : z_M} {a s x tb v i K q p2 d l : Nat} {S : Nat → Prop} {N R L : s_R} {p : Nat} {T : s_T} {ls rs ss : List Nat} {M : Nat → Nat} {n r m k c node b : Int32}
theorem h_r6.fr (h : h_r6 o μ p M) (hf : h_fr g S o μ o1 μ1) (hw : h_wf g μ) (hS : ¬ S p) : h_r6 o1 μ1 p M := by
  obtain ⟨h0, h1, f, h2, h3⟩ := h
  exact ⟨(hf.2.1 p (hw.lt h2)).trans h0, h1, f, hf.cell hw h2 hS, h3⟩
/-- one link is looked at -/
theorem h_nt.nears (h : h_nt g o μ p d N (s_lk0 N none) ls rs ss) (hN : n_ok N) (hw : h_wf g μ) (hl : l < n_links N) (hr : h_r6 o μ p2 M) : ∃ μ1, D_X5_nears g p (some p2) (nI (n_la N l)) (nI (n_lb N l)) μ = some μ1 ∧ h_r6 o μ1 p2 (s_near (n_la N l) (n_lb N l) (n_ld N l) M) ∧ h_fr g (fun b => b = p2) o μ o μ1 ∧ h_u μ1 = h_u μ := by
  obtain ⟨l1, l2, l3, l4, l5⟩ := s_lw_lt hN ⟨l, hl, Or.inl ⟨rfl, rfl⟩, rfl⟩
  have h6 : n_nodes N ≤ 6 := hN.1.1.2
  obtain ⟨h0, hb, f, h1, h2⟩ := hr
  have bA := hb (n_la N l) (by omega)
  have bB := hb (n_lb N l) (by omega)
  have hdl : s_dly N (s_lk0 N none) (6 * n_la N l + n_lb N l) = nI (n_ld N l) := by
    unfold s_dly
    rw [s_lk0_at hN hl]
  have hdel : D_X5_delay g p (nI (n_la N l)) (nI (n_lb N l)) μ = some (nI (n_ld N l)) := by
    rw [h.delay (by omega) (by omega), hdl]
  have F1 : h_fr g (fun b => b = p2) o μ o (z_set μ p2 (h_ia 6 (h_up f (n_lb N l) (nI (min (M (n_lb N l)) (M (n_la N l) + n_ld N l)))))) := h_fr.setA hw h1
  have hne : ¬ d = p2 := fun e => by
    obtain ⟨-, _, _, _, _, _, _, _, _, _, _, _, ⟨q, -⟩, _⟩ := h
    rw [e, h0] at q
    exact absurd q (by decide)
  have hn1 := h.fr F1 hw (fun b hb q => by rw [q, h0] at hb; omega) hne
  have hdel1 : D_X5_delay g p (nI (n_la N l)) (nI (n_lb N l)) (z_set μ p2 (h_ia 6 (h_up f (n_lb N l) (nI (min (M (n_lb N l)) (M (n_la N l) + n_ld N l)))))) = some (nI (n_ld N l)) := by
    rw [hn1.delay (by omega) (by omega), hdl]
  have c1 : (z_set μ p2 (h_ia 6 (h_up f (n_lb N l) (nI (min (M (n_lb N l)) (M (n_la N l) + n_ld N l)))))).1 p2 = some (h_ia 6 (h_up f (n_lb N l) (nI (min (M (n_lb N l)) (M (n_la N l) + n_ld N l))))) := z_set_self
  have F2 : h_fr g (fun b => b = p2) o (z_set μ p2 (h_ia 6 (h_up f (n_lb N l) (nI (min (M (n_lb N l)) (M (n_la N l) + n_ld N l)))))) o (z_set (z_set μ p2 (h_ia 6 (h_up f (n_lb N l) (nI (min (M (n_lb N l)) (M (n_la N l) + n_ld N l)))))) p2 (h_ia 6 (h_up (h_up f (n_lb N l) (nI (min (M (n_lb N l)) (M (n_la N l) + n_ld N l)))) (n_la N l) (nI (min (M (n_la N l)) (min (M (n_lb N l)) (M (n_la N l) + n_ld N l) + n_ld N l)))))) := h_fr.setA F1.wf c1
  have eA : h_up f (n_lb N l) (nI (min (M (n_lb N l)) (M (n_la N l) + n_ld N l))) (n_la N l) = nI (M (n_la N l)) := (if_neg l3).trans (h2 _ (by omega))
  have eB : h_up f (n_lb N l) (nI (min (M (n_lb N l)) (M (n_la N l) + n_ld N l))) (n_lb N l) = nI (min (M (n_lb N l)) (M (n_la N l) + n_ld N l)) := if_pos rfl
  refine ⟨_, ?_, ⟨h0, fun y hy => ?_, _, z_set_self, fun y hy => ?_⟩, F1.trans F2 (fun b _ q => q.elim id id), rfl⟩
  · unfold D_X5_nears
    rw [x_oS, x_arS h1, x_gaT (by omega) (by omega), x_arS h1, x_gaT (by omega) (by omega), h.ob, hdel, x_bS, h2 _ (by omega), h2 _ (by omega), nI_add, x_mnN (by omega) (by omega), x_arW h1 rfl (by omega) (by omega)]
    rw [x_arS c1, x_gaT (by omega) (by omega), x_arS c1, x_gaT (by omega) (by omega), hn1.ob, hdel1, x_bS, eA, eB, nI_add, x_mnN (by omega) (by omega), x_arW c1 rfl (by omega) (by omega)]
  · exact Nat.le_trans (s_near_le l3) (hb y hy)
  · unfold s_near
    by_cases ea : y = n_la N l
    · rw [ea, s_up1_s]
      exact if_pos rfl
    · rw [s_up1_n ea]
      refine (if_neg ea).trans ?_
      by_cases eb : y = n_lb N l
      · rw [eb, s_up1_s]
        exact if_pos rfl
      · rw [s_up1_n eb]
        exact (if_neg eb).trans (h2 y hy)
/-- all links are looked at -/
theorem h_nt.far36 (Kf : z_M → Option (Int32 × z_M)) (hN : n_ok N) {ll it nl : Nat} {a2 a4 : Int32} (hne : it ≠ p2) (hoi : o it = 900) (hol : o ll = 0) : ∀ (m f k : Nat) (M : Nat → Nat) (μ : z_M), h_nt g o μ p d N (s_lk0 N none) ls rs ss → h_ls g o μ 0 ll nl ls → h_wf g μ → h_r6 o μ p2 M → h_it μ it ll k → k + m = n_links N → m < f →
    ∃ μ1, D_X5_far_36 g p a2 p2 a4 (some it) Kf f μ = Kf μ1 ∧ h_r6 o μ1 p2 (s_fold (fun l M => s_near (n_la N l) (n_lb N l) (n_ld N l) M) k m M) ∧ h_fr g (fun b => b = p2 ∨ b = it) o μ o μ1 ∧ h_u μ1 = h_u μ := by
  intro m
  induction m with
  | zero =>
    intro f k M μ h hL hw hr hi hk hf
    obtain ⟨f, rfl⟩ : ∃ f', f = f' + 1 := ⟨f - 1, by omega⟩
    have hlen : ls.length = n_links N := by obtain ⟨-, _, _, _, _, _, _, _, _, _, -, -, -, ⟨-, q, -⟩, -⟩ := h; exact q
    refine ⟨μ, ?_, hr, h_fr.refl hw, rfl⟩
    have hi' : h_it μ it ll ls.length := by rw [hlen, ← hk]; exact hi
    conv => lhs; unfold D_X5_far_36
    rw [x_oS, hi'.end hL]
  | succ m ih =>
    intro f k M μ h hL hw hr hi hk hf
    obtain ⟨f, rfl⟩ : ∃ f', f = f' + 1 := ⟨f - 1, by omega⟩
    obtain ⟨hlen, hprs⟩ : ls.length = n_links N ∧ ∀ k x, ls[k]? = some x → h_pr o μ x (n_la N k) (n_lb N k) := by obtain ⟨-, _, _, _, _, _, _, _, _, _, -, -, -, ⟨-, q1, q2⟩, -⟩ := h; exact ⟨q1, q2⟩
    obtain ⟨x, hx⟩ := h_at hlen (show k < n_links N by omega)
    obtain ⟨x0, fx, xc, f0, f1⟩ := hprs k x hx
    obtain ⟨μ1, e1, hi1, F1, u1⟩ := hi.elem hL hw hx (show z_isA g μ x "[I" from Or.inr (Or.inl ⟨0, _, xc, by omega, rfl⟩))
    obtain ⟨y0, hb6, f6, c6, r6⟩ := id hr
    have hxi : x ≠ it := fun e => by rw [e, hoi] at x0; exact absurd x0 (by decide)
    have hdi : ¬ d = it := fun e => by
      obtain ⟨-, _, _, _, _, _, _, _, _, _, _, _, ⟨q, -⟩, _⟩ := h
      rw [e, hoi] at q
      exact absurd q (by decide)
    have hn1 := h.fr F1 hw (fun b hb q => by rw [q, hoi] at hb; exact absurd hb (by decide)) hdi
    have hr1 := hr.fr F1 hw (fun e => hne e.symm)
    have xc1 := F1.cell hw xc hxi
    obtain ⟨μ2, e2, hr2, F2, u2⟩ := hn1.nears hN F1.wf (show k < n_links N by omega) hr1
    have hdp : ¬ d = p2 := fun e => by
      obtain ⟨-, _, _, _, _, _, _, _, _, _, _, _, ⟨q, -⟩, _⟩ := h
      rw [e, y0] at q
      exact absurd q (by decide)
    have hn2 := hn1.fr F2 F1.wf (fun b hb q => by rw [q, y0] at hb; exact absurd hb (by decide)) hdp
    have hi2 := hi1.fr F2 F1.wf hne (fun e => by rw [e, y0] at hol; exact absurd hol (by decide))
    have hL2 := (hL.fr F1 hw (fun b hb q => by rw [q, hoi] at hb; exact absurd hb (by decide))).fr F2 F1.wf (fun b hb q => by rw [q, y0] at hb; exact absurd hb (by decide))
    obtain ⟨μ3, e3, hr3, F3, u3⟩ := ih f (k + 1) _ μ2 hn2 hL2 F2.wf hr2 hi2 (by omega) (by omega)
    refine ⟨μ3, ?_, hr3, (F1.trans F2 (S := fun b => b = p2 ∨ b = it) (fun b _ q => q.elim Or.inr Or.inl)).trans F3 (fun b _ q => q.elim id id), ?_⟩
    · conv => lhs; unfold D_X5_far_36
      rw [x_oS]
      refine (e1 (fun o50 μ51 => x_o o50 fun p53 => x_ar μ51 p53 0 fun n54 f55 => x_ga (0 : Int32) n54 fun j57 => x_ar μ51 p53 0 fun n58 f59 => x_ga (1 : Int32) n58 fun j61 => x_ob μ51 p 5 fun _ => x_b (D_X5_nears g p (some p2) (f55 j57) (f59 j61) μ51) fun μ65 => D_X5_far_36 g p a2 p2 a4 (some it) Kf f μ65) _).trans ?_
      rw [x_oS, x_arS xc1, x_gaL (i := 0) (j := 0) (n := 2) rfl (by omega) (by omega), x_arS xc1, x_gaL (i := 1) (j := 1) (n := 2) rfl (by omega) (by omega), hn1.ob, f0, f1, e2, x_bS]
      exact e3
    · have q1 : h_u μ1 = h_u μ := by unfold h_u; rw [u1]
      omega
/-- the rounds -/
theorem h_nt.far18 (Kf : z_M → Option (Int32 × z_M)) (hN : n_ok N) {a2 : Int32} : ∀ (m f k : Nat) (M : Nat → Nat) (o : Nat → Nat) (μ : z_M), h_nt g o μ p d N (s_lk0 N none) ls rs ss → h_wf g μ → h_r6 o μ p2 M → k + m = n_nodes N → m < f →
    ∃ o1 μ1, D_X5_far_18 g p a2 p2 Kf f (nI k) μ = Kf μ1 ∧ h_r6 o1 μ1 p2 (s_fold (fun _ M => s_round N M) k m M) ∧ h_fr g (fun b => b = p2) o μ o1 μ1 ∧ h_u μ1 = h_u μ + 9 * m := by
  have h6 : n_nodes N ≤ 6 := hN.1.1.2
  intro m
  induction m with
  | zero =>
    intro f k M o μ h hw hr hk hf
    obtain ⟨f, rfl⟩ : ∃ f', f = f' + 1 := ⟨f - 1, by omega⟩
    refine ⟨o, μ, ?_, hr, h_fr.refl hw, rfl⟩
    obtain ⟨-, rm, ll, rl, sl, nl, nr, ns, fr, fd, c1, -⟩ := id h
    have hN0 : N 0 = nI (n_nodes N) := hN.1.1.1
    conv => lhs; unfold D_X5_far_18
    rw [x_giS c1 rfl, hN0, if_pos (nI_le (by omega) (by omega))]
  | succ m ih =>
    intro f k M o μ h hw hr hk hf
    obtain ⟨f, rfl⟩ : ∃ f', f = f' + 1 := ⟨f - 1, by omega⟩
    obtain ⟨p0, rm, ll, rl, sl, nl, nr, ns, fr, fd, c1, -, ⟨d3, -⟩, ⟨hL, hlen, -⟩, -⟩ := id h
    have hN0 : N 0 = nI (n_nodes N) := hN.1.1.1
    have h15 : n_links N ≤ 15 := hN.2.2.1.2
    obtain ⟨μ1, e1, hi1, F1, l1, u1⟩ := hL.iter (o := o) 900 hw
    have hn1 := h.fr F1 hw (fun _ _ q => q) (fun q => q)
    have hr1 := hr.fr F1 hw (fun q => q)
    obtain ⟨y0, hb6, f6, c6, r6⟩ := id hr
    have hlp := hw.lt c6
    have hol : h_o1 o μ.2.1 900 ll = 0 := by
      have hlt : ll < μ.2.1 := by obtain ⟨-, -, -, -, mm, arr, q, -⟩ := hL; exact hw.lt q
      exact (h_o1_lt hlt).trans hL.1
    have hL1 := hL.fr F1 hw (fun _ _ q => q)
    obtain ⟨μ2, e2, hr2, F2, u2⟩ := h_nt.far36 (g := g) (p2 := p2) (p := p) (fun (μ66 : z_M) => x_l (nI k + (1 : Int32)) fun v67 => D_X5_far_18 g p a2 p2 Kf f v67 μ66) hN (ll := ll) (it := μ.2.1) (nl := nl) (a2 := a2) (a4 := nI k) (o := h_o1 o μ.2.1 900) (by omega) (if_pos rfl) hol (n_links N) x_F 0 M μ1 hn1 hL1 F1.wf hr1 hi1 (by omega) (by rw [x_Fv]; omega)
    have F12 : h_fr g (fun b => b = p2) o μ (h_o1 o μ.2.1 900) μ2 := F1.trans F2 (fun b hb q => by
      rcases q with q | q | q
      · exact q.elim
      · exact q
      · omega)
    have hdp : ¬ d = p2 := fun e => by rw [e, y0] at d3; exact absurd d3 (by decide)
    have hn2 := h.fr F12 hw (fun b hb q => by rw [q, y0] at hb; exact absurd hb (by decide)) hdp
    obtain ⟨o3, μ3, e3, hr3, F3, u3⟩ := ih f (k + 1) _ (h_o1 o μ.2.1 900) μ2 hn2 F12.wf hr2 (by omega) (by omega)
    refine ⟨o3, μ3, ?_, hr3, F12.trans F3 (fun b _ q => q.elim id id), by omega⟩
    conv => lhs; unfold D_X5_far_18
    rw [x_giS c1 rfl, hN0, if_neg (nI_ge (by omega) (by omega)), x_grR c1 rfl, x_oS, hL.obK, e1, x_b2S, e2, x_lS, nI_1]
    exact e3
theorem h_nt.far {aa bb : Nat} (h : h_nt g o μ p d N (s_lk0 N none) ls rs ss) (hok : z_ok g) (hN : n_ok N) (hw : h_wf g μ) (ha : aa < n_nodes N) (hb : bb < n_nodes N) : ∃ o1 μ1, D_X5_far g p (nI aa) (nI bb) μ = some (if s_far N (6 * aa + bb) < 1000000 then nI (s_far N (6 * aa + bb)) else -1, μ1) ∧ h_fr g (fun _ => False) o μ o1 μ1 ∧ h_u μ1 ≤ h_u μ + 100 := by
  have h6 : n_nodes N ≤ 6 := hN.1.1.2
  have F0 : h_fr g (fun _ => False) o μ (h_o1 o μ.2.1 870) (z_new μ 6 (h_ia 6 (fun _ => 0))) := h_fr.new hw
  obtain ⟨F, q1, q2⟩ := x_fill (v := (268435456 : Int32)) F0.wf (show (z_new μ 6 (h_ia 6 (fun _ => 0))).1 μ.2.1 = some (h_ia 6 (fun _ => 0)) from z_new_self) (by omega)
  rw [z_new_set] at q2
  have F1 : h_fr g (fun _ => False) o μ (h_o1 o μ.2.1 870) (z_new μ 6 (h_ia 6 (h_up F aa 0))) := h_fr.new hw
  have hn1 := h.fr F1 hw (fun _ _ q => q) (fun q => q)
  have e28 : (268435456 : Int32) = nI 268435456 := by decide
  have hr1 : h_r6 (h_o1 o μ.2.1 870) (z_new μ 6 (h_ia 6 (h_up F aa 0))) μ.2.1 (fun y => if y = aa then 0 else 268435456) := ⟨if_pos rfl, fun y hy => by show (if y = aa then 0 else 268435456) ≤ _; split <;> omega, _, z_new_self, fun y hy => by
    show (if y = aa then (0 : Int32) else F y) = nI (if y = aa then 0 else 268435456)
    by_cases e : y = aa
    · rw [if_pos e, if_pos e]
      rfl
    · rw [if_neg e, if_neg e, ← e28, ← q1 y hy]⟩
  obtain ⟨o3, μ3, e3, hr3, F3, u3⟩ := h_nt.far18 (g := g) (p := p) (p2 := μ.2.1) (a2 := nI bb) (fun (μ68 : z_M) => x_ar μ68 μ.2.1 0 fun n69 f70 => x_ga (nI bb) n69 fun j72 => if (f70 j72) = (268435456 : Int32) then (some ((-1 : Int32), μ68)) else
    x_ar μ68 μ.2.1 0 fun n74 f75 => x_ga (nI bb) n74 fun j77 => some ((f75 j77), μ68)) hN (n_nodes N) x_F 0 _ (h_o1 o μ.2.1 870) _ hn1 F1.wf hr1 (by omega) (by rw [x_Fv]; omega)
  refine ⟨o3, μ3, ?_, F1.trans F3 (fun b hb q => by rcases q with q | q; exact q; omega), by rw [u3, h_u_new]; omega⟩
  have hD : D_X5_far g p (nI aa) (nI bb) μ = D_X5_far_18 g p (nI bb) μ.2.1 (fun (μ68 : z_M) => x_ar μ68 μ.2.1 0 fun n69 f70 => x_ga (nI bb) n69 fun j72 => if (f70 j72) = (268435456 : Int32) then (some ((-1 : Int32), μ68)) else
    x_ar μ68 μ.2.1 0 fun n74 f75 => x_ga (nI bb) n74 fun j77 => some ((f75 j77), μ68)) x_F (nI 0) (z_new μ 6 (h_ia 6 (h_up F aa 0))) := by
    unfold D_X5_far
    rw [x_naL (i := 6) (n := 6) rfl (by omega), x_nwS]
    show x_b (D_J10_fill g (some μ.2.1) (268435456 : Int32) (z_new μ 6 (h_ia 6 (fun _ => 0)))) _ = _
    rw [q2, x_bS, x_arN (i := nI aa) (j := aa) rfl (by omega) (by omega)]
    rfl
  rw [hD, e3]
  -- the rounds
  have hrs : s_lst N aa (30 * n_nodes N) (s_fold (fun _ M => s_round N M) 0 (n_nodes N) (fun y => if y = aa then 0 else 268435456)) ∧ s_rnd N aa (n_nodes N) (s_fold (fun _ M => s_round N M) 0 (n_nodes N) (fun y => if y = aa then 0 else 268435456)) := by
    obtain ⟨b1, b2, b3, b4, b5⟩ := s_far_tb hN
    have H := s_foldP (fun k (M : Nat → Nat) => s_lst N aa (30 * k) M ∧ s_rnd N aa k M ∧ M aa = 0) (fun _ M => s_round N M) (n_nodes N) (fun M k hM hk => by
      refine ⟨by rw [show 30 * (k + 1) = 30 * k + 30 by omega]; exact hM.1.round hN (by omega), hM.2.1.round hN (by omega) hM.2.2, ?_⟩
      have := s_round_le hN (M := M) (z := aa)
      omega) (n_nodes N) 0 (fun y => if y = aa then 0 else 268435456) ⟨fun y hy => ?_, fun y hy hlt hrk => ?_, if_pos rfl⟩ (by omega)
    · rw [Nat.zero_add] at H
      exact ⟨H.1, H.2.1⟩
    · show s_far N (6 * aa + y) ≤ (if y = aa then 0 else 268435456) ∧ ((if y = aa then 0 else 268435456) = 268435456 ∨ (if y = aa then 0 else 268435456) ≤ 9 * (30 * 0))
      have := b5 aa y (by omega) hy
      by_cases e : y = aa
      · rw [if_pos e, e, b1 aa (by omega)]
        omega
      · rw [if_neg e]
        omega
    · show (if y = aa then 0 else 268435456) ≤ _
      by_cases e : y = aa
      · rw [if_pos e]
        exact Nat.zero_le _
      · exfalso
        -- the node itself is nearer
        have h0 : s_far N (6 * aa + aa) = 0 := b1 aa (by omega)
        obtain ⟨x, w, x1, x2, x3⟩ := b4 aa y (by omega) (by omega) (fun q => e q.symm) hlt
        have w1 := (s_lw_lt hN x2).2.2.2.1
        have := s_rk_mono (a := aa) (x := aa) (y := y) (by omega) ha h6
        omega
  have hfin := s_rounds hN ha hb hrs.2 (by omega) hrs.1
  obtain ⟨z0, z1, f3, c3, r3⟩ := hr3
  have hbb := r3 bb (by omega)
  have hle := z1 bb (by omega)
  generalize s_fold (fun _ M => s_round N M) 0 (n_nodes N) (fun y => if y = aa then 0 else 268435456) bb = v at hfin hbb hle
  rw [x_arS c3, x_gaT (by omega) (by omega), hbb]
  rcases hfin with ⟨v1, v2⟩ | ⟨v1, v2, v3⟩
  · rw [v1, if_pos e28.symm, if_neg v2]
  · rw [if_neg (fun q => v1 ((nI_eq (by omega) (by omega)).mp (q.trans e28))), x_arS c3, x_gaT (by omega) (by omega), hbb, v2, if_pos v3]
end T93
section T93
variable {g : z_G} {o o1 o2 : Nat → Nat} {μ μ1 μ2 : z_M} {a : Nat} {T : s_T} {n k m : Int32}
theorem h_iv.far (h : h_iv g o μ a T) : ∃ μ1, D_X0_far g a n k m μ = some (q_far T n k m, μ1) ∧ h_iv g (h_o9 o μ) μ1 a T ∧ h_u μ1 ≤ h_u μ + 8000 := by
  have hrefl : h_iv g (h_o9 o μ) μ a T := h.next (h_fr.refl h.2.1)
  unfold D_X0_far q_far
  rw [h.2.2.2.ob, h.isNode, x_bS]
  cases en : s_row (u_nets T.1) n with
  | none => exact ⟨μ, if_pos rfl, hrefl, by omega⟩
  | some N =>
    have hN := h.nets en
    show ∃ μ1, (if (if (s_node N k).isSome = true then (1 : Int32) else 0) = 0 then _ else _) = some ((match s_node N k with
      | none => (-1 : Int32)
      | some x => match s_node N m with
        | none => -1
        | some y => if s_far N (6 * x + y) < 1000000 then nI (s_far N (6 * x + y)) else -1), μ1) ∧ _
    cases ek : s_node N k with
    | none => exact ⟨μ, if_pos rfl, hrefl, by omega⟩
    | some x =>
      obtain ⟨x1, x2, x3⟩ := s_node_lt hN ek
      rw [if_neg (show ¬ (if (some x).isSome = true then (1 : Int32) else 0) = 0 from fun q => absurd (show (1 : Int32) = 0 from q) (by decide)), h.2.2.2.ob, h.isNode, x_bS, en]
      show ∃ μ1, (if (if (s_node N m).isSome = true then (1 : Int32) else 0) = 0 then _ else _) = some ((match s_node N m with
        | none => (-1 : Int32)
        | some y => if s_far N (6 * x + y) < 1000000 then nI (s_far N (6 * x + y)) else -1), μ1) ∧ _
      cases em : s_node N m with
      | none => exact ⟨μ, if_pos rfl, hrefl, by omega⟩
      | some y =>
        obtain ⟨y1, y2, y3⟩ := s_node_lt hN em
        obtain ⟨xn, e4, dd, ls, rs, ss, hnt⟩ := h.2.2.2.netOf en
        obtain ⟨o5, μ5, e5, F5, u5⟩ := hnt.far h.1 hN h.2.1 x2 y2
        refine ⟨μ5, ?_, h.next (F5.mono (fun _ _ q => q.elim)), by omega⟩
        rw [if_neg (show ¬ (if (some y).isSome = true then (1 : Int32) else 0) = 0 from fun q => absurd (show (1 : Int32) = 0 from q) (by decide)), h.2.2.2.ob, e4, x_bS, x_oS, hnt.ob, x3, y3, e5, x_b2S]
end T93
