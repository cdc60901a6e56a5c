/-! THE COMPONENT's LAW, 79: the call edges -/
set_option maxRecDepth 100000
set_option maxHeartbeats 400000
set_option linter.unusedVariables false
theorem find_succ (p : Nat → Bool) (n : Nat) : (s_find p 0 (n + 1)).isSome = ((s_find p 0 n).isSome || p n) := by
  cases h1 : s_find p 0 (n + 1) with
  | some j =>
    obtain ⟨-, j2, j3, j4⟩ := s_find_some h1
    cases h2 : s_find p 0 n with
    | some i => rfl
    | none =>
      by_cases c : j < n
      · have := s_find_none h2 j (by omega) (by omega)
        rw [j3] at this
        cases this
      · have e : j = n := by omega
        rw [← e, j3]
        rfl
  | none =>
    have h0 := s_find_none h1
    cases h2 : s_find p 0 n with
    | some i =>
      obtain ⟨-, i2, i3, -⟩ := s_find_some h2
      have := h0 i (by omega) (by omega)
      rw [i3] at this
      cases this
    | none =>
      rw [h0 n (by omega) (by omega)]
      rfl
theorem fold_or (p : Nat → Bool) (b v : Int32) : ∀ n, s_fold (fun a v => if p a = true then v ||| b else v) 0 n v = if (s_find p 0 n).isSome = true then v ||| b else v := by
  intro n
  induction n with
  | zero => rfl
  | succ n ih =>
    rw [s_fold_succ, Nat.zero_add, ih, find_succ]
    cases (s_find p 0 n).isSome <;> cases p n
    · rfl
    · rfl
    · rfl
    · show (v ||| b) ||| b = v ||| b
      rw [Int32.or_assoc, Int32.or_self]
section T93
variable {g : z_G} {o o1 o2 : Nat → Nat} {μ μ1 μ2 : z_M} {a s x tb v i K q d l t it nn : Nat} {S : Nat → Prop} {N R L : s_R} {p : Nat} {T : s_T} {ls rs ss xs : List Nat} {n r m k c node what : Int32}
/-- a loop over a list that changes nothing but its iterator -/
theorem it_loop {β : Type} {nm : String} (hw : h_wf g μ) (hL : h_ls g o μ t l nn xs) (hne : o it ≠ t) (hA : ∀ (k x : Nat), xs[k]? = some x → z_isA g μ x nm)
    (Lp : Nat → Int32 → z_M → Option β) (Bd : Nat → Int32 → Option Nat → z_M → Option β) (Kf : Int32 → z_M → Option β) (st : Nat → Int32 → Int32)
    (hU : ∀ f v μ, Lp (f + 1) v μ = x_ob μ it 25 fun _ => x_b (D_J20_hasNext g it μ) fun x => if x = 0 then Kf v μ else x_ob μ it 25 fun _ => x_b2 (D_J20_next g it μ) fun o' μ' => x_gp (x_ic g μ' o' nm) (Bd f v o' μ'))
    (hB : ∀ (k x : Nat) (v : Int32) (f : Nat) (μ' : z_M), xs[k]? = some x → h_fr g (fun a => a = it) o μ o μ' → Bd f v (some x) μ' = Lp f (st k v) μ') :
    ∀ (m f k : Nat) (v : Int32) (μ' : z_M), h_fr g (fun a => a = it) o μ o μ' → h_it μ' it l k → k + m = xs.length → m < f → ∃ μ1, Lp f v μ' = Kf (s_fold st k m v) μ1 ∧ h_fr g (fun a => a = it) o μ o μ1 ∧ h_u μ1 = h_u μ' := by
  intro m
  induction m with
  | zero =>
    intro f k v μ' F hi hk hf
    obtain ⟨f, rfl⟩ : ∃ f', f = f' + 1 := ⟨f - 1, by omega⟩
    have hL1 := hL.fr F hw (fun b hb q => hne (by rw [← q]; exact hb))
    have hi' : h_it μ' it l xs.length := by rw [← hk]; exact hi
    refine ⟨μ', ?_, F, rfl⟩
    rw [hU, hi'.end hL1]
    rfl
  | succ m ih =>
    intro f k v μ' F hi hk hf
    obtain ⟨f, rfl⟩ : ∃ f', f = f' + 1 := ⟨f - 1, by omega⟩
    have hL1 := hL.fr F hw (fun b hb q => hne (by rw [← q]; exact hb))
    obtain ⟨x, hx⟩ : ∃ x, xs[k]? = some x := ⟨_, List.getElem?_eq_getElem (by omega)⟩
    obtain ⟨μ1, e1, hi1, F1, u1⟩ := hi.elem hL1 F.wf hx (F.2.2.2.1 _ _ (hA k x hx))
    have F01 := F.trans F1 (S := fun a => a = it) (fun b _ q => q.elim id id)
    obtain ⟨μ2, e2, F2, u2⟩ := ih f (k + 1) (st k v) μ1 F01 hi1 (by omega) (by omega)
    refine ⟨μ2, ?_, F2, ?_⟩
    · rw [hU]
      refine (e1 (fun o' μ' => Bd f v o' μ') _).trans ?_
      rw [hB k x v f μ1 hx F01, e2]
      rfl
    · have q1 : h_u μ1 = h_u μ' := by unfold h_u; rw [u1]
      omega
theorem h_nt.edges (h : h_nt g o μ p d N (s_lk0 N none) ls rs ss) (hN : n_ok N) (hw : h_wf g μ) : ∃ o1 μ1, D_X5_edges g p μ = some (s_fold (fun k x => x ||| ((1 : Int32) <<< (nI (n_sn N k) &&& 31))) 0 (n_serves N) 0, μ1) ∧ h_fr g (fun _ => False) o μ o1 μ1 ∧ h_u μ1 ≤ h_u μ + 9 := by
  obtain ⟨p0, rm, ll, rl, sl, nl, nr, ns, fr, fd, c1, -, ⟨d3, -⟩, -, -, ⟨hL, hlen, hrt⟩⟩ := id h
  have h6s : n_serves N ≤ 6 := hN.2.2.2.2.1.2
  obtain ⟨μ1, e1, hi1, F1, l1, u1⟩ := hL.iter (o := o) 900 hw
  have hL1 := hL.fr F1 hw (fun _ _ q => q)
  have ho0 : h_o1 o μ.2.1 900 μ.2.1 = 900 := if_pos rfl
  obtain ⟨μ2, e2, F2, u2⟩ := it_loop (g := g) (o := h_o1 o μ.2.1 900) (μ := μ1) (it := μ.2.1) (nm := "AskedNames$Route") F1.wf hL1 (by rw [ho0]; decide) (fun k x hx => F1.2.2.2.1 _ _ (hrt k x hx).isA)
    (fun f v μ' => D_X5_edges_10 g p (some μ.2.1) (fun (v1_34 : Int32) (μ35 : z_M) => some (v1_34, μ35)) f v μ') (fun f v o25 μ26 => x_o o25 fun p28 => x_gi μ26 p28 8 0 fun x29 => x_l (v ||| ((1 : Int32) <<< (x29 &&& 31))) fun v33 => D_X5_edges_10 g p (some μ.2.1) (fun (v1_34 : Int32) (μ35 : z_M) => some (v1_34, μ35)) f v33 μ26)
    (fun v1_34 μ35 => some (v1_34, μ35)) (fun k x => x ||| ((1 : Int32) <<< (nI (n_sn N k) &&& 31)))
    (fun f v μ' => by
      conv => lhs; unfold D_X5_edges_10
      rw [x_oS])
    (fun k x v f μ' hx F => by
      obtain ⟨x0, w', hc, -⟩ := hrt k x hx
      have hxl := hw.lt hc
      have hc1 := F.cell F1.wf (F1.cell hw hc (fun q => q)) (show ¬ x = μ.2.1 by omega)
      rw [x_oS, x_giS hc1 rfl, x_lS]) (n_serves N) x_F 0 0 μ1 (h_fr.refl F1.wf) hi1 (by omega) (by rw [x_Fv]; omega)
  refine ⟨h_o1 o μ.2.1 900, μ2, ?_, F1.trans F2 (fun b hb q => by
    rcases q with q | q
    · exact q
    · omega), by omega⟩
  unfold D_X5_edges
  rw [x_grR c1 rfl, x_oS, hL.obK, e1, x_b2S]
  exact e2
theorem h_nt.routesN (h : h_nt g o μ p d N (s_lk0 N none) ls rs ss) (hN : n_ok N) (hw : h_wf g μ) (hn : q < 6) : ∃ o1 μ1, D_X5_routes g p (nI q) μ = some (nI (s_routesAt N q), μ1) ∧ h_fr g (fun _ => False) o μ o1 μ1 ∧ h_u μ1 ≤ h_u μ + 9 := by
  obtain ⟨p0, rm, ll, rl, sl, nl, nr, ns, fr, fd, c1, -, ⟨d3, -⟩, -, ⟨hL, hlen, hrt⟩, -⟩ := id h
  have h12 := n_routes12 hN
  obtain ⟨μ1, e1, hi1, F1, l1, u1⟩ := hL.iter (o := o) 900 hw
  have hL1 := hL.fr F1 hw (fun _ _ q => q)
  have ho0 : h_o1 o μ.2.1 900 μ.2.1 = 900 := if_pos rfl
  obtain ⟨μ2, e2, F2, u2⟩ := it_loop (g := g) (o := h_o1 o μ.2.1 900) (μ := μ1) (it := μ.2.1) (nm := "AskedNames$Route") F1.wf hL1 (by rw [ho0]; decide) (fun k x hx => F1.2.2.2.1 _ _ (hrt k x hx).isA)
    (fun f v μ' => D_X5_routes_10 g p (nI q) (some μ.2.1) (fun (v2_37 : Int32) (μ38 : z_M) => some (v2_37, μ38)) f v μ') (fun f v o26 μ27 => x_o o26 fun p29 => x_gi μ27 p29 8 0 fun x30 =>
      if x30 = nI q then (x_l (v + (1 : Int32)) fun v36 => D_X5_routes_10 g p (nI q) (some μ.2.1) (fun (v2_37 : Int32) (μ38 : z_M) => some (v2_37, μ38)) f v36 μ27) else
      x_l (v + (0 : Int32)) fun v35 => D_X5_routes_10 g p (nI q) (some μ.2.1) (fun (v2_37 : Int32) (μ38 : z_M) => some (v2_37, μ38)) f v35 μ27)
    (fun v1_34 μ35 => some (v1_34, μ35)) (fun k x => if n_rn N k = q then x + 1 else x)
    (fun f v μ' => by
      conv => lhs; unfold D_X5_routes_10
      rw [x_oS])
    (fun k x v f μ' hx F => by
      have hkl := (List.getElem?_eq_some_iff.mp hx).1
      obtain ⟨b1, -, -, -, -, b6, -⟩ := n_rt_b hN (show k < n_routes N by omega)
      obtain ⟨x0, w', hc, -⟩ := hrt k x hx
      have hxl := hw.lt hc
      have hc1 := F.cell F1.wf (F1.cell hw hc (fun q => q)) (show ¬ x = μ.2.1 by omega)
      rw [x_oS, x_giS hc1 rfl]
      by_cases c : n_rn N k = q
      · rw [if_pos (show nI (n_rn N k) = nI q by rw [c]), if_pos c, x_lS]
      · rw [if_neg (fun e => c ((nI_eq (by omega) (by omega)).mp e)), if_neg c, x_lS, Int32.add_zero]) (n_routes N) x_F 0 0 μ1 (h_fr.refl F1.wf) hi1 (by omega) (by rw [x_Fv]; omega)
  have hcnt : ∀ m, s_fold (fun k x => if n_rn N k = q then x + 1 else x) 0 m (0 : Int32) = nI (s_cntB (fun k => decide (n_rn N k = q)) m) := by
    intro m
    induction m with
    | zero => rfl
    | succ m ih =>
      rw [s_fold_succ, Nat.zero_add, ih, s_cntB_succ]
      by_cases c : n_rn N m = q
      · rw [if_pos c, if_pos (decide_eq_true c), nI_1]
      · rw [if_neg c, if_neg (fun e => c (of_decide_eq_true e)), Nat.add_zero]
  refine ⟨h_o1 o μ.2.1 900, μ2, ?_, F1.trans F2 (fun b hb q => by
    rcases q with q | q
    · exact q
    · omega), by omega⟩
  unfold D_X5_routes
  rw [x_grR c1 rfl, x_oS, hL.obK, e1, x_b2S]
  refine e2.trans ?_
  rw [hcnt]
  rfl
/-- leaves -/
theorem h_nt.leaves (h : h_nt g o μ p d N (s_lk0 N none) ls rs ss) (hN : n_ok N) : D_X5_leaves g p μ = some (s_fold (fun k x => if s_linksAt N k = 1 then x ||| ((1 : Int32) <<< (nI k &&& 31)) else x) 0 (n_nodes N) 0) := by
  have h6 : n_nodes N ≤ 6 := hN.1.1.2
  obtain ⟨-, rm, ll, rl, sl, nl, nr, ns, fr, fd, c1, -⟩ := id h
  have hN0 : N 0 = nI (n_nodes N) := hN.1.1.1
  have hlk : s_lkok N (s_lk0 N none) := s_lk0_ok hN
  have inner : ∀ (Kf : Int32 → Option Int32) (v1 : Int32) (n : Nat), n < 6 → D_X5_leaves_17 g p v1 (nI n) μ Kf x_F 0 0 = Kf (nI (s_linksAt N n)) := by
    intro Kf v1 n hn
    rw [← s_deg hN hn]
    unfold s_cntB
    refine x_for (fun _ (_ : Nat) => True) (fun f a b => D_X5_leaves_17 g p v1 (nI n) μ Kf f (nI a) (nI b)) (fun a => Kf (nI a)) (fun b a => if (s_lk0 N none (6 * n + b)).isSome = true then a + 1 else a) (n_nodes N) ?_ ?_ (fun _ _ _ _ => trivial) x_F 0 0 (by omega) trivial (by rw [x_Fv]; omega)
    · intro f a _
      show D_X5_leaves_17 _ _ _ _ _ _ (f + 1) _ _ = _
      unfold D_X5_leaves_17
      rw [x_giS c1 rfl, hN0, if_pos (Int32.le_refl _)]
    · intro f a b _ hb
      show D_X5_leaves_17 _ _ _ _ _ _ (f + 1) _ _ = _
      conv => lhs; unfold D_X5_leaves_17
      rw [x_giS c1 rfl, hN0, if_neg (nI_ge hb (by omega)), h.ob, h.delay hn (by omega), x_bS]
      cases e : s_lk0 N none (6 * n + b) with
      | none =>
        rw [if_pos ((s_dly0 hN hlk (by omega)).mpr e), x_lS, x_lS, nI_1, Int32.add_zero]
        rfl
      | some l =>
        rw [if_neg (fun q => by have := (s_dly0 hN hlk (by omega)).mp q; rw [e] at this; cases this), x_lS, x_lS, nI_1, nI_1]
        rfl
  unfold D_X5_leaves
  refine x_for (fun _ (_ : Int32) => True) (fun f a k => D_X5_leaves_4 g p μ (fun v => some v) f a (nI k)) (fun a => some a) (fun k x => if s_linksAt N k = 1 then x ||| ((1 : Int32) <<< (nI k &&& 31)) else x) (n_nodes N) ?_ ?_ (fun _ _ _ _ => trivial) x_F 0 0 (by omega) trivial (by rw [x_Fv]; omega)
  · intro f a _
    show D_X5_leaves_4 _ _ _ _ (f + 1) _ _ = _
    unfold D_X5_leaves_4
    rw [x_giS c1 rfl, hN0, if_pos (Int32.le_refl _)]
  · intro f a k _ hk
    show D_X5_leaves_4 _ _ _ _ (f + 1) _ _ = _
    conv => lhs; unfold D_X5_leaves_4
    have hle : s_linksAt N k ≤ n_links N := s_cntB_le _ _
    have h15 : n_links N ≤ 15 := hN.2.2.1.2
    rw [x_giS c1 rfl, hN0, if_neg (nI_ge hk (by omega)), inner _ _ k (by omega)]
    by_cases c : s_linksAt N k = 1
    · rw [if_pos (show nI (s_linksAt N k) = 1 by rw [c]; rfl), if_pos c, x_lS, x_lS, nI_1]
    · rw [if_neg (show ¬ nI (s_linksAt N k) = 1 from fun e => c ((nI_eq (b := 1) (by omega) (by omega)).mp e)), if_neg c, x_lS, x_lS, nI_1, Int32.or_zero]
/-- routes that lead nowhere -/
theorem h_nt.blind (h : h_nt g o μ p d N (s_lk0 N none) ls rs ss) (hN : n_ok N) : D_X5_blind g p μ = some (s_fold (fun k x => if s_lk0 N none (6 * n_rn N k + n_rt N k) = none then x ||| ((1 : Int32) <<< (nI k &&& 31)) else x) 0 (n_routes N) 0) := by
  have h12 := n_routes12 hN
  obtain ⟨-, rm, ll, rl, sl, nl, nr, ns, fr, fd, c1, -, -, -, ⟨r1, r2, r3⟩, -⟩ := id h
  have hlk : s_lkok N (s_lk0 N none) := s_lk0_ok hN
  unfold D_X5_blind
  refine x_for (fun _ (_ : Int32) => True) (fun f a k => D_X5_blind_4 g p μ (fun v => some v) f a (nI k)) (fun a => some a) (fun k x => if s_lk0 N none (6 * n_rn N k + n_rt N k) = none then x ||| ((1 : Int32) <<< (nI k &&& 31)) else x) (n_routes N) ?_ ?_ (fun _ _ _ _ => trivial) x_F 0 0 (by omega) trivial (by rw [x_Fv]; omega)
  · intro f a _
    show D_X5_blind_4 _ _ _ _ (f + 1) _ _ = _
    unfold D_X5_blind_4
    rw [x_lsz c1 rfl r1, r2, if_pos (Int32.le_refl _)]
  · intro f a k _ hk
    show D_X5_blind_4 _ _ _ _ (f + 1) _ _ = _
    obtain ⟨x, hx⟩ := h_at r2 hk
    obtain ⟨b1, -, -, -, -, b6, b7, b8, -⟩ := n_rt_b hN hk
    have hA : z_isA g μ x "AskedNames$Route" := (r3 k x hx).isA
    obtain ⟨x0, w', hc, hwn⟩ := r3 k x hx
    conv => lhs; unfold D_X5_blind_4
    rw [x_lsz c1 rfl r1, r2, if_neg (nI_ge hk (by omega)), x_lgt c1 rfl r1 hx hA, x_oS, x_giS hc rfl, x_lgt c1 rfl r1 hx hA, x_oS, x_giS hc rfl, h.ob, h.delay b6 b8, x_bS]
    by_cases c : s_lk0 N none (6 * n_rn N k + n_rt N k) = none
    · rw [if_pos ((s_dlyE hN hlk (by omega)).mpr c), if_pos c, x_lS, x_lS, nI_1]
    · rw [if_neg (fun e => c ((s_dlyE hN hlk (by omega)).mp e)), if_neg c, x_lS, x_lS, nI_1, Int32.or_zero]
theorem h_rt.isLike {x y i1 i2 c1 c2 w1 w2 t1 t2 : Nat} (h : h_rt o μ x i1 (nI t1) c1 w1) (h' : h_rt o μ y i2 (nI t2) c2 w2) (hw : h_wf g μ) (hok : z_ok g) (hb : i1 < 6 ∧ i2 < 6 ∧ t1 < 6 ∧ t2 < 6) : D_X8_isLike g x (some y) μ = some (if i2 = i1 ∧ w2 = w1 ∧ t2 = t1 then 1 else 0) := by
  obtain ⟨x0, p1, a1, b1⟩ := h
  obtain ⟨y0, p2, a2, b2⟩ := h'
  unfold D_X8_isLike
  rw [x_giS a1 rfl, x_oS, x_giS a2 rfl]
  by_cases e1 : i1 = i2
  · rw [if_pos (show nI i1 = nI i2 by rw [e1]), x_giS a1 rfl, x_giS a2 rfl]
    by_cases e2 : t1 = t2
    · rw [if_pos (show nI t1 = nI t2 by rw [e2]), x_grR a1 rfl, x_grR a2 rfl, x_oS, x_gpI (b1.isA hw), b1.eq b2 hw hok, x_bS]
      by_cases e3 : w1 = w2
      · rw [if_pos e3, if_neg (by decide), if_pos ⟨e1.symm, e3.symm, e2.symm⟩]
      · rw [if_neg e3, if_pos rfl, if_neg (fun q => e3 q.2.1.symm)]
    · rw [if_neg (fun q => e2 ((nI_eq (by omega) (by omega)).mp q)), if_neg (fun q => e2 q.2.2.symm)]
  · rw [if_neg (fun q => e1 ((nI_eq (by omega) (by omega)).mp q)), if_neg (fun q => e1 q.1.symm)]
/-- routes that stand twice -/
theorem h_nt.hidden (h : h_nt g o μ p d N (s_lk0 N none) ls rs ss) (hN : n_ok N) (hw : h_wf g μ) (hok : z_ok g) : D_X5_hidden g p μ = some (s_fold (fun k x => if s_hidden N k = true then x ||| ((1 : Int32) <<< (nI k &&& 31)) else x) 0 (n_routes N) 0) := by
  have h12 := n_routes12 hN
  obtain ⟨-, rm, ll, rl, sl, nl, nr, ns, fr, fd, c1, -, -, -, ⟨r1, r2, r3⟩, -⟩ := id h
  have inner : ∀ (Kf : Int32 → Option Int32) (v : Int32) (k : Nat), k < n_routes N → D_X5_hidden_17 g p (nI k) μ Kf x_F v 0 = Kf (if s_hidden N k = true then v ||| ((1 : Int32) <<< (nI k &&& 31)) else v) := by
    intro Kf v k hk
    unfold s_hidden
    rw [← fold_or]
    refine x_for (fun _ (_ : Int32) => True) (fun f a b => D_X5_hidden_17 g p (nI k) μ Kf f a (nI b)) (fun a => Kf a) (fun e v => if (decide (n_rn N e = n_rn N k) && decide (n_rw N e = n_rw N k) && decide (n_rt N e = n_rt N k)) = true then v ||| ((1 : Int32) <<< (nI k &&& 31)) else v) k ?_ ?_ (fun _ _ _ _ => trivial) x_F 0 v (by omega) trivial (by rw [x_Fv]; omega)
    · intro f a _
      show D_X5_hidden_17 _ _ _ _ _ (f + 1) _ _ = _
      unfold D_X5_hidden_17
      rw [if_pos (Int32.le_refl _)]
    · intro f a b _ hb
      show D_X5_hidden_17 _ _ _ _ _ (f + 1) _ _ = _
      obtain ⟨x, hx⟩ := h_at r2 hk
      obtain ⟨y, hy⟩ := h_at r2 (show b < n_routes N by omega)
      obtain ⟨-, -, -, -, -, b6, b7, b8, -⟩ := n_rt_b hN hk
      obtain ⟨-, -, -, -, -, d6, d7, d8, -⟩ := n_rt_b hN (show b < n_routes N by omega)
      have hl := (r3 k x hx).isLike (r3 b y hy) hw hok ⟨b6, d6, b8, d8⟩
      have hob : ∀ {α : Type} {M : Option α}, x_ob μ x 8 (fun _ => M) = M := by
        obtain ⟨x0, w', hc, -⟩ := r3 k x hx
        exact x_obS hc
      conv => lhs; unfold D_X5_hidden_17
      rw [if_neg (nI_ge hb (by omega)), x_lgt c1 rfl r1 hx (r3 k x hx).isA, x_lgt c1 rfl r1 hy (r3 b y hy).isA, x_oS, hob, hl, x_bS]
      by_cases c : n_rn N b = n_rn N k ∧ n_rw N b = n_rw N k ∧ n_rt N b = n_rt N k
      · rw [if_pos c, if_neg (by decide), x_lS, x_lS, nI_1, if_pos (by rw [decide_eq_true c.1, decide_eq_true c.2.1, decide_eq_true c.2.2]; rfl)]
      · rw [if_neg c, if_pos rfl, x_lS, x_lS, nI_1, Int32.or_zero, if_neg (fun q => c (by simp only [Bool.and_eq_true, decide_eq_true_eq] at q; exact ⟨q.1.1, q.1.2, q.2⟩))]
  unfold D_X5_hidden
  refine x_for (fun _ (_ : Int32) => True) (fun f a k => D_X5_hidden_4 g p μ (fun v => some v) f a (nI k)) (fun a => some a) (fun k x => if s_hidden N k = true then x ||| ((1 : Int32) <<< (nI k &&& 31)) else x) (n_routes N) ?_ ?_ (fun _ _ _ _ => trivial) x_F 0 0 (by omega) trivial (by rw [x_Fv]; omega)
  · intro f a _
    show D_X5_hidden_4 _ _ _ _ (f + 1) _ _ = _
    unfold D_X5_hidden_4
    rw [x_lsz c1 rfl r1, r2, if_pos (Int32.le_refl _)]
  · intro f a k _ hk
    show D_X5_hidden_4 _ _ _ _ (f + 1) _ _ = _
    conv => lhs; unfold D_X5_hidden_4
    rw [x_lsz c1 rfl r1, r2, if_neg (nI_ge hk (by omega)), inner _ _ k hk, x_lS, nI_1]
/-- serves that another one stands ahead of -/
theorem h_nt.served (h : h_nt g o μ p d N (s_lk0 N none) ls rs ss) (hN : n_ok N) (hw : h_wf g μ) (hok : z_ok g) : D_X5_served g p μ = some (s_fold (fun k x => if s_served N k = true then x ||| ((1 : Int32) <<< (nI k &&& 31)) else x) 0 (n_serves N) 0) := by
  have h6s : n_serves N ≤ 6 := hN.2.2.2.2.1.2
  obtain ⟨-, rm, ll, rl, sl, nl, nr, ns, fr, fd, c1, -, -, -, -, ⟨r1, r2, r3⟩⟩ := id h
  have inner : ∀ (Kf : Int32 → Option Int32) (v : Int32) (k : Nat), k < n_serves N → D_X5_served_17 g p (nI k) μ Kf x_F v 0 = Kf (if s_served N k = true then v ||| ((1 : Int32) <<< (nI k &&& 31)) else v) := by
    intro Kf v k hk
    unfold s_served
    rw [← fold_or]
    refine x_for (fun _ (_ : Int32) => True) (fun f a b => D_X5_served_17 g p (nI k) μ Kf f a (nI b)) (fun a => Kf a) (fun e v => if (decide (e ≠ k) && decide (n_sn N e = n_sn N k) && s_pre (n_sw N e) (n_sw N k)) = true then v ||| ((1 : Int32) <<< (nI k &&& 31)) else v) (n_serves N) ?_ ?_ (fun _ _ _ _ => trivial) x_F 0 v (by omega) trivial (by rw [x_Fv]; omega)
    · intro f a _
      show D_X5_served_17 _ _ _ _ _ (f + 1) _ _ = _
      unfold D_X5_served_17
      rw [x_lsz c1 rfl r1, r2, if_pos (Int32.le_refl _)]
    · intro f a b _ hb
      show D_X5_served_17 _ _ _ _ _ (f + 1) _ _ = _
      obtain ⟨x, hx⟩ := h_at r2 hk
      obtain ⟨y, hy⟩ := h_at r2 hb
      obtain ⟨b1, -, -, -, b5, -⟩ := n_sv_b hN hk
      obtain ⟨d1, -, -, -, d5, -⟩ := n_sv_b hN hb
      have hAx : z_isA g μ x "AskedNames$Route" := (r3 k x hx).isA
      have hAy : z_isA g μ y "AskedNames$Route" := (r3 b y hy).isA
      obtain ⟨x0, w', hc, hwn⟩ := r3 k x hx
      obtain ⟨y0, v', hd, hvn⟩ := r3 b y hy
      conv => lhs; unfold D_X5_served_17
      rw [x_lsz c1 rfl r1, r2, if_neg (nI_ge hb (by omega)), x_lS]
      have hJ : (x_l (a ||| (0 : Int32)) fun v31 => x_l (nI b + (1 : Int32)) fun v32 => D_X5_served_17 g p (nI k) μ Kf f v31 v32) = D_X5_served_17 g p (nI k) μ Kf f a (nI (b + 1)) := by
        rw [x_lS, x_lS, nI_1, Int32.or_zero]
      by_cases e1 : b = k
      · rw [if_pos (show nI b = nI k by rw [e1]), if_neg (show ¬ (decide (b ≠ k) && decide (n_sn N b = n_sn N k) && s_pre (n_sw N b) (n_sw N k)) = true by rw [decide_eq_false (fun q => q e1)]; exact Bool.false_ne_true)]
        exact hJ
      · rw [if_neg (fun q => e1 ((nI_eq (by omega) (by omega)).mp q)), x_lgt c1 rfl r1 hx hAx, x_oS, x_giS hc rfl, x_lgt c1 rfl r1 hy hAy, x_oS, x_giS hd rfl]
        by_cases e2 : n_sn N b = n_sn N k
        · rw [if_pos (show nI (n_sn N k) = nI (n_sn N b) by rw [e2]), x_lgt c1 rfl r1 hx hAx, x_oS, x_grR hc rfl, x_lgt c1 rfl r1 hy hAy, x_oS, x_grR hd rfl, x_oS, x_gpI (hwn.isA hw), hwn.starts hvn hw hok, x_bS]
          by_cases e3 : s_pre (n_sw N b) (n_sw N k) = true
          · rw [if_pos e3, if_neg (by decide), x_lS, x_lS, nI_1, if_pos (by rw [decide_eq_true e1, decide_eq_true e2, e3]; rfl)]
          · rw [if_neg e3, if_pos rfl, if_neg (show ¬ (decide (b ≠ k) && decide (n_sn N b = n_sn N k) && s_pre (n_sw N b) (n_sw N k)) = true from fun q => e3 (by simp only [Bool.and_eq_true] at q; exact q.2))]
            exact hJ
        · rw [if_neg (fun q => e2 ((nI_eq (by omega) (by omega)).mp q).symm), if_neg (show ¬ (decide (b ≠ k) && decide (n_sn N b = n_sn N k) && s_pre (n_sw N b) (n_sw N k)) = true from fun q => e2 (by simp only [Bool.and_eq_true, decide_eq_true_eq] at q; exact q.1.2))]
          exact hJ
  unfold D_X5_served
  refine x_for (fun _ (_ : Int32) => True) (fun f a k => D_X5_served_4 g p μ (fun v => some v) f a (nI k)) (fun a => some a) (fun k x => if s_served N k = true then x ||| ((1 : Int32) <<< (nI k &&& 31)) else x) (n_serves N) ?_ ?_ (fun _ _ _ _ => trivial) x_F 0 0 (by omega) trivial (by rw [x_Fv]; omega)
  · intro f a _
    show D_X5_served_4 _ _ _ _ (f + 1) _ _ = _
    unfold D_X5_served_4
    rw [x_lsz c1 rfl r1, r2, if_pos (Int32.le_refl _)]
  · intro f a k _ hk
    show D_X5_served_4 _ _ _ _ (f + 1) _ _ = _
    conv => lhs; unfold D_X5_served_4
    rw [x_lsz c1 rfl r1, r2, if_neg (nI_ge hk (by omega)), inner _ _ k hk, x_lS, nI_1]
end T93
/-- the answer by kinds -/
theorem s_edges_w {N : s_R} (hN : n_ok N) : s_edges N (s_lk0 N none) 0 = s_fold (fun k x => x ||| ((1 : Int32) <<< (nI (n_sn N k) &&& 31))) 0 (n_serves N) 0 ∧
    s_edges N (s_lk0 N none) 1 = s_fold (fun k x => if s_linksAt N k = 1 then x ||| ((1 : Int32) <<< (nI k &&& 31)) else x) 0 (n_nodes N) 0 ∧
    s_edges N (s_lk0 N none) 2 = s_fold (fun k x => if s_lk0 N none (6 * n_rn N k + n_rt N k) = none then x ||| ((1 : Int32) <<< (nI k &&& 31)) else x) 0 (n_routes N) 0 ∧
    s_edges N (s_lk0 N none) 3 = s_fold (fun k x => if s_hidden N k = true then x ||| ((1 : Int32) <<< (nI k &&& 31)) else x) 0 (n_routes N) 0 ∧
    s_edges N (s_lk0 N none) 4 = s_fold (fun k x => if s_served N k = true then x ||| ((1 : Int32) <<< (nI k &&& 31)) else x) 0 (n_serves N) 0 := by
  have h12 := n_routes12 hN
  have h6s : n_serves N ≤ 6 := hN.2.2.2.2.1.2
  have h6 : n_nodes N ≤ 6 := hN.1.1.2
  have gen : ∀ (what : Int32) (m : Nat) (st : Nat → Int32 → Int32), m ≤ 12 → (∀ (k : Nat) (y : Int32), k < m → (if s_edge N (s_lk0 N none) what k = true then y ||| ((1 : Int32) <<< (nI (if what = 0 then n_sn N k else k) &&& 31)) else y) = st k y) → (∀ k, m ≤ k → s_edge N (s_lk0 N none) what k = false) → s_edges N (s_lk0 N none) what = s_fold st 0 m 0 := by
    intro what m st hm h1 h2
    unfold s_edges
    rw [fold_cut hm (fun k y hk => by rw [h2 k hk]; rfl)]
    exact s_fold_congr m h1 m 0 0 (by omega)
  have hup : ∀ k, k < n_routes N → ((!s_up (s_lk0 N none) 0 (n_rn N k) (n_rt N k)) = true ↔ s_lk0 N none (6 * n_rn N k + n_rt N k) = none) := by
    intro k hk
    unfold s_up
    cases e : s_lk0 N none (6 * n_rn N k + n_rt N k) with
    | none => exact ⟨fun _ => rfl, fun _ => rfl⟩
    | some l =>
      refine ⟨fun q => ?_, fun q => by cases q⟩
      obtain ⟨-, -, -, -, -, b6, -, b8, -⟩ := n_rt_b hN hk
      have h15 : n_links N ≤ 15 := hN.2.2.1.2
      have hl := (s_lk0_ok (away := none) hN (6 * n_rn N k + n_rt N k) l (by omega) e).1
      have hb : s_bit 0 (nI l) = false := s_bit_0 (by omega)
      have hb' : decide (((0 : Int32) >>> (nI l &&& 31)) &&& 1 = 1) = false := hb
      have q' : (!!decide (((0 : Int32) >>> (nI l &&& 31)) &&& 1 = 1)) = true := q
      rw [hb'] at q'
      cases q'
  refine ⟨?_, ?_, ?_, ?_, ?_⟩
  · refine gen 0 (n_serves N) _ (by omega) (fun k y hk => ?_) (fun k hk => ?_)
    · rw [if_pos (show s_edge N (s_lk0 N none) 0 k = true from decide_eq_true hk), if_pos rfl]
    · exact decide_eq_false (by omega)
  · refine gen 1 (n_nodes N) _ (by omega) (fun k y hk => ?_) (fun k hk => ?_)
    · have e : s_edge N (s_lk0 N none) 1 k = (decide (k < n_nodes N) && decide (s_linksAt N k = 1)) := rfl
      rw [e, decide_eq_true hk, Bool.true_and, if_neg (show ¬ (1 : Int32) = 0 by decide)]
      by_cases c : s_linksAt N k = 1
      · rw [if_pos (decide_eq_true c), if_pos c]
      · rw [if_neg (fun q => c (of_decide_eq_true q)), if_neg c]
    · have e : s_edge N (s_lk0 N none) 1 k = (decide (k < n_nodes N) && decide (s_linksAt N k = 1)) := rfl
      rw [e, decide_eq_false (by omega)]; rfl
  · refine gen 2 (n_routes N) _ (by omega) (fun k y hk => ?_) (fun k hk => ?_)
    · have e : s_edge N (s_lk0 N none) 2 k = (decide (k < n_routes N) && !s_up (s_lk0 N none) 0 (n_rn N k) (n_rt N k)) := rfl
      rw [e, decide_eq_true hk, Bool.true_and, if_neg (show ¬ (2 : Int32) = 0 by decide)]
      by_cases c : s_lk0 N none (6 * n_rn N k + n_rt N k) = none
      · rw [if_pos ((hup k hk).mpr c), if_pos c]
      · rw [if_neg (fun q => c ((hup k hk).mp q)), if_neg c]
    · have e : s_edge N (s_lk0 N none) 2 k = (decide (k < n_routes N) && !s_up (s_lk0 N none) 0 (n_rn N k) (n_rt N k)) := rfl
      rw [e, decide_eq_false (by omega)]; rfl
  · refine gen 3 (n_routes N) _ (by omega) (fun k y hk => ?_) (fun k hk => ?_)
    · have e : s_edge N (s_lk0 N none) 3 k = (decide (k < n_routes N) && s_hidden N k) := rfl
      rw [e, decide_eq_true hk, Bool.true_and, if_neg (show ¬ (3 : Int32) = 0 by decide)]
    · have e : s_edge N (s_lk0 N none) 3 k = (decide (k < n_routes N) && s_hidden N k) := rfl
      rw [e, decide_eq_false (by omega)]; rfl
  · refine gen 4 (n_serves N) _ (by omega) (fun k y hk => ?_) (fun k hk => ?_)
    · have e : s_edge N (s_lk0 N none) 4 k = (decide (k < n_serves N) && s_served N k) := rfl
      rw [e, decide_eq_true hk, Bool.true_and, if_neg (show ¬ (4 : Int32) = 0 by decide)]
    · have e : s_edge N (s_lk0 N none) 4 k = (decide (k < n_serves N) && s_served N k) := rfl
      rw [e, decide_eq_false (by omega)]; rfl
section T93
variable {g : z_G} {o o1 o2 : Nat → Nat} {μ μ1 μ2 : z_M} {a : Nat} {T : s_T} {n what : Int32}
theorem h_iv.edges (h : h_iv g o μ a T) : ∃ μ1, D_X0_edges g a n what μ = some (q_edges T n what, μ1) ∧ h_iv g (h_o9 o μ) μ1 a T ∧ h_u μ1 ≤ h_u μ + 8000 := by
  have hrefl : h_iv g (h_o9 o μ) μ a T := h.next (h_fr.refl h.2.1)
  unfold D_X0_edges q_edges
  rw [h.2.2.2.ob, h.2.2.2.is0, x_bS]
  cases en : s_row (u_nets T.1) n with
  | none => exact ⟨μ, if_pos rfl, hrefl, by omega⟩
  | some N =>
    have hN := h.nets en
    obtain ⟨xn, e4, dd, ls, rs, ss, hnt⟩ := h.2.2.2.netOf en
    obtain ⟨w0, w1, w2, w3, w4⟩ := s_edges_w hN
    rw [if_neg (show ¬ (1 : Int32) = 0 by decide), h.2.2.2.ob, e4, x_bS]
    show ∃ μ1, _ = some ((if 0 ≤ what ∧ what ≤ 4 then s_edges N (s_lk0 N none) what else (-1 : Int32)), μ1) ∧ _
    by_cases c0 : what = 0
    · obtain ⟨o5, μ5, e5, F5, u5⟩ := hnt.edges hN h.2.1
      refine ⟨μ5, ?_, h.next (F5.mono (fun _ _ q => q.elim)), by omega⟩
      rw [if_pos c0, x_oS, hnt.ob, e5, x_b2S, c0, if_pos (by decide), w0]
    rw [if_neg c0]
    refine ⟨μ, ?_, hrefl, by omega⟩
    by_cases c1 : what = 1
    · rw [if_pos c1, x_oS, hnt.ob, hnt.leaves hN, x_bS, c1, if_pos (by decide), w1]
    rw [if_neg c1]
    by_cases c2 : what = 2
    · rw [if_pos c2, x_oS, hnt.ob, hnt.blind hN, x_bS, c2, if_pos (by decide), w2]
    rw [if_neg c2]
    by_cases c3 : what = 3
    · rw [if_pos c3, x_oS, hnt.ob, hnt.hidden hN h.2.1 h.1, x_bS, c3, if_pos (by decide), w3]
    rw [if_neg c3]
    by_cases c4 : what = 4
    · rw [if_pos c4, x_oS, hnt.ob, hnt.served hN h.2.1 h.1, x_bS, c4, if_pos (by decide), w4]
    rw [if_neg c4, if_neg]
    intro q
    obtain ⟨e1, e2, e3⟩ := s_between (a := 0) (b := 4) rfl rfl (by omega) (by omega) q
    have hv : v_ what = 0 ∨ v_ what = 1 ∨ v_ what = 2 ∨ v_ what = 3 ∨ v_ what = 4 := by omega
    rcases hv with v | v | v | v | v
    · exact c0 (by rw [e1, v]; rfl)
    · exact c1 (by rw [e1, v]; rfl)
    · exact c2 (by rw [e1, v]; rfl)
    · exact c3 (by rw [e1, v]; rfl)
    · exact c4 (by rw [e1, v]; rfl)
end T93
