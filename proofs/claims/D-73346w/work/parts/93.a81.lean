/-! THE COMPONENT's LAW, 81: the call table -/
set_option maxRecDepth 100000
set_option maxHeartbeats 400000
set_option linter.unusedVariables false
theorem s_vn_pfx {n j : Nat} (h : s_vn n) (hj : j < s_len n) : s_vn (n / 27 ^ j) ∧ s_len (n / 27 ^ j) = s_len n - j := by
  have hl := s_len_div j n
  refine ⟨⟨?_, Nat.lt_of_le_of_lt (Nat.div_le_self _ _) h.2.1, fun d hd => ?_⟩, hl⟩
  · refine Nat.pos_of_ne_zero (fun q => ?_)
    rw [q, s_len0] at hl
    omega
  · have ht := s_let_take (s_len n) n (s_len n - j) rfl (by omega)
    rw [show s_len n - (s_len n - j) = j by omega] at ht
    rw [← ht] at hd
    exact h.2.2 d (List.mem_of_mem_take hd)
section T93
variable {g : z_G} {o o1 o2 : Nat → Nat} {μ μ1 μ2 : z_M} {a s x tb v i K q d l t it nn kk : Nat} {S : Nat → Prop} {N R L : s_R} {p : Nat} {T : s_T} {ls rs ss xs : List Nat} {n r m k c node what : Int32}
theorem h_nt.isFirst (h : h_nt g o μ p d N (s_lk0 N none) ls rs ss) (hN : n_ok N) (hw : h_wf g μ) (hok : z_ok g) (hk : kk < n_routes N) (hi : i < s_len (n_rw N kk)) : ∃ o1 μ1, D_X5_isFirst g p (nI kk) (nI (i + 1)) μ = some (if s_frs N kk i = true then 1 else 0, μ1) ∧ h_fr g (fun _ => False) o μ o1 μ1 ∧ h_u μ1 ≤ h_u μ + 20 := by
  have h12 := n_routes12 hN
  obtain ⟨-, rm, ll, rl, sl, nl, nr, ns, fr, fd, c1, -, -, -, ⟨r1, r2, r3⟩, -⟩ := id h
  obtain ⟨x, hx⟩ := h_at r2 hk
  have hA : z_isA g μ x "AskedNames$Route" := (r3 kk x hx).isA
  obtain ⟨x0, w', hc, hwn⟩ := r3 kk x hx
  have h4 := s_len_vn hwn.1
  obtain ⟨rr, o1, μ1, e1, s1, F1, u1, -⟩ := hwn.2.sub hw hok (k := i + 1) (by omega) (by rw [s_chr_len]; omega)
  have htk : (s_chr (n_rw N kk)).take (i + 1) = s_chr (n_rw N kk / 27 ^ (s_len (n_rw N kk) - 1 - i)) := by
    unfold s_chr
    rw [← List.map_take, s_let_take (s_len (n_rw N kk)) _ (i + 1) rfl (by omega), show s_len (n_rw N kk) - (i + 1) = s_len (n_rw N kk) - 1 - i by omega]
  rw [htk] at s1
  have hnm : h_nm o1 μ1 rr (n_rw N kk / 27 ^ (s_len (n_rw N kk) - 1 - i)) := ⟨(s_vn_pfx hwn.1 (by omega)).1, s1⟩
  have hn1 := h.fr F1 hw (fun _ _ q => q) (fun q => q)
  obtain ⟨-, rm, ll, rl', sl, nl, nr, ns, fr, fd, c1', -, -, -, ⟨r1', r2', r3'⟩, -⟩ := id hn1
  refine ⟨o1, μ1, ?_, F1, by omega⟩
  have hD : D_X5_isFirst g p (nI kk) (nI (i + 1)) μ = D_X5_isFirst_23 g p (nI kk) (some rr) μ1 (some ((1 : Int32), μ1)) x_F 0 := by
    unfold D_X5_isFirst
    rw [x_lgt c1 rfl r1 hx hA, x_oS, x_grR hc rfl, x_oS, x_gpI (hwn.isA hw), e1, x_b2S]
  rw [hD]
  have key := x_find (fun f a => D_X5_isFirst_23 g p (nI kk) (some rr) μ1 (some ((1 : Int32), μ1)) f (nI a)) (some ((1 : Int32), μ1)) (fun _ => some ((0 : Int32), μ1)) (fun a => decide (n_rn N a = n_rn N kk) && s_pre (n_rw N kk / 27 ^ (s_len (n_rw N kk) - 1 - i)) (n_rw N a)) kk
    (fun f => by
      show D_X5_isFirst_23 _ _ _ _ _ _ (f + 1) _ = _
      unfold D_X5_isFirst_23
      rw [if_pos (Int32.le_refl _)])
    (fun f a ha => by
      show D_X5_isFirst_23 _ _ _ _ _ _ (f + 1) _ = _
      obtain ⟨y, hy⟩ := h_at r2' (show a < n_routes N by omega)
      obtain ⟨x', hx'⟩ := h_at r2' hk
      obtain ⟨-, -, -, -, -, b6, -⟩ := n_rt_b hN hk
      obtain ⟨-, -, -, -, -, d6, -⟩ := n_rt_b hN (show a < n_routes N by omega)
      have hAy : z_isA g μ1 y "AskedNames$Route" := (r3' a y hy).isA
      have hAx : z_isA g μ1 x' "AskedNames$Route" := (r3' kk x' hx').isA
      obtain ⟨y0, v', hcy, hvn⟩ := r3' a y hy
      obtain ⟨xx0, u', hcx, hun⟩ := r3' kk x' hx'
      conv => lhs; unfold D_X5_isFirst_23
      rw [if_neg (nI_ge ha (by omega)), x_lgt c1' rfl r1' hy hAy, x_oS, x_giS hcy rfl, x_lgt c1' rfl r1' hx' hAx, x_oS, x_giS hcx rfl]
      by_cases e1 : n_rn N a = n_rn N kk
      · rw [if_pos (show nI (n_rn N a) = nI (n_rn N kk) by rw [e1]), x_lgt c1' rfl r1' hy hAy, x_oS, x_grR hcy rfl, x_oS, x_gpI (hvn.isA F1.wf), hvn.starts hnm F1.wf hok, x_bS, decide_eq_true e1, Bool.true_and]
        cases s_pre (n_rw N kk / 27 ^ (s_len (n_rw N kk) - 1 - i)) (n_rw N a) with
        | true => rfl
        | false =>
          rw [if_neg (show ¬ false = true by decide), if_pos rfl, x_lS, nI_1]
          rfl
      · rw [if_neg (fun q => e1 ((nI_eq (by omega) (by omega)).mp q)), x_lS, nI_1, decide_eq_false e1]
        rfl) x_F 0 (by omega) (by rw [x_Fv]; omega)
  have key' : D_X5_isFirst_23 g p (nI kk) (some rr) μ1 (some ((1 : Int32), μ1)) x_F 0 = _ := key
  rw [key']
  unfold s_frs
  rw [Nat.sub_zero]
  cases s_find (fun a => decide (n_rn N a = n_rn N kk) && s_pre (n_rw N kk / 27 ^ (s_len (n_rw N kk) - 1 - i)) (n_rw N a)) 0 kk <;> rfl
/-- the rows of one route -/
theorem h_nt.rows39 (Kf : Int32 → z_M → Option (Int32 × z_M)) (hN : n_ok N) (hok : z_ok g) (hk : kk < n_routes N) (v0 : Nat) (hv0 : v0 ≤ 100) : ∀ (m f i : Nat) (o : Nat → Nat) (μ : z_M), h_nt g o μ p d N (s_lk0 N none) ls rs ss → h_wf g μ → i + m = s_len (n_rw N kk) → m < f →
    ∃ o1 μ1, D_X5_rows_39 g p (nI q) (nI kk) Kf f (nI (v0 + s_cntB (s_frs N kk) i)) (nI (i + 1)) μ = Kf (nI (v0 + s_cntB (s_frs N kk) (s_len (n_rw N kk)))) μ1 ∧ h_fr g (fun _ => False) o μ o1 μ1 ∧ h_u μ1 ≤ h_u μ + 20 * m := by
  intro m
  induction m with
  | zero =>
    intro f i o μ h hw hi hf
    obtain ⟨f, rfl⟩ : ∃ f', f = f' + 1 := ⟨f - 1, by omega⟩
    obtain ⟨-, rm, ll, rl, sl, nl, nr, ns, fr, fd, c1, -, -, -, ⟨r1, r2, r3⟩, -⟩ := id h
    obtain ⟨x, hx⟩ := h_at r2 hk
    have hA : z_isA g μ x "AskedNames$Route" := (r3 kk x hx).isA
    obtain ⟨x0, w', hc, hwn⟩ := r3 kk x hx
    have h4 := s_len_vn hwn.1
    have e : i = s_len (n_rw N kk) := by omega
    refine ⟨o, μ, ?_, h_fr.refl hw, by omega⟩
    conv => lhs; unfold D_X5_rows_39
    rw [x_lgt c1 rfl r1 hx hA, x_oS, x_grR hc rfl, x_oS, x_gpI (hwn.isA hw), hwn.len hw hok, x_bS, if_pos (nI_lt (by omega) (by omega)), e]
  | succ m ih =>
    intro f i o μ h hw hi hf
    obtain ⟨f, rfl⟩ : ∃ f', f = f' + 1 := ⟨f - 1, by omega⟩
    obtain ⟨-, rm, ll, rl, sl, nl, nr, ns, fr, fd, c1, -, -, -, ⟨r1, r2, r3⟩, -⟩ := id h
    obtain ⟨x, hx⟩ := h_at r2 hk
    have hA : z_isA g μ x "AskedNames$Route" := (r3 kk x hx).isA
    obtain ⟨x0, w', hc, hwn⟩ := r3 kk x hx
    have h4 := s_len_vn hwn.1
    obtain ⟨o1, μ1, e1, F1, u1⟩ := h.isFirst hN hw hok hk (show i < s_len (n_rw N kk) by omega)
    have hn1 := h.fr F1 hw (fun _ _ q => q) (fun q => q)
    obtain ⟨o2, μ2, e2, F2, u2⟩ := ih f (i + 1) o1 μ1 hn1 F1.wf (by omega) (by omega)
    refine ⟨o2, μ2, ?_, F1.trans F2 (fun b _ q => q.elim id id), by omega⟩
    conv => lhs; unfold D_X5_rows_39
    rw [x_lgt c1 rfl r1 hx hA, x_oS, x_grR hc rfl, x_oS, x_gpI (hwn.isA hw), hwn.len hw hok, x_bS, if_neg (nI_nlt (by omega) (by omega)), h.ob, e1, x_b2S]
    rw [s_cntB_succ] at e2
    by_cases c : s_frs N kk i = true
    · rw [if_pos c] at e2
      rw [if_pos c, if_neg (by decide), x_lS, x_lS, nI_1, nI_1]
      exact e2
    · rw [if_neg c] at e2
      rw [if_neg c, if_pos rfl, x_lS, x_lS, nI_1, Int32.add_zero]
      exact e2
theorem s_frs_le (kk n : Nat) : s_cntB (s_frs N kk) n ≤ n := s_cntB_le _ _
/-- all rows at a node -/
theorem h_nt.rows4 (hN : n_ok N) (hok : z_ok g) (hq : q < 6) : ∀ (m f k : Nat) (o : Nat → Nat) (μ : z_M), h_nt g o μ p d N (s_lk0 N none) ls rs ss → h_wf g μ → k + m = n_routes N → m < f → s_fold (fun k v => if n_rn N k = q then v + s_cntB (s_frs N k) (s_len (n_rw N k)) else v) 0 k 0 ≤ 4 * k →
    ∃ o1 μ1, D_X5_rows_4 g p (nI q) (fun v μ => some (v, μ)) f (nI (s_fold (fun k v => if n_rn N k = q then v + s_cntB (s_frs N k) (s_len (n_rw N k)) else v) 0 k 0)) (nI k) μ = some (nI (s_fold (fun k v => if n_rn N k = q then v + s_cntB (s_frs N k) (s_len (n_rw N k)) else v) 0 (n_routes N) 0), μ1) ∧ h_fr g (fun _ => False) o μ o1 μ1 ∧ h_u μ1 ≤ h_u μ + 80 * m := by
  have h12 := n_routes12 hN
  intro m
  induction m with
  | zero =>
    intro f k o μ h hw hi hf hv
    obtain ⟨f, rfl⟩ : ∃ f', f = f' + 1 := ⟨f - 1, by omega⟩
    obtain ⟨-, rm, ll, rl, sl, nl, nr, ns, fr, fd, c1, -, -, -, ⟨r1, r2, r3⟩, -⟩ := id h
    have e : k = n_routes N := by omega
    refine ⟨o, μ, ?_, h_fr.refl hw, by omega⟩
    conv => lhs; unfold D_X5_rows_4
    rw [x_lsz c1 rfl r1, r2, e, if_pos (Int32.le_refl _)]
  | succ m ih =>
    intro f k o μ h hw hi hf hv
    obtain ⟨f, rfl⟩ : ∃ f', f = f' + 1 := ⟨f - 1, by omega⟩
    obtain ⟨-, rm, ll, rl, sl, nl, nr, ns, fr, fd, c1, -, -, -, ⟨r1, r2, r3⟩, -⟩ := id h
    have hk : k < n_routes N := by omega
    obtain ⟨x, hx⟩ := h_at r2 hk
    have hA : z_isA g μ x "AskedNames$Route" := (r3 k x hx).isA
    obtain ⟨-, -, -, -, -, b6, -⟩ := n_rt_b hN hk
    obtain ⟨x0, w', hc, hwn⟩ := r3 k x hx
    have h4 := s_len_vn hwn.1
    have hst : s_fold (fun k v => if n_rn N k = q then v + s_cntB (s_frs N k) (s_len (n_rw N k)) else v) 0 (k + 1) 0 = if n_rn N k = q then s_fold (fun k v => if n_rn N k = q then v + s_cntB (s_frs N k) (s_len (n_rw N k)) else v) 0 k 0 + s_cntB (s_frs N k) (s_len (n_rw N k)) else s_fold (fun k v => if n_rn N k = q then v + s_cntB (s_frs N k) (s_len (n_rw N k)) else v) 0 k 0 := by
      rw [s_fold_succ, Nat.zero_add]
    have hfl := s_frs_le (N := N) k (s_len (n_rw N k))
    have hD : D_X5_rows_4 g p (nI q) (fun v μ => some (v, μ)) (f + 1) (nI (s_fold (fun k v => if n_rn N k = q then v + s_cntB (s_frs N k) (s_len (n_rw N k)) else v) 0 k 0)) (nI k) μ = if nI (n_rn N k) = nI q then (D_X5_rows_39 g p (nI q) (nI k) (fun (v2_70 : Int32) (μ71 : z_M) => x_l (nI k + (1 : Int32)) fun v72 => D_X5_rows_4 g p (nI q) (fun v μ => some (v, μ)) f v2_70 v72 μ71) x_F (nI (s_fold (fun k v => if n_rn N k = q then v + s_cntB (s_frs N k) (s_len (n_rw N k)) else v) 0 k 0)) (1 : Int32) μ) else
        x_l (nI k + (1 : Int32)) fun v73 => D_X5_rows_4 g p (nI q) (fun v μ => some (v, μ)) f (nI (s_fold (fun k v => if n_rn N k = q then v + s_cntB (s_frs N k) (s_len (n_rw N k)) else v) 0 k 0)) v73 μ := by
      conv => lhs; unfold D_X5_rows_4
      rw [x_lsz c1 rfl r1, r2, if_neg (nI_ge hk (by omega)), x_lgt c1 rfl r1 hx hA, x_oS, x_giS hc rfl]
    rw [hD]
    by_cases c : n_rn N k = q
    · rw [if_pos c] at hst
      rw [if_pos (show nI (n_rn N k) = nI q by rw [c])]
      obtain ⟨o1, μ1, e1, F1, u1⟩ := h_nt.rows39 (g := g) (p := p) (q := q) (fun (v2_70 : Int32) (μ71 : z_M) => x_l (nI k + (1 : Int32)) fun v72 => D_X5_rows_4 g p (nI q) (fun v μ => some (v, μ)) f v2_70 v72 μ71) hN hok hk (s_fold (fun k v => if n_rn N k = q then v + s_cntB (s_frs N k) (s_len (n_rw N k)) else v) 0 k 0) (by omega) (s_len (n_rw N k)) x_F 0 o μ h hw (by omega) (by rw [x_Fv]; omega)
      have hn1 := h.fr F1 hw (fun _ _ q => q) (fun q => q)
      rw [← hst] at e1
      obtain ⟨o2, μ2, e2, F2, u2⟩ := ih f (k + 1) o1 μ1 hn1 F1.wf (by omega) (by omega) (by rw [hst]; omega)
      refine ⟨o2, μ2, ?_, F1.trans F2 (fun b _ q => q.elim id id), by omega⟩
      refine Eq.trans e1 ?_
      rw [x_lS, nI_1]
      exact e2
    · rw [if_neg c] at hst
      rw [if_neg (fun e => c ((nI_eq (by omega) (by omega)).mp e)), x_lS, nI_1, ← hst]
      obtain ⟨o2, μ2, e2, F2, u2⟩ := ih f (k + 1) o μ h hw (by omega) (by omega) (by rw [hst]; omega)
      exact ⟨o2, μ2, e2, F2, by omega⟩
theorem h_iv.table (h : h_iv g o μ a T) : ∃ μ1, D_X0_table g a n node what μ = some (q_table T n node what, μ1) ∧ h_iv g (h_o9 o μ) μ1 a T ∧ h_u μ1 ≤ h_u μ + 8000 := by
  have hrefl : h_iv g (h_o9 o μ) μ a T := h.next (h_fr.refl h.2.1)
  unfold D_X0_table q_table
  rw [h.2.2.2.ob, h.isNode, x_bS]
  cases en : s_row (u_nets T.1) n with
  | none => exact ⟨μ, if_pos rfl, hrefl, by omega⟩
  | some N =>
    have hN := h.nets en
    have h12 := n_routes12 hN
    show ∃ μ1, (if (if (s_node N node).isSome = true then (1 : Int32) else 0) = 0 then _ else _) = some ((match s_node N node with
      | none => (-1 : Int32)
      | some b => if what = 0 then nI (s_parts N b).length else if what = 1 then nI (s_routesAt N b) else -1), μ1) ∧ _
    cases eb : s_node N node with
    | none => exact ⟨μ, if_pos rfl, hrefl, by omega⟩
    | some b =>
      obtain ⟨b1, b2, b3⟩ := s_node_lt hN eb
      obtain ⟨xn, e4, dd, ls, rs, ss, hnt⟩ := h.2.2.2.netOf en
      rw [if_neg (show ¬ (if (some b).isSome = true then (1 : Int32) else 0) = 0 from fun q => absurd (show (1 : Int32) = 0 from q) (by decide)), x_isIn, x_bS]
      show ∃ μ1, _ = some ((if what = 0 then nI (s_parts N b).length else if what = 1 then nI (s_routesAt N b) else (-1 : Int32)), μ1) ∧ _
      by_cases c0 : what = 0
      · obtain ⟨-, -, -, -, -, -, -, -, -, -, -, -, -, -, ⟨r1, r2, r3⟩, -⟩ := id hnt
        obtain ⟨o5, μ5, e5, F5, u5⟩ := h_nt.rows4 (g := g) (p := xn) hN h.1 b1 (n_routes N) x_F 0 o μ hnt h.2.1 (by omega) (by rw [x_Fv]; omega) (Nat.le_refl _)
        refine ⟨μ5, ?_, h.next (F5.mono (fun _ _ q => q.elim)), by omega⟩
        have hpl := (s_parts_len (N := N) (node := b) (n_routes N) (fun k hk => by
          obtain ⟨x, hx⟩ := h_at r2 hk
          obtain ⟨-, w', -, hwn⟩ := r3 k x hx
          exact hwn.1.1)).1
        have e6 : s_i (0 ≤ what ∧ what ≤ 1) = 1 := if_pos (by rw [c0]; decide)
        have e5' : D_X5_rows g xn (nI b) μ = some (nI (s_fold (fun k v => if n_rn N k = b then v + s_cntB (s_frs N k) (s_len (n_rw N k)) else v) 0 (n_routes N) 0), μ5) := by
          unfold D_X5_rows
          exact e5
        unfold s_parts
        rw [e6, if_neg (by decide), if_pos c0, h.2.2.2.ob, e4, x_bS, x_oS, hnt.ob, b3, e5', x_b2S, if_pos c0, hpl]
      · by_cases c1 : what = 1
        · obtain ⟨o5, μ5, e5, F5, u5⟩ := hnt.routesN hN h.2.1 b1
          refine ⟨μ5, ?_, h.next (F5.mono (fun _ _ q => q.elim)), by omega⟩
          have e6 : s_i (0 ≤ what ∧ what ≤ 1) = 1 := if_pos (by rw [c1]; decide)
          rw [e6, if_neg (by decide), if_neg c0, h.2.2.2.ob, e4, x_bS, x_oS, hnt.ob, b3, e5, x_b2S, if_neg c0, if_pos c1]
        · refine ⟨μ, ?_, hrefl, by omega⟩
          have e6 : s_i (0 ≤ what ∧ what ≤ 1) = 0 := by
            refine if_neg (fun q => ?_)
            obtain ⟨e1, e2, e3⟩ := s_between (a := 0) (b := 1) rfl rfl (by omega) (by omega) q
            have hv : v_ what = 0 ∨ v_ what = 1 := by omega
            rcases hv with v | v
            · exact c0 (by rw [e1, v]; rfl)
            · exact c1 (by rw [e1, v]; rfl)
          rw [e6, if_pos rfl, if_neg c0, if_neg c1]
end T93
