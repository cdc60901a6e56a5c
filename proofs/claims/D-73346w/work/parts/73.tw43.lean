/-! THE TWIN's LAW, 43: kinds of nodes, routes, serves -/
set_option maxRecDepth 100000
set_option maxHeartbeats 400000
def s_linksAt (N : s_R) (n : Nat) : Nat := s_cntB (fun l => decide (n_la N l = n) || decide (n_lb N l = n)) (n_links N)
def s_hidden (N : s_R) (k : Nat) : Bool := (s_find (fun e => decide (n_rn N e = n_rn N k) && decide (n_rw N e = n_rw N k) && decide (n_rt N e = n_rt N k)) 0 k).isSome
def s_served (N : s_R) (k : Nat) : Bool := (s_find (fun e => decide (e ≠ k) && decide (n_sn N e = n_sn N k) && s_pre (n_sw N e) (n_sw N k)) 0 (n_serves N)).isSome
def s_edge (N : s_R) (lk : Nat → Option Nat) (what : Int32) (k : Nat) : Bool :=
  if what = 0 then decide (k < n_serves N) else if what = 1 then decide (k < n_nodes N) && decide (s_linksAt N k = 1)
  else if what = 4 then decide (k < n_serves N) && s_served N k
  else decide (k < n_routes N) && (if what = 2 then !s_up lk 0 (n_rn N k) (n_rt N k) else s_hidden N k)
def s_edges (N : s_R) (lk : Nat → Option Nat) (what : Int32) : Int32 := s_fold (fun k x => if s_edge N lk what k = true then x ||| ((1 : Int32) <<< (nI (if what = 0 then n_sn N k else k) &&& 31)) else x) 0 12 0
def q_edges (T : s_T) (n what : Int32) : Int32 := match s_row (u_nets T.1) n with
  | none => -1
  | some N => if 0 ≤ what ∧ what ≤ 4 then s_edges N (s_lk0 N none) what else -1
section T73
variable {σ σ' : t_S} {N R : s_R} {T : s_T} {lk : Nat → Option Nat} {G : s_G} {K : Nat} {W : s_W} {t : Nat}
theorem p_linksAt {n : Nat} (h : t_net σ N) (hN : n_ok N) (hn : n < 2 ^ 31) : D_linksAt (nI n) σ = some (nI (s_linksAt N n)) := by
  obtain ⟨c1, c2, c3, c4, c5, c6⟩ := n_counts hN
  unfold D_linksAt s_linksAt s_cntB
  rw [show (0 : Int32) = nI 0 from rfl]
  refine x_for (fun _ (_ : Nat) => True) (fun f a k => D_linksAt_4 (nI n) σ (fun (v2_20 : Int32) => some v2_20) f (nI a) (nI k)) (fun a => some (nI a)) (fun l a => if (decide (n_la N l = n) || decide (n_lb N l = n)) = true then a + 1 else a) (n_links N) ?_ ?_ (fun _ _ _ _ => trivial) x_F 0 0 (by omega) trivial (by rw [x_Fv]; omega)
  · intro f a _
    show x_b (D_links σ) _ = _
    rw [p_links h, x_bS, c1, if_pos (Int32.le_refl _)]
  · intro f a k _ hk
    obtain ⟨b1, -, -, -, b5, b6, b7, -⟩ := n_ln_b hN hk
    show x_b (D_links σ) _ = _
    rw [p_links h, x_bS, c1, if_neg (nI_ge hk (by omega)), p_link0 h hN hk, x_bS, x_lS]
    by_cases d1 : n_la N k = n
    · rw [if_pos (by rw [d1]), if_pos (by simp [d1])]
      show x_l (nI a + 1) _ = _
      rw [x_lS, x_lS, nI_1, nI_1]
    · rw [if_neg (fun q => d1 ((nI_eq (by omega) hn).mp q)), p_link1 h hN hk, x_bS]
      by_cases d2 : n_lb N k = n
      · rw [if_pos (by rw [d2]), if_pos (by simp [d2])]
        show x_l (nI a + 1) _ = _
        rw [x_lS, x_lS, nI_1, nI_1]
      · rw [if_neg (fun q => d2 ((nI_eq (by omega) hn).mp q)), if_neg (by simp [d1, d2]), x_lS, x_lS, Int32.add_zero, nI_1]
theorem p_isHidden {k : Nat} (h : t_net σ N) (hN : n_ok N) (hk : k < n_routes N) : D_isHidden (nI k) σ = some (if s_hidden N k = true then 1 else 0) := by
  obtain ⟨c1, c2, c3, c4, c5, c6⟩ := n_counts hN
  obtain ⟨b1, b2, b3, b4, b5, b6, b7, b8, b9⟩ := n_rt_b hN hk
  unfold D_isHidden s_hidden
  rw [show (0 : Int32) = nI 0 from rfl, x_find (fun f k' => D_isHidden_2 (nI k) σ (some (nI 0)) f (nI k')) (some (nI 0)) (fun _ => some 1) (fun e => decide (n_rn N e = n_rn N k) && decide (n_rw N e = n_rw N k) && decide (n_rt N e = n_rt N k)) k ?_ ?_ x_F 0 (by omega) (by rw [x_Fv]; omega), Nat.sub_zero]
  · cases s_find (fun e => decide (n_rn N e = n_rn N k) && decide (n_rw N e = n_rw N k) && decide (n_rt N e = n_rt N k)) 0 k <;> rfl
  · intro f
    show (if nI k ≤ nI k then _ else _) = _
    rw [if_pos (Int32.le_refl _)]
  · intro f e he
    have hek : e < n_routes N := by omega
    obtain ⟨d1, d2, d3, d4, d5, d6, d7, d8, d9⟩ := n_rt_b hN hek
    show (if nI k ≤ nI e then _ else _) = _
    rw [if_neg (nI_ge he (by omega)), show (0 : Int32) = nI 0 from rfl, p_routeAt h d1 (by omega), x_bS, p_routeAt h b1 (by omega), x_bS, Nat.add_zero, Nat.add_zero, d2, b2]
    by_cases e1 : n_rn N e = n_rn N k
    · rw [if_pos (by rw [e1]), show (1 : Int32) = nI 1 from rfl, p_routeAt h d1 (by omega), x_bS, p_routeAt h b1 (by omega), x_bS, d3, b3]
      by_cases e2 : n_rw N e = n_rw N k
      · rw [if_pos (by rw [e2]), show (2 : Int32) = nI 2 from rfl, p_routeAt h d1 (by omega), x_bS, p_routeAt h b1 (by omega), x_bS, d4, b4]
        by_cases e3 : n_rt N e = n_rt N k
        · rw [if_pos (by rw [e3]), if_pos (by simp [e1, e2, e3])]
        · rw [if_neg (fun q => e3 ((nI_eq (by omega) (by omega)).mp q)), x_lS, nI_add, if_neg (by simp [e3])]
      · rw [if_neg (fun q => e2 ((nI_eq (by omega) (by omega)).mp q)), x_lS, nI_add, if_neg (by simp [e2])]
    · rw [if_neg (fun q => e1 ((nI_eq (by omega) (by omega)).mp q)), x_lS, nI_1, if_neg (by simp [e1])]
theorem p_isServed {k : Nat} (h : t_net σ N) (hN : n_ok N) (hk : k < n_serves N) : D_isServed (nI k) σ = some (if s_served N k = true then 1 else 0) := by
  obtain ⟨c1, c2, c3, c4, c5, c6⟩ := n_counts hN
  obtain ⟨b1, b2, b3, b4, b5, b6, b7⟩ := n_sv_b hN hk
  unfold D_isServed s_served
  rw [show (0 : Int32) = nI 0 from rfl, x_find (fun f k' => D_isServed_2 (nI k) σ (some (nI 0)) f (nI k')) (some (nI 0)) (fun _ => some 1) (fun e => decide (e ≠ k) && decide (n_sn N e = n_sn N k) && s_pre (n_sw N e) (n_sw N k)) (n_serves N) ?_ ?_ x_F 0 (by omega) (by rw [x_Fv]; omega), Nat.sub_zero]
  · cases s_find (fun e => decide (e ≠ k) && decide (n_sn N e = n_sn N k) && s_pre (n_sw N e) (n_sw N k)) 0 (n_serves N) <;> rfl
  · intro f
    show x_b (D_serves σ) _ = _
    rw [p_serves h, x_bS, c3, if_pos (Int32.le_refl _)]
  · intro f e he
    obtain ⟨d1, d2, d3, d4, d5, d6, d7⟩ := n_sv_b hN he
    show x_b (D_serves σ) _ = _
    rw [p_serves h, x_bS, c3, if_neg (nI_ge he (by omega))]
    by_cases e0 : e = k
    · rw [if_pos (by rw [e0]), x_lS, nI_1, if_neg (by simp [e0])]
    · rw [if_neg (fun q => e0 ((nI_eq (by omega) (by omega)).mp q)), show (0 : Int32) = nI 0 from rfl, p_serveAt h d1 (by omega), x_bS, p_serveAt h b1 (by omega), x_bS, Nat.add_zero, Nat.add_zero, d2, b2]
      by_cases e1 : n_sn N e = n_sn N k
      · rw [if_pos (by rw [e1]), p_serve1 h hN he, x_bS, p_serve1 h hN hk, x_bS, p_isBeginning (by omega) (by omega), x_bS]
        by_cases e2 : s_pre (n_sw N e) (n_sw N k) = true
        · rw [if_pos e2, if_neg (show ¬ (1 : Int32) = nI 0 by decide), if_pos (by simp [e0, e1, e2])]
        · rw [if_neg e2, if_pos (show (0 : Int32) = nI 0 from rfl), x_lS, nI_1, if_neg (by simp [e2])]
      · rw [if_neg (fun q => e1 ((nI_eq (by omega) (by omega)).mp q)), x_lS, nI_1, if_neg (by simp [e1])]
theorem p_edges_34 {what : Int32} {c : Nat → Nat → Int32} (h : t_rel σ N lk (s_begin c)) (hN : n_ok N) (hlk : s_lkok N lk) (hw : 0 ≤ what ∧ what ≤ 4) : D_edges_34 what σ (fun (v3_61 : Int32) => some (v3_61, σ)) x_F 0 0 = some (s_edges N lk what, σ) := by
  obtain ⟨c1, c2, c3, c4, c5, c6⟩ := n_counts hN
  have hd : t_i σ 26 = 0 := h.2.1
  have hnet := h.1.1
  unfold s_edges
  refine x_for (fun _ (_ : Int32) => True) (fun f a k => D_edges_34 what σ (fun (v3_61 : Int32) => some (v3_61, σ)) f a (nI k)) (fun a => some (a, σ)) (fun k x => if s_edge N lk what k = true then x ||| ((1 : Int32) <<< (nI (if what = 0 then n_sn N k else k) &&& 31)) else x) 12 ?_ ?_ (fun _ _ _ _ => trivial) x_F 0 0 (by omega) trivial (by rw [x_Fv]; omega)
  · intro f a _
    show (if (12 : Int32) ≤ nI 12 then _ else _) = _
    rw [if_pos (show (12 : Int32) ≤ nI 12 from Int32.le_refl _)]
  · intro f a k _ hk
    -- the choice
    have key : ∀ J : Int32 → Option (Int32 × t_S), (x_l J fun J177 => if what = 0 then (x_b (D_serves σ) fun r59 => if r59 ≤ nI k then (J177 (0 : Int32)) else J177 (1 : Int32)) else if what = (1 : Int32) then (x_b (D_isNode (nI k) σ) fun r53 => x_l (J177 (0 : Int32)) fun J90 => if r53 = 0 then (J90) else x_b (D_linksAt (nI k) σ) fun r56 => if r56 = (1 : Int32) then (J177 (1 : Int32)) else J90) else if what = (4 : Int32) then (x_b (D_serves σ) fun r47 => x_l (J177 (0 : Int32)) fun J121 => if r47 ≤ nI k then (J121) else x_b (D_isServed (nI k) σ) fun r50 => if r50 = 0 then (J121) else J177 (1 : Int32)) else x_b (D_routes σ) fun r33 => x_l (J177 (0 : Int32)) fun J176 => if r33 ≤ nI k then (J176) else x_l (J177 (1 : Int32)) fun J172 => if what = (2 : Int32) then (x_b (D_routeAt (nI k) (0 : Int32) σ) fun r40 => x_b (D_routeAt (nI k) (2 : Int32) σ) fun r42 => x_b (D_isUp r40 r42 σ) fun r44 => if r44 = 0 then (J172) else J176) else x_b (D_isHidden (nI k) σ) fun r37 => if r37 = 0 then (J176) else J172) = if s_edge N lk what k = true then J 1 else J 0 := by
      intro J
      rw [x_lS]
      unfold s_edge
      by_cases w0 : what = 0
      · rw [if_pos w0, if_pos w0, p_serves hnet, x_bS, c3]
        by_cases d : k < n_serves N
        · rw [if_neg (nI_ge d (by omega)), if_pos (decide_eq_true d)]
        · rw [if_pos (nI_le (by omega) (by omega)), if_neg (by simp [d])]
      rw [if_neg w0, if_neg w0]
      by_cases w1 : what = 1
      · rw [if_pos w1, if_pos w1, p_isNodeN h.1.2.2.1 hN (by omega), x_bS, x_lS]
        by_cases d : k < n_nodes N
        · rw [if_pos d, if_neg (show ¬ (1 : Int32) = 0 by decide), p_linksAt hnet hN (by omega), x_bS]
          have hle : s_linksAt N k ≤ n_links N := s_cntB_le _ _
          by_cases d2 : s_linksAt N k = 1
          · rw [if_pos (show nI (s_linksAt N k) = 1 by rw [d2]; rfl), if_pos (by simp [d, d2])]
          · rw [if_neg (show ¬ nI (s_linksAt N k) = 1 from fun q => d2 ((nI_eq (b := 1) (by omega) (by omega)).mp q)), if_neg (by simp [d2])]
        · rw [if_neg d, if_pos rfl, if_neg (by simp [d])]
      rw [if_neg w1, if_neg w1]
      by_cases w4 : what = 4
      · rw [if_pos w4, if_pos w4, p_serves hnet, x_bS, c3, x_lS]
        by_cases d : k < n_serves N
        · rw [if_neg (nI_ge d (by omega)), p_isServed hnet hN d, x_bS]
          by_cases d2 : s_served N k = true
          · rw [if_pos d2, if_neg (show ¬ (1 : Int32) = 0 by decide), if_pos (by simp [d, d2])]
          · rw [if_neg d2, if_pos rfl, if_neg (by simp [d2])]
        · rw [if_pos (nI_le (by omega) (by omega)), if_neg (by simp [d])]
      rw [if_neg w4, if_neg w4, p_routes hnet, x_bS, c2, x_lS]
      by_cases d : k < n_routes N
      · obtain ⟨b1, b2, b3, b4, b5, b6, b7, b8, b9⟩ := n_rt_b hN d
        rw [if_neg (nI_ge d (by omega)), x_lS]
        by_cases w2 : what = 2
        · rw [if_pos w2, if_pos w2, show (0 : Int32) = nI 0 from rfl, p_routeAt hnet b1 (by omega), x_bS, p_route2 hnet hN d, x_bS, Nat.add_zero, b2, p_isUp h.1.2.1 b6 b8, x_bS, hd]
          by_cases d2 : s_up lk 0 (n_rn N k) (n_rt N k) = true
          · have d2' : s_up lk (nI 0) (n_rn N k) (n_rt N k) = true := d2
            rw [if_pos d2, if_neg (show ¬ (1 : Int32) = nI 0 by decide), if_neg (by simp [d2'])]
          · have d2' : ¬ s_up lk (nI 0) (n_rn N k) (n_rt N k) = true := d2
            rw [if_neg d2, if_pos (show (0 : Int32) = nI 0 from rfl), if_pos (by simp [d, d2'])]
        · rw [if_neg w2, if_neg w2, p_isHidden hnet hN d, x_bS]
          by_cases d2 : s_hidden N k = true
          · rw [if_pos d2, if_neg (show ¬ (1 : Int32) = 0 by decide), if_pos (by simp [d, d2])]
          · rw [if_neg d2, if_pos rfl, if_neg (by simp [d2])]
      · rw [if_pos (nI_le (by omega) (by omega)), if_neg (by simp [d])]
    show (if (12 : Int32) ≤ nI k then _ else _) = _
    rw [if_neg (show ¬ (12 : Int32) ≤ nI k from nI_ge (a := k) (b := 12) hk (by omega))]
    refine (key _).trans ?_
    by_cases d : s_edge N lk what k = true
    · rw [if_pos d, if_pos d]
      show (if (1 : Int32) = 0 then _ else _) = _
      rw [if_neg (show ¬ (1 : Int32) = 0 by decide), x_lS]
      by_cases w0 : what = 0
      · have hs : k < n_serves N := by
          unfold s_edge at d
          rw [if_pos w0] at d
          simpa using d
        obtain ⟨b1, b2, b3, b4, b5, b6, b7⟩ := n_sv_b hN hs
        rw [if_pos w0, if_pos w0, show (0 : Int32) = nI 0 from rfl, p_serveAt hnet b1 (by omega), x_bS, Nat.add_zero, b2]
        show x_l (a ||| ((1 : Int32) <<< (nI (n_sn N k) &&& 31))) _ = _
        rw [x_lS, x_lS, nI_1]
      · rw [if_neg w0, if_neg w0]
        show x_l (a ||| ((1 : Int32) <<< (nI k &&& 31))) _ = _
        rw [x_lS, x_lS, nI_1]
    · rw [if_neg d, if_neg d]
      show (if (0 : Int32) = 0 then _ else _) = _
      rw [if_pos rfl, x_lS, x_lS, nI_1, Int32.or_zero]
theorem p_edges {n what : Int32} (h : t_st σ T) : ∃ σ', D_edges n what σ = some (q_edges T n what, σ') ∧ t_keep σ σ' := by
  have h0 : t_st (t_si σ 0 0) T := h.keep t_keep.si
  obtain ⟨σ1, a1, a2, -, -, a3⟩ := p_hasNet (k := n) h0
  have hk : t_keep σ σ1 := t_keep.si.trans a2
  unfold D_edges q_edges
  rw [x_lS, a1, x_b2S]
  cases hn : s_row (u_nets T.1) n with
  | none => exact ⟨σ1, if_pos rfl, hk⟩
  | some N =>
    have b := a3 N hn
    have hN := u_net_ok h hn
    show ∃ σ', (if (1 : Int32) = 0 then _ else _) = some ((if 0 ≤ what ∧ what ≤ 4 then s_edges N (s_lk0 N none) what else -1), σ') ∧ _
    rw [if_neg (show ¬ (1 : Int32) = 0 by decide), p_in, x_bS]
    unfold s_i
    by_cases c1 : 0 ≤ what ∧ what ≤ 4
    · rw [if_pos c1, if_neg (show ¬ (1 : Int32) = 0 by decide), if_pos c1]
      obtain ⟨σ2, d1, d2, d3⟩ := p_begin (away := none) b hN (fun j hj => by cases hj)
      have d1' : D_begin (-1) σ1 = some σ2 := d1
      refine ⟨σ2, ?_, hk.trans d3.keep⟩
      rw [d1', x_bS]
      exact p_edges_34 d2 hN (s_lk0_ok hN) c1
    · rw [if_neg c1, if_pos (show (0 : Int32) = 0 from rfl), if_neg c1]
      exact ⟨σ1, rfl, hk⟩
end T73
