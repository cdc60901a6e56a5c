/-! THE TWIN's LAW, 41: tables, ways, trails -/
set_option maxRecDepth 100000
set_option maxHeartbeats 400000
/-- the nodes that a name would come to, how it ends -/
def s_walk (N : s_R) (lk : Nat → Option Nat) (name : Nat) : Nat → Int32 → Option Nat → Nat → List Nat → Int32 × List Nat
  | 0, _, _, _, l => (0, l)
  | m + 1, been, fr, at_, l =>
    if s_bit been (nI at_) = true then (3, l ++ [at_])
    else if s_serve N at_ name ≠ none then (1, l ++ [at_])
    else match s_next N lk 0 (fun _ => -1) at_ name (match fr with
      | none => 0
      | some x => (1 : Int32) <<< (nI x &&& 31)) with
      | none => (2, l ++ [at_])
      | some to => s_walk N lk name m (been ||| ((1 : Int32) <<< (nI at_ &&& 31))) (some at_) to (l ++ [at_])
def s_trail (N : s_R) (lk : Nat → Option Nat) (node name : Nat) : Int32 × List Nat := s_walk N lk name 7 0 none node []
def q_trail (T : s_T) (n node name k : Int32) : Int32 := match s_row (u_nets T.1) n with
  | none => -1
  | some N => match s_node N node with
    | none => -1
    | some a => if s_nm name = true then
        (if k = -1 then nI (s_trail N (s_lk0 N none) a (v_ name)).2.length else if k = 20 then (s_trail N (s_lk0 N none) a (v_ name)).1
         else match s_ix k (s_trail N (s_lk0 N none) a (v_ name)).2.length with
          | none => -1
          | some j => match (s_trail N (s_lk0 N none) a (v_ name)).2[j]? with
            | none => -1
            | some x => nI x)
      else -1
section T71
variable {σ σ' : t_S} {N R : s_R} {T : s_T} {lk : Nat → Option Nat} {G : s_G} {K : Nat} {W : s_W} {t : Nat}
theorem t_p77.keep (h : t_p77 σ σ') : t_keep σ σ' := fun k j hk => h.2 k j (by omega)
theorem p_table_48 {a1 : Nat} (h : t_net σ N) (hN : n_ok N) (ha : a1 < 6) : D_table_48 (nI a1) σ (fun (v4_28 : Int32) => some (v4_28, σ)) x_F 0 0 = some (nI (s_routesAt N a1), σ) := by
  obtain ⟨c1, c2, c3, c4, c5, c6⟩ := n_counts hN
  unfold s_routesAt s_cntB
  rw [show (0 : Int32) = nI 0 from rfl]
  refine x_for (fun _ (_ : Nat) => True) (fun f a k => D_table_48 (nI a1) σ (fun (v4_28 : Int32) => some (v4_28, σ)) f (nI a) (nI k)) (fun a => some (nI a, σ)) (fun k a => if decide (n_rn N k = a1) = true then a + 1 else a) (n_routes N) ?_ ?_ (fun _ _ _ _ => trivial) x_F 0 0 (by omega) trivial (by rw [x_Fv]; omega)
  · intro f a _
    show x_b (D_routes σ) _ = _
    rw [p_routes h, x_bS, c2, if_pos (Int32.le_refl _)]
  · intro f a k _ hk
    obtain ⟨b1, b2, b3, b4, b5, b6, b7, b8, b9⟩ := n_rt_b hN hk
    show x_b (D_routes σ) _ = _
    rw [p_routes h, x_bS, c2, if_neg (nI_ge hk (by omega)), show (0 : Int32) = nI 0 from rfl, p_routeAt h b1 (by omega), x_bS, Nat.add_zero, b2]
    by_cases c : n_rn N k = a1
    · rw [if_pos (by rw [c]), x_lS, x_lS, nI_1, nI_1, if_pos (decide_eq_true c)]
    · rw [if_neg (fun q => c ((nI_eq (by omega) (by omega)).mp q)), x_lS, x_lS, nI_add, nI_1, if_neg (by simp [c]), Nat.add_zero]
theorem p_table {n node what : Int32} (h : t_st σ T) : ∃ σ', D_table n node what σ = some (q_table T n node what, σ') ∧ t_keep σ σ' := by
  have h0 : t_st (t_si σ 0 0) T := h.keep t_keep.si
  obtain ⟨σ1, a1, a2, -, -, a3⟩ := p_hasNet (k := n) h0
  have hk : t_keep σ σ1 := t_keep.si.trans a2
  unfold D_table q_table
  rw [x_lS, a1, x_b2S]
  cases hn : s_row (u_nets T.1) n with
  | none => exact ⟨σ1, if_pos rfl, hk⟩
  | some N =>
    obtain ⟨b1, b2, b3⟩ := a3 N hn
    have hN := u_net_ok h hn
    show ∃ σ', (if (1 : Int32) = 0 then _ else _) = _ ∧ _
    rw [if_neg (show ¬ (1 : Int32) = 0 by decide), p_isNodeS b2 hN, x_bS]
    cases hx : s_node N node with
    | none => simp only [hx]; exact ⟨σ1, if_pos trivial, hk⟩
    | some a =>
      obtain ⟨i1, i2, i3⟩ := s_node_lt hN hx
      simp only [hx]
      show ∃ σ', (if (1 : Int32) = 0 then _ else _) = some ((if what = 0 then nI (s_parts N a).length else if what = 1 then nI (s_routesAt N a) else -1), σ') ∧ _
      have hw := p_inIx (i := what) (n := 2) (by omega)
      rw [show nI 2 - 1 = (1 : Int32) from rfl] at hw
      rw [if_neg (show ¬ (1 : Int32) = 0 by decide), hw, x_bS]
      cases hv : s_ix what 2 with
      | none =>
        have n0 : ¬ what = 0 := fun q => by rw [q] at hv; exact absurd hv (by decide)
        have n1 : ¬ what = 1 := fun q => by rw [q] at hv; exact absurd hv (by decide)
        refine ⟨σ1, ?_, hk⟩
        simp [n0, n1]
      | some w =>
        obtain ⟨w1, w2⟩ := s_ix_some hv
        show ∃ σ', (if (1 : Int32) = 0 then _ else _) = _ ∧ _
        rw [if_neg (show ¬ (1 : Int32) = 0 by decide), i3]
        rcases (show w = 0 ∨ w = 1 by omega) with q | q
        · have w0 : what = 0 := by rw [w2, q]; rfl
          rw [if_pos w0, if_pos w0]
          obtain ⟨s1, e1, e2⟩ := p_rowsAt b1 hN i1
          exact ⟨s1, by rw [e1, x_b2S], hk.trans e2.keep⟩
        · have w0 : what = 1 := by rw [w2, q]; rfl
          have w9 : ¬ what = 0 := by rw [w0]; decide
          rw [if_neg w9, if_neg w9, if_pos w0]
          exact ⟨σ1, p_table_48 b1 hN i1, hk⟩
theorem p_ways_57 {a1 name : Nat} {c : Nat → Nat → Int32} (h : t_rel σ N lk (s_begin c)) (hN : n_ok N) (ha : a1 < 6) (hm : name < 2 ^ 31) : D_ways_57 (nI a1) (nI name) (nI (s_longest N a1 name)) σ (fun (v6_44 : Int32) => some (v6_44, σ)) x_F 0 0 = some (s_ways N lk a1 name, σ) := by
  obtain ⟨c1, c2, c3, c4, c5, c6⟩ := n_counts hN
  have h7 := s_longest7 hN a1 name
  have hd : t_i σ 26 = 0 := h.2.1
  unfold s_ways
  refine x_for (fun _ (_ : Int32) => True) (fun f a k => D_ways_57 (nI a1) (nI name) (nI (s_longest N a1 name)) σ (fun (v6_44 : Int32) => some (v6_44, σ)) f a (nI k)) (fun a => some (a, σ)) (fun k x => if 0 < s_longest N a1 name ∧ n_rn N k = a1 ∧ s_len (n_rw N k) = s_longest N a1 name ∧ s_pre (n_rw N k) name = true ∧ s_up lk 0 a1 (n_rt N k) = true then x ||| ((1 : Int32) <<< (nI (n_rt N k) &&& 31)) else x) (n_routes N) ?_ ?_ (fun _ _ _ _ => trivial) x_F 0 0 (by omega) trivial (by rw [x_Fv]; omega)
  · intro f a _
    show x_b (D_routes σ) _ = _
    rw [p_routes h.1.1, x_bS, c2, if_pos (Int32.le_refl _)]
  · intro f a k _ hk
    obtain ⟨b1, b2, b3, b4, b5, b6, b7, b8, b9⟩ := n_rt_b hN hk
    show x_b (D_routes σ) _ = _
    rw [p_routes h.1.1, x_bS, c2, if_neg (nI_ge hk (by omega))]
    have key : ∀ J : Int32 → Option (Int32 × t_S), (x_l J fun J104 => x_l (J104 (0 : Int32)) fun J103 => if nI (s_longest N a1 name) ≤ 0 then J103 else x_b (D_isRoute (nI k) (nI a1) (nI name) (nI (s_longest N a1 name)) σ) fun r37 => if r37 = 0 then J103 else x_b (D_routeAt (nI k) (2 : Int32) σ) fun r40 => x_b (D_isUp (nI a1) r40 σ) fun r42 => if r42 = 0 then J103 else J104 (1 : Int32)) = if 0 < s_longest N a1 name ∧ n_rn N k = a1 ∧ s_len (n_rw N k) = s_longest N a1 name ∧ s_pre (n_rw N k) name = true ∧ s_up lk 0 a1 (n_rt N k) = true then J 1 else J 0 := by
      intro J
      rw [x_lS, x_lS]
      by_cases d0 : 0 < s_longest N a1 name
      · rw [if_neg (nI_nle d0 (by omega)), p_isRoute h.1.1 hN ha hm (by omega) hk, x_bS]
        unfold s_i
        by_cases d1 : n_rn N k = a1 ∧ s_len (n_rw N k) = s_longest N a1 name ∧ s_pre (n_rw N k) name = true
        · rw [if_pos d1, if_neg (show ¬ (1 : Int32) = 0 by decide), p_route2 h.1.1 hN hk, x_bS, p_isUp h.1.2.1 ha b8, x_bS, hd]
          by_cases d2 : s_up lk 0 a1 (n_rt N k) = true
          · rw [if_pos d2, if_neg (show ¬ (1 : Int32) = 0 by decide), if_pos ⟨d0, d1.1, d1.2.1, d1.2.2, d2⟩]
          · rw [if_neg d2, if_pos (show (0 : Int32) = 0 from rfl), if_neg (fun q => d2 q.2.2.2.2)]
        · rw [if_neg d1, if_pos (show (0 : Int32) = 0 from rfl), if_neg (fun q => d1 ⟨q.2.1, q.2.2.1, q.2.2.2.1⟩)]
      · rw [if_pos (show nI (s_longest N a1 name) ≤ 0 by rw [show s_longest N a1 name = 0 by omega, nI_0]; exact Int32.le_refl _), if_neg (fun q => d0 q.1)]
    refine (key _).trans ?_
    by_cases d : 0 < s_longest N a1 name ∧ n_rn N k = a1 ∧ s_len (n_rw N k) = s_longest N a1 name ∧ s_pre (n_rw N k) name = true ∧ s_up lk 0 a1 (n_rt N k) = true
    · rw [if_pos d, if_pos d]
      show (if (1 : Int32) = 0 then _ else _) = _
      rw [if_neg (show ¬ (1 : Int32) = 0 by decide), p_route2 h.1.1 hN hk, x_bS, x_lS, x_lS, nI_1]
    · rw [if_neg d, if_neg d]
      show (if (0 : Int32) = 0 then _ else _) = _
      rw [if_pos rfl, x_lS, x_lS, nI_1, Int32.or_zero]
theorem p_ways {n node name letters : Int32} (h : t_st σ T) : ∃ σ', D_ways n node name letters σ = some (q_ways T n node name letters, σ') ∧ t_keep σ σ' := by
  have h0 : t_st (t_si σ 0 0) T := h.keep t_keep.si
  obtain ⟨σ1, a1, a2, -, -, a3⟩ := p_hasNet (k := n) h0
  have hk : t_keep σ σ1 := t_keep.si.trans a2
  unfold D_ways q_ways
  rw [x_lS, a1, x_b2S]
  cases hn : s_row (u_nets T.1) n with
  | none => exact ⟨σ1, if_pos rfl, hk⟩
  | some N =>
    have b := a3 N hn
    have hN := u_net_ok h hn
    show ∃ σ', (if (1 : Int32) = 0 then _ else _) = _ ∧ _
    rw [if_neg (show ¬ (1 : Int32) = 0 by decide), p_isNodeS b.2.1 hN, x_bS]
    cases hx : s_node N node with
    | none => simp only [hx]; exact ⟨σ1, if_pos trivial, hk⟩
    | some a =>
      obtain ⟨i1, i2, i3⟩ := s_node_lt hN hx
      simp only [hx]
      show ∃ σ', (if (1 : Int32) = 0 then _ else _) = some ((if s_nm name = true then (if letters = 0 then s_ways N (s_lk0 N none) a (v_ name) else nI (s_longest N a (v_ name))) else -1), σ') ∧ _
      rw [if_neg (show ¬ (1 : Int32) = 0 by decide), p_isName, x_bS]
      by_cases c1 : s_nm name = true
      · rw [if_pos c1, if_neg (show ¬ (1 : Int32) = 0 by decide), if_pos c1]
        obtain ⟨σ2, d1, d2, d3⟩ := p_begin (away := none) b hN (fun j hj => by cases hj)
        have d1' : D_begin (-1) σ1 = some σ2 := d1
        obtain ⟨e1, e2⟩ := (s_nm_wn c1).lt
        have hl : D_longestAt node name σ2 = some (nI (s_longest N a (v_ name))) := by
          rw [i3]
          conv => lhs; rw [e1]
          exact p_longestAt d2.1.1 hN i1 e2
        refine ⟨σ2, ?_, hk.trans d3.keep⟩
        rw [d1', x_bS, hl, x_bS]
        by_cases c2 : letters = 0
        · rw [if_pos c2, if_pos c2, i3]
          have H := p_ways_57 (name := v_ name) d2 hN i1 e2
          rw [← e1] at H
          exact H
        · rw [if_neg c2, if_neg c2]
      · rw [if_neg c1, if_pos (show (0 : Int32) = 0 from rfl), if_neg c1]
        exact ⟨σ1, rfl, hk⟩
/-- the row of nodes that were walked -/
def t_wlk (σ : t_S) (l : List Nat) : Prop := t_i σ 79 = nI l.length ∧ ∀ i (h : i < l.length), t_a σ 78 i = nI l[i]
def t_p78 (σ σ' : t_S) : Prop := (∀ k, k ≠ 79 → t_i σ' k = t_i σ k) ∧ ∀ k j, k ≠ 78 → t_a σ' k j = t_a σ k j
theorem t_p78.keep (h : t_p78 σ σ') : t_keep σ σ' := fun k j hk => h.2 k j (by omega)
theorem s_serve_eq {node name : Nat} : (oI (s_serve N node name) = -1) ↔ s_serve N node name = none ∨ ∃ k, s_serve N node name = some k ∧ nI k = -1 := by
  cases h : s_serve N node name with
  | none => simp [oI]
  | some k => simp [oI]
theorem p_walks_13 {name : Nat} (hN : n_ok N) (hlk : s_lkok N lk) (hm : name < 2 ^ 31) : ∀ (m f : Nat) (been : Int32) (fr : Option Nat) (at_ : Nat) (l : List Nat) (s : t_S), (∃ c, t_rel s N lk (s_begin c)) → t_wlk s l → at_ < 6 → (∀ x, fr = some x → x < 6) → s_pop been + m = 7 → l.length = s_pop been → m < f → ∃ s', D_walks_13 (nI name) (fun (σ25 : t_S) => some ((2 : Int32), σ25)) f been (oI fr) (nI at_) s = some ((s_walk N lk name m been fr at_ l).1, s') ∧ t_wlk s' (s_walk N lk name m been fr at_ l).2 ∧ t_p78 s s' ∧ (s_walk N lk name m been fr at_ l).2.length ≤ 7 := by
  intro m
  induction m with
  | zero =>
    intro f been fr at_ l s _ _ _ _ hp
    have : s_pop been ≤ 6 := by
      unfold s_pop
      have h0 := s_b1_le been 0
      have h1 := s_b1_le been 1
      have h2 := s_b1_le been 2
      have h3 := s_b1_le been 3
      have h4 := s_b1_le been 4
      have h5 := s_b1_le been 5
      omega
    omega
  | succ m ih =>
    intro f been fr at_ l s hr hw hat hfr hp hl hf
    obtain ⟨f, rfl⟩ : ∃ f', f = f' + 1 := ⟨f - 1, by omega⟩
    obtain ⟨c, hr⟩ := hr
    obtain ⟨w1, w2⟩ := hw
    have hs2 : ∀ x y, t_rel (t_si (t_sa s 78 x y) 79 (t_i s 79 + 1)) N lk (s_begin c) := by
      intro x y
      obtain ⟨⟨h1, h2, h3, h4⟩, h5, h6, h7, h8, ⟨v1, v2, v3⟩, h9, c1, c2, c3, c4, c5, c6⟩ := hr
      have ha : ∀ a j, a ≠ 78 → t_a (t_si (t_sa s 78 x y) 79 (t_i s 79 + 1)) a j = t_a s a j := fun a j hne => by
        rw [t_a_si, t_a_sa, if_neg (fun q => hne q.1)]
      have hi : ∀ a, a ≠ 79 → t_i (t_si (t_sa s 78 x y) 79 (t_i s 79 + 1)) a = t_i s a := fun a hne => by
        rw [t_i_si, if_neg hne]; rfl
      refine ⟨⟨t_net_of (hi 22 (by decide)) (fun j => ha 6 j (by decide)) h1, t_lk_of (fun j => ha 25 j (by decide)) h2, (hi 23 (by decide)).trans h3, (hi 24 (by decide)).trans h4⟩, (hi 26 (by decide)).trans h5, (hi 27 (by decide)).trans h6, fun n hn => ?_, fun i hx => (ha 29 i (by decide)).trans (h8 i hx), ⟨(hi 45 (by decide)).trans v1, v2, fun i hi' => absurd hi' (Nat.not_lt_zero i)⟩, fun f k q1 q2 q3 => (ha f k (by omega)).trans (h9 f k q1 q2 q3), (hi 65 (by decide)).trans c1, (hi 66 (by decide)).trans c2, (hi 67 (by decide)).trans c3, (hi 68 (by decide)).trans c4, (hi 69 (by decide)).trans c5, (hi 70 (by decide)).trans c6⟩
      obtain ⟨e1, e2, e3⟩ := h7 n hn
      exact ⟨t_es_of (σ := s) (fun a j q1 q2 => ha a j (by omega)) (fun _ _ _ _ => rfl) e1, t_ds_of (σ := s) (fun a j q1 q2 => ha a j (by omega)) e2, e3⟩
    have hp6 : s_pop been ≤ 6 := by omega
    have hll : l.length < 8 := by omega
    have hs3 := hs2 l.length (nI at_)
    have hw3 : t_wlk (t_si (t_sa s 78 l.length (nI at_)) 79 (t_i s 79 + 1)) (l ++ [at_]) := by
      refine ⟨?_, fun i hi => ?_⟩
      · rw [t_i_si, if_pos rfl, w1, nI_1, List.length_append]; rfl
      · rw [List.length_append] at hi
        have hi' : i < l.length + 1 := hi
        rw [t_a_si, t_a_sa]
        by_cases q : i = l.length
        · subst q
          rw [if_pos ⟨rfl, rfl⟩, List.getElem_append_right (Nat.le_refl _)]
          simp
        · rw [if_neg (fun z => q z.2), List.getElem_append_left (by omega)]
          exact w2 i (by omega)
    have ho3 : t_p78 s (t_si (t_sa s 78 l.length (nI at_)) 79 (t_i s 79 + 1)) := ⟨fun k hk => by rw [t_i_si, if_neg hk]; rfl, fun k j hk => by rw [t_a_si, t_a_sa, if_neg (fun q => hk q.1)]⟩
    have hlen : (l ++ [at_]).length = l.length + 1 := by rw [List.length_append]; rfl
    have hmv : t_i (t_sa s 78 l.length (nI at_)) 79 = t_i s 79 := rfl
    generalize hs3e : t_si (t_sa s 78 l.length (nI at_)) 79 (t_i s 79 + 1) = s3 at hs3 hw3 ho3
    unfold s_walk
    have hstep : D_walks_13 (nI name) (fun (σ25 : t_S) => some ((2 : Int32), σ25)) (f + 1) been (oI fr) (nI at_) s = x_b (D_has been (nI at_)) fun r12 => if r12 = 0 then (x_l (been ||| ((1 : Int32) <<< (nI at_ &&& 31))) fun v14 => x_b (D_serveFor (nI at_) (nI name) s3) fun r16 => if r16 = (-1 : Int32) then (x_l (fun (s18 : Int32) (s19 : Int32) (s20 : Int32) => x_b (D_nextWay s18 s19 s20 s3) fun r22 => if r22 = (-1 : Int32) then (some ((2 : Int32), s3)) else D_walks_13 (nI name) (fun (σ25 : t_S) => some ((2 : Int32), σ25)) f v14 (nI at_) r22 s3) fun J83 => if oI fr = (-1 : Int32) then (J83 (nI at_) (nI name) (0 : Int32)) else J83 (nI at_) (nI name) ((1 : Int32) <<< (oI fr &&& 31))) else some ((1 : Int32), s3)) else some ((3 : Int32), s3) := by
      show x_ga (t_i s 79) 8 _ = _
      rw [w1, x_gaS hll (by omega), x_lS, x_lS, hmv, hs3e]
    rw [hstep, p_has', x_bS]
    by_cases d1 : s_bit been (nI at_) = true
    · rw [if_pos d1, if_neg (show ¬ (1 : Int32) = 0 by decide), if_pos d1]
      exact ⟨s3, rfl, hw3, ho3, by show (l ++ [at_]).length ≤ 7; omega⟩
    · have d1' : s_bit been (nI at_) = false := by simpa using d1
      have hpop := s_pop_or been hat d1'
      rw [if_neg d1, if_pos (show (0 : Int32) = 0 from rfl), if_neg d1, x_lS, p_serveFor hs3.1.1 hN hat hm, x_bS]
      cases hsv : s_serve N at_ name with
      | some k =>
        have hk6 := (n_sv_b hN (s_serve_lt hsv)).1
        rw [if_neg (show ¬ oI (some k) = -1 from oI_none (by omega)), if_pos (by simp)]
        exact ⟨s3, rfl, hw3, ho3, by show (l ++ [at_]).length ≤ 7; omega⟩
      | none =>
        rw [if_pos (show oI none = -1 from rfl), if_neg (by simp), x_lS]
        have hdn : t_i s3 26 = 0 := hs3.2.1
        have hnext : ∀ but : Int32, ∃ s', (x_b (D_nextWay (nI at_) (nI name) but s3) fun r22 => if r22 = (-1 : Int32) then (some ((2 : Int32), s3)) else D_walks_13 (nI name) (fun (σ25 : t_S) => some ((2 : Int32), σ25)) f (been ||| ((1 : Int32) <<< (nI at_ &&& 31))) (nI at_) r22 s3) = some ((match s_next N lk 0 (fun _ => -1) at_ name but with
            | none => ((2 : Int32), l ++ [at_])
            | some to => s_walk N lk name m (been ||| ((1 : Int32) <<< (nI at_ &&& 31))) (some at_) to (l ++ [at_])).1, s') ∧ t_wlk s' (match s_next N lk 0 (fun _ => -1) at_ name but with
            | none => ((2 : Int32), l ++ [at_])
            | some to => s_walk N lk name m (been ||| ((1 : Int32) <<< (nI at_ &&& 31))) (some at_) to (l ++ [at_])).2 ∧ t_p78 s s' ∧ (match s_next N lk 0 (fun _ => -1) at_ name but with
            | none => ((2 : Int32), l ++ [at_])
            | some to => s_walk N lk name m (been ||| ((1 : Int32) <<< (nI at_ &&& 31))) (some at_) to (l ++ [at_])).2.length ≤ 7 := by
          intro but
          rw [p_nextWay hs3.1.1 hN hs3.1.2.1 hat hm, x_bS, hdn, s_next_congr (ms' := fun _ => -1) hN hat (fun i hi => hs3.2.2.2.2.1 i hi)]
          cases hnx : s_next N lk 0 (fun _ => -1) at_ name but with
          | none => exact ⟨s3, if_pos rfl, hw3, ho3, by show (l ++ [at_]).length ≤ 7; omega⟩
          | some to =>
            have hto := (s_next_some hnx hN).1
            rw [if_neg (show ¬ oI (some to) = -1 from oI_none (by omega))]
            obtain ⟨s', q1, q2, q3, q4⟩ := ih f (been ||| ((1 : Int32) <<< (nI at_ &&& 31))) (some at_) to (l ++ [at_]) s3 ⟨c, hs3⟩ hw3 hto (fun x hx => by cases hx; exact hat) (by omega) (by omega) (by omega)
            exact ⟨s', q1, q2, ⟨fun k hk => (q3.1 k hk).trans (ho3.1 k hk), fun k j hk => (q3.2 k j hk).trans (ho3.2 k j hk)⟩, q4⟩
        cases fr with
        | none =>
          rw [if_pos (show oI none = -1 from rfl)]
          exact hnext 0
        | some x =>
          have hx6 := hfr x rfl
          rw [if_neg (show ¬ oI (some x) = -1 from oI_none (by omega))]
          exact hnext ((1 : Int32) <<< (nI x &&& 31))
theorem p_trail {n node name k : Int32} (h : t_st σ T) : ∃ σ', D_trail n node name k σ = some (q_trail T n node name k, σ') ∧ t_keep σ σ' := by
  have h0 : t_st (t_si σ 0 0) T := h.keep t_keep.si
  obtain ⟨σ1, a1, a2, -, -, a3⟩ := p_hasNet (k := n) h0
  have hk : t_keep σ σ1 := t_keep.si.trans a2
  unfold D_trail q_trail
  rw [x_lS, a1, x_b2S]
  cases hn : s_row (u_nets T.1) n with
  | none => exact ⟨σ1, if_pos rfl, hk⟩
  | some N =>
    have b := a3 N hn
    have hN := u_net_ok h hn
    show ∃ σ', (if (1 : Int32) = 0 then _ else _) = _ ∧ _
    rw [if_neg (show ¬ (1 : Int32) = 0 by decide), p_isNodeS b.2.1 hN, x_bS]
    cases hx : s_node N node with
    | none => simp only [hx]; exact ⟨σ1, if_pos trivial, hk⟩
    | some a =>
      obtain ⟨i1, i2, i3⟩ := s_node_lt hN hx
      simp only [hx]
      show ∃ σ', (if (1 : Int32) = 0 then _ else _) = some ((if s_nm name = true then
        (if k = -1 then nI (s_trail N (s_lk0 N none) a (v_ name)).2.length else if k = 20 then (s_trail N (s_lk0 N none) a (v_ name)).1
         else match s_ix k (s_trail N (s_lk0 N none) a (v_ name)).2.length with
          | none => -1
          | some j => match (s_trail N (s_lk0 N none) a (v_ name)).2[j]? with
            | none => -1
            | some x => nI x)
      else -1), σ') ∧ _
      rw [if_neg (show ¬ (1 : Int32) = 0 by decide), p_isName, x_bS]
      by_cases c1 : s_nm name = true
      · rw [if_pos c1, if_neg (show ¬ (1 : Int32) = 0 by decide), if_pos c1]
        obtain ⟨σ2, d1, d2, d3⟩ := p_begin (away := none) b hN (fun j hj => by cases hj)
        have d1' : D_begin (-1) σ1 = some σ2 := d1
        obtain ⟨e1, e2⟩ := (s_nm_wn c1).lt
        have hrel0 : t_rel (t_si σ2 79 0) N (s_lk0 N none) (s_begin (t_a σ1)) := by
          obtain ⟨⟨h1, h2, h3, h4⟩, h5, h6, h7, h8, ⟨w1, w2, w3⟩, h9, c1, c2, c3, c4, c5, c6⟩ := d2
          exact ⟨⟨t_net_si (by decide) h1, h2, h3, h4⟩, h5, h6, h7, h8, ⟨w1, w2, w3⟩, h9, c1, c2, c3, c4, c5, c6⟩
        obtain ⟨σ3, f1, f2, f3, f4⟩ := p_walks_13 (name := v_ name) hN (s_lk0_ok hN) e2 7 x_F 0 none a [] (t_si σ2 79 0) ⟨_, hrel0⟩ ⟨rfl, fun i hi => absurd hi (Nat.not_lt_zero i)⟩ i1 (fun x hx => by cases hx) (by rw [s_pop_0]) (by rw [s_pop_0]; rfl) (by rw [x_Fv]; omega)
        have hw : D_walks node name σ2 = some ((s_trail N (s_lk0 N none) a (v_ name)).1, σ3) := by
          unfold D_walks
          rw [x_lS, i3]
          conv => lhs; rw [e1]
          exact f1
        have f2' : t_wlk σ3 (s_trail N (s_lk0 N none) a (v_ name)).2 := f2
        have f4' : (s_trail N (s_lk0 N none) a (v_ name)).2.length ≤ 7 := f4
        have hk3 : t_keep σ σ3 := (hk.trans d3.keep).trans (t_keep.si.trans f3.keep)
        refine ⟨σ3, ?_, hk3⟩
        rw [d1', x_bS, hw, x_b2S, x_lS]
        by_cases k1 : k = -1
        · rw [if_pos k1, if_pos k1, if_pos k1, f2'.1]
        · rw [if_neg k1, if_neg k1, if_neg k1]
          by_cases k2 : k = 20
          · rw [if_pos k2, if_pos k2]
          · rw [if_neg k2, if_neg k2, f2'.1, p_inIx (by omega), x_bS]
            cases hj : s_ix k (s_trail N (s_lk0 N none) a (v_ name)).2.length with
            | none => exact if_pos rfl
            | some j =>
              obtain ⟨j1, j2⟩ := s_ix_some hj
              show (if (1 : Int32) = 0 then _ else _) = _
              rw [if_neg (show ¬ (1 : Int32) = 0 by decide), j2, x_gaS (by omega) (by omega), f2'.2 j j1]
              simp only [List.getElem?_eq_getElem j1]
      · rw [if_neg c1, if_pos (show (0 : Int32) = 0 from rfl), if_neg c1]
        exact ⟨σ1, rfl, hk⟩
end T71
