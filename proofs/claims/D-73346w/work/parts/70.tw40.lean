/-! THE TWIN's LAW, 40: tables, ways -/
set_option maxRecDepth 100000
set_option maxHeartbeats 400000
/-- a name's beginnings, the longest first -/
def s_pfx (n : Nat) : List Nat := if h : n = 0 then [] else n :: s_pfx (n / 27)
termination_by n
decreasing_by omega
theorem s_pfx0 : s_pfx 0 = [] := by rw [s_pfx, dif_pos rfl]
theorem s_pfxS {n : Nat} (h : n ≠ 0) : s_pfx n = n :: s_pfx (n / 27) := by rw [s_pfx, dif_neg h]
theorem s_pfx_len : ∀ k n, n < 27 ^ k → (s_pfx n).length ≤ k := by
  intro k
  induction k with
  | zero =>
    intro n h
    rw [show n = 0 by simpa using h, s_pfx0]
    exact Nat.le_refl _
  | succ k ih =>
    intro n h
    by_cases c : n = 0
    · rw [c, s_pfx0]; exact Nat.zero_le _
    · rw [s_pfxS c, List.length_cons]
      have := ih (n / 27) (by rw [Nat.div_lt_iff_lt_mul (by omega)]; rw [Nat.pow_succ] at h; exact h)
      omega
/-- one more, if it is new -/
def s_addP (l : List Nat) (p : Nat) : List Nat := if p ∈ l then l else l ++ [p]
theorem s_addP_len (l : List Nat) (p : Nat) : (s_addP l p).length ≤ l.length + 1 := by
  unfold s_addP
  split
  · omega
  · rw [List.length_append]; exact Nat.le_refl _
def s_parts (N : s_R) (node : Nat) : List Nat := s_fold (fun k l => if n_rn N k = node then (s_pfx (n_rw N k)).foldl s_addP l else l) 0 (n_routes N) []
def s_routesAt (N : s_R) (node : Nat) : Nat := s_cntB (fun k => decide (n_rn N k = node)) (n_routes N)
def q_table (T : s_T) (n node what : Int32) : Int32 := match s_row (u_nets T.1) n with
  | none => -1
  | some N => match s_node N node with
    | none => -1
    | some a => if what = 0 then nI (s_parts N a).length else if what = 1 then nI (s_routesAt N a) else -1
/-- the nodes that a name can go to from a node -/
def s_ways (N : s_R) (lk : Nat → Option Nat) (node name : Nat) : Int32 := s_fold (fun k x => if 0 < s_longest N node name ∧ n_rn N k = node ∧ s_len (n_rw N k) = s_longest N node name ∧ s_pre (n_rw N k) name = true ∧ s_up lk 0 node (n_rt N k) = true then x ||| ((1 : Int32) <<< (nI (n_rt N k) &&& 31)) else x) 0 (n_routes N) 0
def q_ways (T : s_T) (n node name letters : Int32) : Int32 := match s_row (u_nets T.1) n with
  | none => -1
  | some N => match s_node N node with
    | none => -1
    | some a => if s_nm name = true then (if letters = 0 then s_ways N (s_lk0 N none) a (v_ name) else nI (s_longest N a (v_ name))) else -1
section T70
variable {σ σ' : t_S} {N R : s_R} {T : s_T} {lk : Nat → Option Nat} {G : s_G} {K : Nat} {W : s_W} {t : Nat}
/-- the rows of letters that were found -/
def t_parts (σ : t_S) (l : List Nat) : Prop := ∀ i (h : i < l.length), t_a σ 77 i = nI l[i]
theorem p_rowsAt_45 {n k part : Nat} {a1 a3 : Int32} {l : List Nat} (Kf : Int32 → Option (Int32 × t_S)) (hp : t_parts σ l) (hb : ∀ p ∈ l, p < 2 ^ 31) (hl : l.length ≤ 48) (hpart : part < 2 ^ 31) : ∀ (m f i : Nat) (had : Bool), i + m = l.length → m < f → D_rowsAt_45 a1 (nI l.length) a3 (nI part) σ Kf f (if had = true then 1 else 0) (nI i) = Kf (if had = true ∨ part ∈ l.drop i then 1 else 0) := by
  intro m
  induction m with
  | zero =>
    intro f i had hm hf
    obtain ⟨f, rfl⟩ : ∃ f', f = f' + 1 := ⟨f - 1, by omega⟩
    show (if nI l.length ≤ nI i then _ else _) = _
    rw [if_pos (nI_le (by omega) (by omega)), List.drop_of_length_le (by omega)]
    cases had <;> simp
  | succ m ih =>
    intro f i had hm hf
    obtain ⟨f, rfl⟩ : ∃ f', f = f' + 1 := ⟨f - 1, by omega⟩
    have hi : i < l.length := by omega
    have hd : l.drop i = l[i] :: l.drop (i + 1) := List.drop_eq_getElem_cons hi
    show (if nI l.length ≤ nI i then _ else _) = _
    rw [if_neg (nI_ge hi (by omega)), x_lS, x_lS, nI_1]
    have ih1 := ih f (i + 1) true (by omega) (by omega)
    have ih0 := ih f (i + 1) false (by omega) (by omega)
    simp only [if_true, true_or] at ih1
    cases had with
    | true =>
      simp only [if_true, true_or]
      rw [if_neg (show ¬ (1 : Int32) = 0 by decide), ih1]
    | false =>
      simp only [Bool.false_eq_true, if_false, false_or] at ih0 ⊢
      rw [if_pos trivial, x_gaS (by omega) (by omega), hp i hi]
      by_cases c : l[i] = part
      · rw [if_pos (by rw [c]), ih1, if_pos]
        rw [hd, c]
        simp
      · rw [if_neg (fun q => c ((nI_eq (hb _ (List.getElem_mem hi)) hpart).mp q)), x_lS, ih0]
        have : (part ∈ l.drop (i + 1)) ↔ part ∈ l.drop i := by
          rw [hd, List.mem_cons]
          constructor
          · exact Or.inr
          · rintro (q | q)
            · exact absurd q.symm c
            · exact q
        simp only [this]
theorem t_parts_add {l : List Nat} {p : Nat} (h : t_parts σ l) : t_parts (t_sa σ 77 l.length (nI p)) (l ++ [p]) := by
  intro i hi
  rw [List.length_append] at hi
  have hi' : i < l.length + 1 := hi
  rw [t_a_sa]
  by_cases c : i = l.length
  · subst c
    rw [if_pos ⟨rfl, rfl⟩, List.getElem_append_right (Nat.le_refl _)]
    simp
  · rw [if_neg (fun q => c q.2), List.getElem_append_left (by omega)]
    exact h i (by omega)
theorem t_parts_same {l : List Nat} (h : t_parts σ l) {x : Int32} : t_parts (t_sa σ 77 l.length x) l := by
  intro i hi
  rw [t_a_sa, if_neg (by omega)]
  exact h i hi
/-- only the row of parts changes -/
def t_p77 (σ σ' : t_S) : Prop := (∀ k, t_i σ' k = t_i σ k) ∧ ∀ k j, k ≠ 77 → t_a σ' k j = t_a σ k j
theorem p_rowsAt_34 {a1 a3 : Int32} (Kf : Int32 → t_S → Option (Int32 × t_S)) : ∀ (m f part : Nat) (l : List Nat) (σ : t_S), t_parts σ l → (∀ p ∈ l, p < 2 ^ 31) → part < 2 ^ 31 → (s_pfx part).length = m → l.length + m ≤ 48 → m < f → ∃ σ', D_rowsAt_34 a1 a3 Kf f (nI l.length) (nI part) σ = Kf (nI ((s_pfx part).foldl s_addP l).length) σ' ∧ t_parts σ' ((s_pfx part).foldl s_addP l) ∧ (∀ p ∈ (s_pfx part).foldl s_addP l, p < 2 ^ 31) ∧ t_p77 σ σ' ∧ ((s_pfx part).foldl s_addP l).length ≤ l.length + m := by
  intro m
  induction m with
  | zero =>
    intro f part l σ hp hb hpart hm hl hf
    obtain ⟨f, rfl⟩ : ∃ f', f = f' + 1 := ⟨f - 1, by omega⟩
    have h0 : part = 0 := by
      by_cases c : part = 0
      · exact c
      · rw [s_pfxS c] at hm; simp at hm
    subst h0
    rw [s_pfx0]
    refine ⟨σ, ?_, hp, hb, ⟨fun _ => rfl, fun _ _ _ => rfl⟩, Nat.le_refl _⟩
    show (if nI 0 ≤ 0 then _ else _) = _
    rw [if_pos (by rw [nI_0]; exact Int32.le_refl _)]
    rfl
  | succ m ih =>
    intro f part l σ hp hb hpart hm hl hf
    obtain ⟨f, rfl⟩ : ∃ f', f = f' + 1 := ⟨f - 1, by omega⟩
    have h0 : part ≠ 0 := by
      intro q
      rw [q, s_pfx0] at hm
      simp at hm
    rw [s_pfxS h0] at hm ⊢
    rw [List.length_cons] at hm
    have h45 := p_rowsAt_45 (n := 0) (k := 0) (part := part) (a1 := a1) (a3 := a3) (σ := σ) (Kf := fun (v5_35 : Int32) => x_l (fun (s36 : Int32) (s37 : Int32) => x_ga s36 48 fun j38 => x_l (t_sa σ 77 j38 s37) fun σ39 => x_l (fun (s40 : Int32) (s41 : Int32) => x_l (s40 + s41) fun v42 => x_l (nI part / (27 : Int32)) fun v43 => D_rowsAt_34 a1 a3 Kf f v42 v43 σ39) fun J114 => if v5_35 = 0 then (J114 (nI l.length) (1 : Int32)) else J114 (nI l.length) (0 : Int32)) fun J102 => if v5_35 = 0 then (J102 (nI l.length) (nI part)) else x_ga (nI l.length) 48 fun j46 => J102 (nI l.length) (t_a σ 77 j46)) hp hb (by omega) hpart l.length x_F 0 false (by omega) (by rw [x_Fv]; omega)
    simp only [Bool.false_eq_true, if_false, false_or, List.drop_zero] at h45
    have g1 : ∀ {α : Type} (kk : Nat → Option α), x_ga (nI l.length) 48 kk = kk l.length := fun kk => x_gaS (by omega) (by omega)
    have hdiv : nI part / 27 = nI (part / 27) := nI_div (b := 27) hpart (by omega)
    have hlt : part / 27 < 2 ^ 31 := Nat.lt_of_le_of_lt (Nat.div_le_self _ _) hpart
    have hstep : D_rowsAt_34 a1 a3 Kf (f + 1) (nI l.length) (nI part) σ = if part ∈ l then D_rowsAt_34 a1 a3 Kf f (nI l.length) (nI (part / 27)) (t_sa σ 77 l.length (t_a σ 77 l.length)) else D_rowsAt_34 a1 a3 Kf f (nI (l.length + 1)) (nI (part / 27)) (t_sa σ 77 l.length (nI part)) := by
      show (if nI part ≤ 0 then _ else _) = _
      rw [if_neg (nI_nle (by omega) hpart)]
      refine h45.trans ?_
      by_cases c : part ∈ l
      · rw [if_pos c, if_pos c, x_lS, if_neg (show ¬ (1 : Int32) = 0 by decide), g1]
        show x_ga (nI l.length) 48 _ = _
        rw [g1, x_lS, x_lS, if_neg (show ¬ (1 : Int32) = 0 by decide)]
        show x_l (nI l.length + 0) _ = _
        rw [x_lS, x_lS, hdiv, Int32.add_zero]
      · rw [if_neg c, if_neg c, x_lS, if_pos (show (0 : Int32) = 0 from rfl)]
        show x_ga (nI l.length) 48 _ = _
        rw [g1, x_lS, x_lS, if_pos (show (0 : Int32) = 0 from rfl)]
        show x_l (nI l.length + 1) _ = _
        rw [x_lS, x_lS, hdiv, nI_1]
    rw [hstep]
    have hadd : s_addP l part = if part ∈ l then l else l ++ [part] := rfl
    rw [List.foldl_cons, hadd]
    by_cases c : part ∈ l
    · simp only [if_pos c]
      obtain ⟨s1, a1', a2, a3', a4, a5⟩ := ih f (part / 27) l (t_sa σ 77 l.length (t_a σ 77 l.length)) (t_parts_same hp) hb hlt (by omega) (by omega) (by omega)
      exact ⟨s1, a1', a2, a3', ⟨fun k => a4.1 k, fun k j hk => (a4.2 k j hk).trans (by rw [t_a_sa, if_neg (fun q => hk q.1)])⟩, Nat.le_trans a5 (by omega)⟩
    · simp only [if_neg c]
      have hlen : (l ++ [part]).length = l.length + 1 := by rw [List.length_append]; rfl
      obtain ⟨s1, a1', a2, a3', a4, a5⟩ := ih f (part / 27) (l ++ [part]) (t_sa σ 77 l.length (nI part)) (t_parts_add hp) (fun p hp' => by
        rcases List.mem_append.mp hp' with q | q
        · exact hb p q
        · rw [List.mem_singleton.mp q]; exact hpart) hlt (by omega) (by rw [hlen]; omega) (by omega)
      rw [hlen] at a1' a5
      exact ⟨s1, a1', a2, a3', ⟨fun k => a4.1 k, fun k j hk => (a4.2 k j hk).trans (by rw [t_a_sa, if_neg (fun q => hk q.1)])⟩, Nat.le_trans a5 (by omega)⟩
theorem p_rowsAt {node : Nat} (h : t_net σ N) (hN : n_ok N) (hn : node < 6) : ∃ σ', D_rowsAt (nI node) σ = some (nI (s_parts N node).length, σ') ∧ t_p77 σ σ' := by
  obtain ⟨c1, c2, c3, c4, c5, c6⟩ := n_counts hN
  have key2 : ∀ (m f k : Nat) (l : List Nat) (s : t_S), k + m = n_routes N → m < f → t_parts s l → (∀ p ∈ l, p < 2 ^ 31) → l.length ≤ 4 * k → t_p77 σ s → ∃ s', D_rowsAt_4 (nI node) (fun (v2_53 : Int32) (σ54 : t_S) => some (v2_53, σ54)) f (nI l.length) (nI k) s = some (nI (s_fold (fun k l => if n_rn N k = node then (s_pfx (n_rw N k)).foldl s_addP l else l) k m l).length, s') ∧ t_p77 σ s' := by
    intro m
    induction m with
    | zero =>
      intro f k l s hk hf hp hb hl ho
      obtain ⟨f, rfl⟩ : ∃ f', f = f' + 1 := ⟨f - 1, by omega⟩
      have hnet : t_net s N := t_net_of (ho.1 22) (fun j => ho.2 6 j (by decide)) h
      refine ⟨s, ?_, ho⟩
      show x_b (D_routes s) _ = _
      rw [p_routes hnet, x_bS, c2, if_pos (nI_le (by omega) (by omega))]
      rfl
    | succ m ih =>
      intro f k l s hk hf hp hb hl ho
      obtain ⟨f, rfl⟩ : ∃ f', f = f' + 1 := ⟨f - 1, by omega⟩
      have hnet : t_net s N := t_net_of (ho.1 22) (fun j => ho.2 6 j (by decide)) h
      have hkr : k < n_routes N := by omega
      obtain ⟨b1, b2, b3, b4, b5, b6, b7, b8, b9⟩ := n_rt_b hN hkr
      have hpl := s_pfx_len 4 (n_rw N k) b7
      have hstep : ∀ (part : Nat), part < 27 ^ 4 → ∃ s1, D_rowsAt_34 (nI node) (nI k) (fun (v2_47 : Int32) (σ48 : t_S) => x_l (nI k + (1 : Int32)) fun v49 => D_rowsAt_4 (nI node) (fun (v2_53 : Int32) (σ54 : t_S) => some (v2_53, σ54)) f v2_47 v49 σ48) x_F (nI l.length) (nI part) s = D_rowsAt_4 (nI node) (fun (v2_53 : Int32) (σ54 : t_S) => some (v2_53, σ54)) f (nI ((s_pfx part).foldl s_addP l).length) (nI (k + 1)) s1 ∧ t_parts s1 ((s_pfx part).foldl s_addP l) ∧ (∀ p ∈ (s_pfx part).foldl s_addP l, p < 2 ^ 31) ∧ t_p77 s s1 ∧ ((s_pfx part).foldl s_addP l).length ≤ l.length + 4 := by
        intro part hpart
        have hl4 := s_pfx_len 4 part hpart
        obtain ⟨s1, e1, e2, e3, e4, e5⟩ := p_rowsAt_34 (a1 := nI node) (a3 := nI k) (fun (v2_47 : Int32) (σ48 : t_S) => x_l (nI k + (1 : Int32)) fun v49 => D_rowsAt_4 (nI node) (fun (v2_53 : Int32) (σ54 : t_S) => some (v2_53, σ54)) f v2_47 v49 σ48) (s_pfx part).length x_F part l s hp hb (by omega) rfl (by omega) (by rw [x_Fv]; omega)
        refine ⟨s1, ?_, e2, e3, e4, by omega⟩
        rw [e1, x_lS, nI_1]
      show ∃ s', x_b (D_routes s) _ = _ ∧ _
      rw [p_routes hnet, x_bS, c2, if_neg (nI_ge hkr (by omega)), show (0 : Int32) = nI 0 from rfl, p_routeAt hnet b1 (by omega), x_bS, x_lS, Nat.add_zero, b2]
      by_cases c : n_rn N k = node
      · rw [if_pos (by rw [c]), show (1 : Int32) = nI 1 from rfl, p_routeAt hnet b1 (by omega), x_bS, b3]
        obtain ⟨s1, e1, e2, e3, e4, e5⟩ := hstep (n_rw N k) b7
        obtain ⟨s2, f1, f2⟩ := ih f (k + 1) _ s1 (by omega) (by omega) e2 e3 (by omega) ⟨fun j => (e4.1 j).trans (ho.1 j), fun a j ha => (e4.2 a j ha).trans (ho.2 a j ha)⟩
        refine ⟨s2, ?_, f2⟩
        show D_rowsAt_34 _ _ _ x_F _ _ _ = some (nI (s_fold _ (k + 1) m (if n_rn N k = node then (s_pfx (n_rw N k)).foldl s_addP l else l)).length, s2)
        rw [if_pos c]
        exact e1.trans f1
      · rw [if_neg (fun q => c ((nI_eq (by omega) (by omega)).mp q))]
        obtain ⟨s1, e1, e2, e3, e4, e5⟩ := hstep 0 (by decide)
        rw [s_pfx0] at e1 e2 e3 e5
        obtain ⟨s2, f1, f2⟩ := ih f (k + 1) l s1 (by omega) (by omega) e2 e3 (by omega) ⟨fun j => (e4.1 j).trans (ho.1 j), fun a j ha => (e4.2 a j ha).trans (ho.2 a j ha)⟩
        refine ⟨s2, ?_, f2⟩
        show D_rowsAt_34 _ _ _ x_F _ _ _ = some (nI (s_fold _ (k + 1) m (if n_rn N k = node then (s_pfx (n_rw N k)).foldl s_addP l else l)).length, s2)
        rw [if_neg c]
        exact e1.trans f1
  obtain ⟨s', e1, e2⟩ := key2 (n_routes N) x_F 0 [] σ (by omega) (by rw [x_Fv]; omega) (fun i hi => absurd hi (Nat.not_lt_zero i)) (fun p hp => by simp at hp) (Nat.zero_le _) ⟨fun _ => rfl, fun _ _ _ => rfl⟩
  exact ⟨s', e1, e2⟩
end T70
