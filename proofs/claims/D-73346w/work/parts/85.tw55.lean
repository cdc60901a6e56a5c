/-! THE TWIN's LAW, 55: lines of runs, of logs -/
set_option maxRecDepth 100000
set_option maxHeartbeats 400000
def s_deedBy (w : Int64) : Int32 := if w = 6386539 then 0 else if w = 440005915496 then 1 else if w = 2002872692 then 2 else if w = 6518132 then 3 else if w = 1835363940 then 4 else -1
def s_row3 (a b c : Int32) : Nat → Int32 := fun i => if i = 0 then a else if i = 1 then b else c
def s_askLine (B : Nat → Int32) (d : Int32) (at_ : Nat) (y : s_Y) : Nat ⊕ s_Y := s_sb (s_takeNode B (-1) (s_nextT B (s_full 0 40 at_ y))) fun p => s_sb (s_takeName B p.2) fun q => .inr (y_srow q.2 (s_keepR 0 1 3 40 (s_row3 d p.1 q.1) (y_row q.2)))
def s_waitLine (B : Nat → Int32) (d : Int32) (at_ : Nat) (y : s_Y) : Nat ⊕ s_Y := s_sb (s_takeB B 1 20 (-1) (s_nextT B (s_full 0 40 at_ y))) fun p => .inr (y_srow p.2 (s_keepR 0 1 3 40 (s_row3 d p.1 (-1)) (y_row p.2)))
def s_cutLine (B : Nat → Int32) (d : Int32) (at_ : Nat) (y : s_Y) : Nat ⊕ s_Y := s_sb (s_takeNode B (-1) (s_nextT B (s_full 0 40 at_ y))) fun p => s_sb (s_takeNode B p.1 p.2) fun q => .inr (y_srow q.2 (s_keepR 0 1 3 40 (s_row3 d p.1 q.1) (y_row q.2)))
def s_runLine (B : Nat → Int32) (w : Int64) (at_ : Nat) (y : s_Y) : Nat ⊕ s_Y :=
  if s_deedBy w = -1 then .inl (k_at (y_k y)) else if s_deedBy w = 2 then s_waitLine B (s_deedBy w) at_ y else if 2 < s_deedBy w then s_cutLine B (s_deedBy w) at_ y else s_askLine B (s_deedBy w) at_ y
def s_gotLine (B : Nat → Int32) (at_ : Nat) (y : s_Y) : Nat ⊕ s_Y := s_sb (s_takeB B 0 39 (-1) (s_nextT B (s_full 0 8 at_ y))) fun p => s_sb (s_takeB B 0 99 (-1) p.2) fun q => .inr (y_srow q.2 (s_keepR 0 1 2 8 (s_row3 p.1 q.1 0) (y_row q.2)))
def s_lostLine (B : Nat → Int32) (at_ : Nat) (y : s_Y) : Nat ⊕ s_Y := s_sb (s_takeB B 0 39 (-1) (s_nextT B (s_full 0 8 at_ y))) fun p => .inr (y_srow p.2 (s_keepR 0 1 2 8 (s_row3 p.1 (-1) 0) (y_row p.2)))
def s_logLine (B : Nat → Int32) (w : Int64) (at_ : Nat) (y : s_Y) : Nat ⊕ s_Y := if w = 6778740 then s_gotLine B at_ y else if w = 1819243380 then s_lostLine B at_ y else .inl (k_at (y_k y))
section T85
variable {σ σ' : t_S} {B : Nat → Int32} {len : Nat} {y : s_Y}
theorem p_deedBy (w : Int64) : D_deedBy w = some (s_deedBy w) := by
  unfold D_deedBy s_deedBy
  by_cases c0 : w = 6386539
  · rw [if_pos (lg_eq c0), if_pos c0]
  rw [if_neg (lg_ne c0), if_neg c0]
  by_cases c1 : w = 440005915496
  · rw [if_pos (lg_eq c1), if_pos c1]
  rw [if_neg (lg_ne c1), if_neg c1]
  by_cases c2 : w = 2002872692
  · rw [if_pos (lg_eq c2), if_pos c2]
  rw [if_neg (lg_ne c2), if_neg c2]
  by_cases c3 : w = 6518132
  · rw [if_pos (lg_eq c3), if_pos c3]
  rw [if_neg (lg_ne c3), if_neg c3]
  by_cases c4 : w = 1835363940
  · rw [if_pos (lg_eq c4), if_pos c4]
  rw [if_neg (lg_ne c4), if_neg c4]
theorem s_deedBy_or (w : Int64) : s_deedBy w = 0 ∨ s_deedBy w = 1 ∨ s_deedBy w = 2 ∨ s_deedBy w = 3 ∨ s_deedBy w = 4 ∨ s_deedBy w = -1 := by
  unfold s_deedBy
  split
  · exact Or.inl rfl
  split
  · exact Or.inr (Or.inl rfl)
  split
  · exact Or.inr (Or.inr (Or.inl rfl))
  split
  · exact Or.inr (Or.inr (Or.inr (Or.inl rfl)))
  split
  · exact Or.inr (Or.inr (Or.inr (Or.inr (Or.inl rfl))))
  · exact Or.inr (Or.inr (Or.inr (Or.inr (Or.inr rfl))))
/-- a line's end: its three numbers are kept -/
theorem p_keep3 {d a b : Int32} {kk : Nat} (h : t_Y σ B len y) (hk : y_row y 0 = nI kk) (hkm : kk ≤ 40) (h1 : t_a σ 19 1 = a) (h2 : t_a σ 19 2 = b) : ∃ r σ', (x_ga (0 : Int32) 4 fun j14 => x_l (t_sa σ 19 j14 d) fun σ15 => x_b (D_keepRow (0 : Int32) (1 : Int32) (3 : Int32) (40 : Int32) σ15) fun σ17 => some ((1 : Int32), σ17)) = some (r, σ') ∧ t_ln σ B len (.inr (y_srow y (s_keepR 0 1 3 40 (s_row3 d a b) (y_row y)))) r σ' := by
  obtain ⟨s6, f1, f2, f3⟩ := p_keepRow (cnt := 0) (frm := 1) (wide := 3) (most := 40) (kk := kk) (rd := s_row3 d a b) (h.rd (k := 0) (x := d)) (by omega) (by omega) (by omega) hk hkm (by omega) (fun i hi => by
    rw [t_a_sa]
    rcases (show i = 0 ∨ i = 1 ∨ i = 2 by omega) with rfl | rfl | rfl
    · rw [if_pos ⟨rfl, rfl⟩]; rfl
    · rw [if_neg (by omega)]; exact h1
    · rw [if_neg (by omega)]; exact h2)
  have f1' : D_keepRow (0 : Int32) (1 : Int32) (3 : Int32) (40 : Int32) (t_sa σ 19 0 d) = some s6 := f1
  rw [x_ga40, x_lS, f1', x_bS]
  exact ⟨1, s6, rfl, fun a j h1 h2 => (f3 a j h1).trans (by rw [t_a_sa, if_neg (fun z => h2 z.1)]), rfl, f2⟩
theorem p_runLine {w : Int64} {at_ : Nat} (h : t_Y σ B len y) (hc : ∃ a, a ≤ 40 ∧ y_row y 0 = nI a) (hat : at_ ≤ 600) : ∃ r σ', D_runLine w (nI at_) σ = some (r, σ') ∧ t_ln σ B len (s_runLine B w at_ y) r σ' := by
  obtain ⟨kk, k1, k2⟩ := hc
  unfold D_runLine s_runLine
  rw [p_deedBy, x_bS]
  have hor := s_deedBy_or w
  generalize s_deedBy w = d at hor ⊢
  by_cases cn : d = -1
  · rw [if_pos cn, if_pos cn]
    obtain ⟨s1, a1, a2, a3, -⟩ := p_fails h
    refine ⟨0, s1, by rw [a1, x_b2S, x_gS (Or.inl rfl)], fun a j _ _ => a3 a j, rfl, a2, ?_⟩
    have := h.2.2.1.1
    have := h.1.2.1
    omega
  rw [if_neg cn, if_neg cn]
  obtain ⟨s0, z1, z2, z3⟩ := p_full (cnt := 0) (most := 40) h (by omega) hat
  have z1' : D_full (0 : Int32) (40 : Int32) (nI at_) σ = some s0 := z1
  obtain ⟨s1, a1, a2, a3⟩ := p_nextT z2
  have a2' := a2.rd (k := 2) (x := -1)
  rw [z1', x_bS, a1, x_bS, x_ga42, x_lS]
  have hm : ∀ a j, a ≠ 18 → a ≠ 19 → t_a (t_sa s1 19 2 (-1)) a j = t_a σ a j := fun a j h1 h2 => by rw [t_a_sa, if_neg (fun z => h2 z.1)]; exact (a3 a j).trans (z3 a j)
  have hr2 : t_a (t_sa s1 19 2 (-1)) 19 2 = -1 := by rw [t_a_sa, if_pos ⟨rfl, rfl⟩]
  generalize t_sa s1 19 2 (-1) = s2 at a2' hm hr2 ⊢
  have hord := (y_ord.next (B := B) (y := s_full 0 40 at_ y)).1
  have hrow0 : y_row (s_nextT B (s_full 0 40 at_ y)) = y_row y := s_full_row.1
  rw [x_lS]
  by_cases cw : d = 2
  · rw [if_pos cw, if_pos cw]
    unfold s_waitLine
    obtain ⟨r, s3, b1, b2⟩ := p_take (k := 1) (lo := 1) (hi := 20) a2' (by omega)
    have b1' : D_take (1 : Int32) (1 : Int32) (20 : Int32) s2 = some (r, s3) := b1
    rw [b1', x_b2S]
    obtain ⟨r', σ', q1, q2⟩ := t_seq (rest := x_l (fun (σ11 : t_S) => x_l (fun (σ12 : t_S) => x_l (fun (σ13 : t_S) => x_ga (0 : Int32) 4 fun j14 => x_l (t_sa σ13 19 j14 d) fun σ15 => x_b (D_keepRow (0 : Int32) (1 : Int32) (3 : Int32) (40 : Int32) σ15) fun σ17 => some ((1 : Int32), σ17)) fun J105 => if d ≤ (2 : Int32) then (J105 σ12) else x_ga (1 : Int32) 4 fun j19 => x_b2 (D_takeNode (2 : Int32) (t_a σ12 19 j19) σ12) fun r21 σ22 => if r21 = 0 then (some ((0 : Int32), σ22)) else J105 σ22) fun J83 => if (2 : Int32) ≤ d then (J83 σ11) else x_b2 (D_takeName (2 : Int32) σ11) fun r26 σ27 => if r26 = 0 then (some ((0 : Int32), σ27)) else J83 σ27) fun J69 => if d = (2 : Int32) then (J69 s3) else x_b2 (D_takeNode (1 : Int32) (-1 : Int32) s3) fun r31 σ32 => if r31 = 0 then (some ((0 : Int32), σ32)) else J69 σ32) (f := fun p => .inr (y_srow p.2 (s_keepR 0 1 3 40 (s_row3 d p.1 (-1)) (y_row p.2)))) b2 (fun p hp hY hv ho => by
      have hpo := s_takeB_ok hp hord
      rw [x_lS, if_pos cw]
      show ∃ r' σ', x_l _ _ = _ ∧ _
      rw [x_lS, if_pos (show (2 : Int32) ≤ d by rw [cw]; exact Int32.le_refl _)]
      show ∃ r' σ', x_l _ _ = _ ∧ _
      rw [x_lS, if_pos (show d ≤ (2 : Int32) by rw [cw]; exact Int32.le_refl _)]
      exact p_keep3 (d := d) hY (by rw [hpo.2.2.2.1, hrow0]; exact k2) k1 hv ((ho 2 (by omega)).trans hr2))
    exact ⟨r', σ', q1, q2.mono hm⟩
  rw [if_neg cw, if_neg cw]
  show ∃ r σ', x_l _ _ = _ ∧ _
  rw [x_lS, if_neg cw]
  obtain ⟨r, s3, b1, b2⟩ := p_takeNode (k := 1) (but := -1) a2' (by omega)
  have b1' : D_takeNode (1 : Int32) (-1 : Int32) s2 = some (r, s3) := b1
  rw [b1', x_b2S]
  by_cases cc : 2 < d
  · rw [if_pos cc]
    unfold s_cutLine
    obtain ⟨r', σ', q1, q2⟩ := t_seq (rest := x_l (fun (σ12 : t_S) => x_l (fun (σ13 : t_S) => x_ga (0 : Int32) 4 fun j14 => x_l (t_sa σ13 19 j14 d) fun σ15 => x_b (D_keepRow (0 : Int32) (1 : Int32) (3 : Int32) (40 : Int32) σ15) fun σ17 => some ((1 : Int32), σ17)) fun J105 => if d ≤ (2 : Int32) then (J105 σ12) else x_ga (1 : Int32) 4 fun j19 => x_b2 (D_takeNode (2 : Int32) (t_a σ12 19 j19) σ12) fun r21 σ22 => if r21 = 0 then (some ((0 : Int32), σ22)) else J105 σ22) fun J83 => if (2 : Int32) ≤ d then (J83 s3) else x_b2 (D_takeName (2 : Int32) s3) fun r26 σ27 => if r26 = 0 then (some ((0 : Int32), σ27)) else J83 σ27) (f := fun p => s_sb (s_takeNode B p.1 p.2) fun q => .inr (y_srow q.2 (s_keepR 0 1 3 40 (s_row3 d p.1 q.1) (y_row q.2)))) b2 (fun p hp hY hv ho => by
      have hpo := s_takeNode_ok hp hord
      rw [x_lS, if_pos (show (2 : Int32) ≤ d from Int32.le_of_lt cc)]
      show ∃ r' σ', x_l _ _ = _ ∧ _
      obtain ⟨r3, s4, d1, d2⟩ := p_takeNode (k := 2) (but := p.1) hY (by omega)
      have d1' : D_takeNode (2 : Int32) p.1 s3 = some (r3, s4) := d1
      rw [x_lS, if_neg (Int32.not_le.mpr cc), x_ga41, hv, d1', x_b2S]
      refine t_seq d2 (fun q hq hY2 hv2 ho2 => ?_)
      have hqo := s_takeNode_ok hq hpo.1
      exact p_keep3 (d := d) hY2 (by rw [hqo.2.2.2.1, hpo.2.2.2.1, hrow0]; exact k2) k1 ((ho2 1 (by omega)).trans hv) hv2)
    exact ⟨r', σ', q1, q2.mono hm⟩
  · rw [if_neg cc]
    unfold s_askLine
    have cd : ¬ (2 : Int32) ≤ d := by
      intro q
      rcases hor with c | c | c | c | c | c
      · rw [c] at q; exact absurd q (by decide)
      · rw [c] at q; exact absurd q (by decide)
      · exact cw c
      · rw [c] at cc; exact absurd (by decide) cc
      · rw [c] at cc; exact absurd (by decide) cc
      · exact cn c
    obtain ⟨r', σ', q1, q2⟩ := t_seq (rest := x_l (fun (σ12 : t_S) => x_l (fun (σ13 : t_S) => x_ga (0 : Int32) 4 fun j14 => x_l (t_sa σ13 19 j14 d) fun σ15 => x_b (D_keepRow (0 : Int32) (1 : Int32) (3 : Int32) (40 : Int32) σ15) fun σ17 => some ((1 : Int32), σ17)) fun J105 => if d ≤ (2 : Int32) then (J105 σ12) else x_ga (1 : Int32) 4 fun j19 => x_b2 (D_takeNode (2 : Int32) (t_a σ12 19 j19) σ12) fun r21 σ22 => if r21 = 0 then (some ((0 : Int32), σ22)) else J105 σ22) fun J83 => if (2 : Int32) ≤ d then (J83 s3) else x_b2 (D_takeName (2 : Int32) s3) fun r26 σ27 => if r26 = 0 then (some ((0 : Int32), σ27)) else J83 σ27) (f := fun p => s_sb (s_takeName B p.2) fun q => .inr (y_srow q.2 (s_keepR 0 1 3 40 (s_row3 d p.1 q.1) (y_row q.2)))) b2 (fun p hp hY hv ho => by
      have hpo := s_takeNode_ok hp hord
      obtain ⟨r3, s4, d1, d2⟩ := p_takeName (k := 2) hY (by omega) hpo.1.1
      have d1' : D_takeName (2 : Int32) s3 = some (r3, s4) := d1
      rw [x_lS, if_neg cd, d1', x_b2S]
      refine t_seq d2 (fun q hq hY2 hv2 ho2 => ?_)
      have hqo := s_takeName_ok hq hpo.1
      show ∃ r' σ', x_l _ _ = _ ∧ _
      rw [x_lS, if_pos (Int32.le_of_lt (Int32.not_le.mp cd))]
      exact p_keep3 (d := d) hY2 (by rw [hqo.2.2.2.1, hpo.2.2.2.1, hrow0]; exact k2) k1 ((ho2 1 (by omega)).trans hv) hv2)
    exact ⟨r', σ', q1, q2.mono hm⟩
theorem p_keep2 {a b : Int32} {kk : Nat} (h : t_Y σ B len y) (hk : y_row y 0 = nI kk) (hkm : kk ≤ 8) (h1 : t_a σ 19 0 = a) (h2 : t_a σ 19 1 = b) : ∃ r σ', (x_b (D_keepRow (0 : Int32) (1 : Int32) (2 : Int32) (8 : Int32) σ) fun σ13 => some ((1 : Int32), σ13)) = some (r, σ') ∧ t_ln σ B len (.inr (y_srow y (s_keepR 0 1 2 8 (s_row3 a b 0) (y_row y)))) r σ' := by
  obtain ⟨s6, f1, f2, f3⟩ := p_keepRow (cnt := 0) (frm := 1) (wide := 2) (most := 8) (kk := kk) (rd := s_row3 a b 0) h (by omega) (by omega) (by omega) hk hkm (by omega) (fun i hi => by
    rcases (show i = 0 ∨ i = 1 by omega) with rfl | rfl
    · exact h1
    · exact h2)
  have f1' : D_keepRow (0 : Int32) (1 : Int32) (2 : Int32) (8 : Int32) σ = some s6 := f1
  rw [f1', x_bS]
  exact ⟨1, s6, rfl, fun a j h1 h2 => f3 a j h1, rfl, f2⟩
theorem p_logLine {w : Int64} {at_ : Nat} (h : t_Y σ B len y) (hc : ∃ a, a ≤ 8 ∧ y_row y 0 = nI a) (hat : at_ ≤ 600) : ∃ r σ', D_logLine w (nI at_) σ = some (r, σ') ∧ t_ln σ B len (s_logLine B w at_ y) r σ' := by
  obtain ⟨kk, k1, k2⟩ := hc
  obtain ⟨s0, z1, z2, z3⟩ := p_full (cnt := 0) (most := 8) h (by omega) hat
  have z1' : D_full (0 : Int32) (8 : Int32) (nI at_) σ = some s0 := z1
  obtain ⟨s1, a1, a2, a3⟩ := p_nextT z2
  have a2' := a2.rd (k := 1) (x := -1)
  have hm : ∀ a j, a ≠ 18 → a ≠ 19 → t_a (t_sa s1 19 1 (-1)) a j = t_a σ a j := fun a j h1 h2 => by rw [t_a_sa, if_neg (fun z => h2 z.1)]; exact (a3 a j).trans (z3 a j)
  have hr2 : t_a (t_sa s1 19 1 (-1)) 19 1 = -1 := by rw [t_a_sa, if_pos ⟨rfl, rfl⟩]
  have hord := (y_ord.next (B := B) (y := s_full 0 8 at_ y)).1
  have hrow0 : y_row (s_nextT B (s_full 0 8 at_ y)) = y_row y := s_full_row.1
  unfold D_logLine s_logLine
  by_cases cg : w = 6778740
  · rw [x_lS, if_pos (lg_eq cg), if_pos cg, z1', x_bS, a1, x_bS, x_ga41, x_lS]
    generalize t_sa s1 19 1 (-1) = s2 at a2' hm hr2 ⊢
    unfold s_gotLine
    obtain ⟨r, s3, b1, b2⟩ := p_take (k := 0) (lo := 0) (hi := 39) a2' (by omega)
    have b1' : D_take (0 : Int32) (0 : Int32) (39 : Int32) s2 = some (r, s3) := b1
    rw [b1', x_b2S]
    obtain ⟨r', σ', q1, q2⟩ := t_seq (rest := x_l (fun (σ11 : t_S) => x_b (D_keepRow (0 : Int32) (1 : Int32) (2 : Int32) (8 : Int32) σ11) fun σ13 => some ((1 : Int32), σ13)) fun J72 => if (lg_cmp w (6778740 : Int64)) = 0 then (x_b2 (D_take (1 : Int32) (0 : Int32) (99 : Int32) s3) fun r16 σ17 => if r16 = 0 then (some ((0 : Int32), σ17)) else J72 σ17) else J72 s3) (f := fun p => s_sb (s_takeB B 0 99 (-1) p.2) fun q => .inr (y_srow q.2 (s_keepR 0 1 2 8 (s_row3 p.1 q.1 0) (y_row q.2)))) b2 (fun p hp hY hv ho => by
      have hpo := s_takeB_ok hp hord
      obtain ⟨r3, s4, d1, d2⟩ := p_take (k := 1) (lo := 0) (hi := 99) hY (by omega)
      have d1' : D_take (1 : Int32) (0 : Int32) (99 : Int32) s3 = some (r3, s4) := d1
      rw [x_lS, if_pos (lg_eq cg), d1', x_b2S]
      refine t_seq d2 (fun q hq hY2 hv2 ho2 => ?_)
      have hqo := s_takeB_ok hq hpo.1
      exact p_keep2 hY2 (by rw [hqo.2.2.2.1, hpo.2.2.2.1, hrow0]; exact k2) k1 ((ho2 0 (by omega)).trans hv) hv2)
    exact ⟨r', σ', q1, q2.mono hm⟩
  · by_cases cl : w = 1819243380
    · rw [x_lS, if_neg (lg_ne cg), if_pos (lg_eq cl), if_neg cg, if_pos cl, z1', x_bS, a1, x_bS, x_ga41, x_lS]
      generalize t_sa s1 19 1 (-1) = s2 at a2' hm hr2 ⊢
      unfold s_lostLine
      obtain ⟨r, s3, b1, b2⟩ := p_take (k := 0) (lo := 0) (hi := 39) a2' (by omega)
      have b1' : D_take (0 : Int32) (0 : Int32) (39 : Int32) s2 = some (r, s3) := b1
      rw [b1', x_b2S]
      obtain ⟨r', σ', q1, q2⟩ := t_seq (rest := x_l (fun (σ11 : t_S) => x_b (D_keepRow (0 : Int32) (1 : Int32) (2 : Int32) (8 : Int32) σ11) fun σ13 => some ((1 : Int32), σ13)) fun J72 => if (lg_cmp w (6778740 : Int64)) = 0 then (x_b2 (D_take (1 : Int32) (0 : Int32) (99 : Int32) s3) fun r16 σ17 => if r16 = 0 then (some ((0 : Int32), σ17)) else J72 σ17) else J72 s3) (f := fun p => .inr (y_srow p.2 (s_keepR 0 1 2 8 (s_row3 p.1 (-1) 0) (y_row p.2)))) b2 (fun p hp hY hv ho => by
        have hpo := s_takeB_ok hp hord
        rw [x_lS, if_neg (lg_ne cg)]
        exact p_keep2 hY (by rw [hpo.2.2.2.1, hrow0]; exact k2) k1 hv ((ho 1 (by omega)).trans hr2))
      exact ⟨r', σ', q1, q2.mono hm⟩
    · rw [x_lS, if_neg (lg_ne cg), if_neg (lg_ne cl), if_neg cg, if_neg cl]
      exact p_failsL h
end T85
