/-! THE TWIN's LAW, 54: lines of a net, whole -/
set_option maxRecDepth 100000
set_option maxHeartbeats 400000
section T84
variable {σ σ' : t_S} {B : Nat → Int32} {len : Nat} {y : s_Y}
theorem p_routeLine {at_ : Nat} (h : t_Y σ B len y) (hc : y_cnt (y_row y)) (hat : at_ ≤ 600) : ∃ r σ', (x_b (D_full (3 : Int32) (12 : Int32) (nI at_) σ) fun σ28 => x_b (D_token σ28) fun σ30 => x_b2 (D_takeNode (0 : Int32) (-1 : Int32) σ30) fun r32 σ33 => if r32 = 0 then (some ((0 : Int32), σ33)) else x_b2 (D_takeName (1 : Int32) σ33) fun r36 σ37 => if r36 = 0 then (some ((0 : Int32), σ37)) else x_ga (0 : Int32) 4 fun j52 => x_b2 (D_takeNode (2 : Int32) (t_a σ37 19 j52) σ37) fun r54 σ55 => if r54 = 0 then (some ((0 : Int32), σ55)) else x_b2 (D_take (3 : Int32) (0 : Int32) (99 : Int32) σ55) fun r42 σ43 => if r42 = 0 then (some ((0 : Int32), σ43)) else x_b (D_keepRow (3 : Int32) (56 : Int32) (4 : Int32) (12 : Int32) σ43) fun σ49 => some ((1 : Int32), σ49)) = some (r, σ') ∧ t_ln σ B len (s_routeLine B at_ y) r σ' := by
  obtain ⟨s0, z1, z2, z3⟩ := p_full (cnt := 3) (most := 12) h (by omega) hat
  have z1' : D_full (3 : Int32) (12 : Int32) (nI at_) σ = some s0 := z1
  obtain ⟨s1, a1, a2, a3⟩ := p_nextT z2
  obtain ⟨r, s2, b1, b2⟩ := p_takeNode (k := 0) (but := -1) a2 (by omega)
  have b1' : D_takeNode (0 : Int32) (-1 : Int32) s1 = some (r, s2) := b1
  rw [z1', x_bS, a1, x_bS, b1', x_b2S]
  unfold s_routeLine
  obtain ⟨r', σ', q1, q2⟩ := t_seq (rest := x_b2 (D_takeName (1 : Int32) s2) fun r36 σ37 => if r36 = 0 then (some ((0 : Int32), σ37)) else x_ga (0 : Int32) 4 fun j52 => x_b2 (D_takeNode (2 : Int32) (t_a σ37 19 j52) σ37) fun r54 σ55 => if r54 = 0 then (some ((0 : Int32), σ55)) else x_b2 (D_take (3 : Int32) (0 : Int32) (99 : Int32) σ55) fun r42 σ43 => if r42 = 0 then (some ((0 : Int32), σ43)) else x_b (D_keepRow (3 : Int32) (56 : Int32) (4 : Int32) (12 : Int32) σ43) fun σ49 => some ((1 : Int32), σ49)) (f := fun p => s_sb (s_takeName B p.2) fun q => s_sb (s_takeNode B p.1 q.2) fun r => s_sb (s_takeB B 0 99 (-1) r.2) fun s => .inr (y_srow s.2 (s_keepR 3 56 4 12 (fun i => if i = 0 then p.1 else if i = 1 then q.1 else if i = 2 then r.1 else s.1) (y_row s.2)))) b2 (fun p hp hY hv ho => by
    have hpo := s_takeNode_ok hp (y_ord.next (B := B) (y := s_full 3 12 at_ y)).1
    obtain ⟨r2, s3, c1, c2⟩ := p_takeName (k := 1) hY (by omega) hpo.1.1
    have c1' : D_takeName (1 : Int32) s2 = some (r2, s3) := c1
    rw [c1', x_b2S]
    refine t_seq c2 (fun q hq hY2 hv2 ho2 => ?_)
    have hqo := s_takeName_ok hq hpo.1
    have hv0 : t_a s3 19 0 = p.1 := (ho2 0 (by omega)).trans hv
    obtain ⟨r3, s4, d1, d2⟩ := p_takeNode (k := 2) (but := p.1) hY2 (by omega)
    have d1' : D_takeNode (2 : Int32) p.1 s3 = some (r3, s4) := d1
    rw [x_ga40, hv0, d1', x_b2S]
    refine t_seq d2 (fun u hu hY3 hv3 ho3 => ?_)
    have huo := s_takeNode_ok hu hqo.1
    obtain ⟨r4, s5, e1, e2⟩ := p_take (k := 3) (lo := 0) (hi := 99) hY3 (by omega)
    have e1' : D_take (3 : Int32) (0 : Int32) (99 : Int32) s4 = some (r4, s5) := e1
    rw [e1', x_b2S]
    refine t_seq e2 (fun w hw hY4 hv4 ho4 => ?_)
    have hwo := s_takeB_ok hw huo.1
    obtain ⟨kk, k1, k2⟩ := hc.2.1
    have hrow : y_row w.2 = y_row y := hwo.2.2.2.1.trans (huo.2.2.2.1.trans (hqo.2.2.2.1.trans (hpo.2.2.2.1.trans s_full_row.1)))
    obtain ⟨s6, f1, f2, f3⟩ := p_keepRow (cnt := 3) (frm := 56) (wide := 4) (most := 12) (kk := kk) (rd := fun i => if i = 0 then p.1 else if i = 1 then q.1 else if i = 2 then u.1 else w.1) hY4 (by omega) (by omega) (by omega) (by rw [hrow]; exact k2) k1 (by omega) (fun i hi => by
      rcases (show i = 0 ∨ i = 1 ∨ i = 2 ∨ i = 3 by omega) with rfl | rfl | rfl | rfl
      · exact (ho4 0 (by omega)).trans ((ho3 0 (by omega)).trans hv0)
      · exact (ho4 1 (by omega)).trans ((ho3 1 (by omega)).trans hv2)
      · exact (ho4 2 (by omega)).trans hv3
      · exact hv4)
    have f1' : D_keepRow (3 : Int32) (56 : Int32) (4 : Int32) (12 : Int32) s5 = some s6 := f1
    rw [f1', x_bS]
    exact ⟨1, s6, rfl, fun a j h1 h2 => f3 a j h1, rfl, f2⟩)
  exact ⟨r', σ', q1, q2.mono (fun a j _ _ => (a3 a j).trans (z3 a j))⟩
theorem p_serveLine {at_ : Nat} (h : t_Y σ B len y) (hc : y_cnt (y_row y)) (hat : at_ ≤ 600) : ∃ r σ', (x_b (D_full (4 : Int32) (6 : Int32) (nI at_) σ) fun σ28 => x_b (D_token σ28) fun σ30 => x_b2 (D_takeNode (0 : Int32) (-1 : Int32) σ30) fun r32 σ33 => if r32 = 0 then (some ((0 : Int32), σ33)) else x_b2 (D_takeName (1 : Int32) σ33) fun r36 σ37 => if r36 = 0 then (some ((0 : Int32), σ37)) else x_b2 (D_take (2 : Int32) (0 : Int32) (99 : Int32) σ37) fun r42 σ43 => if r42 = 0 then (some ((0 : Int32), σ43)) else x_b (D_keepRow (4 : Int32) (104 : Int32) (3 : Int32) (6 : Int32) σ43) fun σ47 => some ((1 : Int32), σ47)) = some (r, σ') ∧ t_ln σ B len (s_serveLine B at_ y) r σ' := by
  obtain ⟨s0, z1, z2, z3⟩ := p_full (cnt := 4) (most := 6) h (by omega) hat
  have z1' : D_full (4 : Int32) (6 : Int32) (nI at_) σ = some s0 := z1
  obtain ⟨s1, a1, a2, a3⟩ := p_nextT z2
  obtain ⟨r, s2, b1, b2⟩ := p_takeNode (k := 0) (but := -1) a2 (by omega)
  have b1' : D_takeNode (0 : Int32) (-1 : Int32) s1 = some (r, s2) := b1
  rw [z1', x_bS, a1, x_bS, b1', x_b2S]
  unfold s_serveLine
  obtain ⟨r', σ', q1, q2⟩ := t_seq (rest := x_b2 (D_takeName (1 : Int32) s2) fun r36 σ37 => if r36 = 0 then (some ((0 : Int32), σ37)) else x_b2 (D_take (2 : Int32) (0 : Int32) (99 : Int32) σ37) fun r42 σ43 => if r42 = 0 then (some ((0 : Int32), σ43)) else x_b (D_keepRow (4 : Int32) (104 : Int32) (3 : Int32) (6 : Int32) σ43) fun σ47 => some ((1 : Int32), σ47)) (f := fun p => s_sb (s_takeName B p.2) fun q => s_sb (s_takeB B 0 99 (-1) q.2) fun s => .inr (y_srow s.2 (s_keepR 4 104 3 6 (fun i => if i = 0 then p.1 else if i = 1 then q.1 else s.1) (y_row s.2)))) b2 (fun p hp hY hv ho => by
    have hpo := s_takeNode_ok hp (y_ord.next (B := B) (y := s_full 4 6 at_ y)).1
    obtain ⟨r2, s3, c1, c2⟩ := p_takeName (k := 1) hY (by omega) hpo.1.1
    have c1' : D_takeName (1 : Int32) s2 = some (r2, s3) := c1
    rw [c1', x_b2S]
    refine t_seq c2 (fun q hq hY2 hv2 ho2 => ?_)
    have hqo := s_takeName_ok hq hpo.1
    have hv0 : t_a s3 19 0 = p.1 := (ho2 0 (by omega)).trans hv
    obtain ⟨r4, s5, e1, e2⟩ := p_take (k := 2) (lo := 0) (hi := 99) hY2 (by omega)
    have e1' : D_take (2 : Int32) (0 : Int32) (99 : Int32) s3 = some (r4, s5) := e1
    rw [e1', x_b2S]
    refine t_seq e2 (fun w hw hY4 hv4 ho4 => ?_)
    have hwo := s_takeB_ok hw hqo.1
    obtain ⟨kk, k1, k2⟩ := hc.2.2
    have hrow : y_row w.2 = y_row y := hwo.2.2.2.1.trans (hqo.2.2.2.1.trans (hpo.2.2.2.1.trans s_full_row.1))
    obtain ⟨s6, f1, f2, f3⟩ := p_keepRow (cnt := 4) (frm := 104) (wide := 3) (most := 6) (kk := kk) (rd := fun i => if i = 0 then p.1 else if i = 1 then q.1 else w.1) hY4 (by omega) (by omega) (by omega) (by rw [hrow]; exact k2) k1 (by omega) (fun i hi => by
      rcases (show i = 0 ∨ i = 1 ∨ i = 2 by omega) with rfl | rfl | rfl
      · exact (ho4 0 (by omega)).trans hv0
      · exact (ho4 1 (by omega)).trans hv2
      · exact hv4)
    have f1' : D_keepRow (4 : Int32) (104 : Int32) (3 : Int32) (6 : Int32) s5 = some s6 := f1
    rw [f1', x_bS]
    exact ⟨1, s6, rfl, fun a j h1 h2 => f3 a j h1, rfl, f2⟩)
  exact ⟨r', σ', q1, q2.mono (fun a j _ _ => (a3 a j).trans (z3 a j))⟩
theorem lg_ne {a b : Int64} (h : a ≠ b) : ¬ lg_cmp a b = 0 := fun q => h ((lg_cmp0 a b).mp q)
theorem lg_eq {a b : Int64} (h : a = b) : lg_cmp a b = 0 := (lg_cmp0 a b).mpr h
theorem p_failsL (h : t_Y σ B len y) : ∃ r σ', (x_b2 (D_fails σ) fun r62 σ63 => x_g (r62 = 0 ∨ r62 = 1) <| some (r62, σ63)) = some (r, σ') ∧ t_ln σ B len (.inl (k_at (y_k y))) r σ' := by
  obtain ⟨s1, a1, a2, a3, -⟩ := p_fails h
  refine ⟨0, s1, by rw [a1, x_b2S, x_gS (Or.inl rfl)], fun a j _ _ => a3 a j, rfl, a2, ?_⟩
  have := h.2.2.1.1
  have := h.1.2.1
  omega
theorem p_netLine {w : Int64} {at_ : Nat} (h : t_Y σ B len y) (hc : y_cnt (y_row y)) (hat : at_ ≤ 600) : ∃ r σ', D_netLine w (nI at_) σ = some (r, σ') ∧ t_ln σ B len (s_netLine B w at_ y) r σ' := by
  unfold D_netLine s_netLine
  rw [x_lS]
  by_cases w0 : w = 474315253107
  · have e0 := lg_eq w0
    rw [if_pos e0, if_pos w0]
    obtain ⟨r, σ', q1, q2⟩ := p_numLine (of_ := 0) (hi := 6) h (by omega)
    refine ⟨r, σ', ?_, q2⟩
    rw [← q1]
    congr 1
    funext s2
    rw [x_lS, if_pos e0]
    show x_b2 (D_take 0 1 6 s2) _ = _
    congr 1
    funext r7 s8
    by_cases c : r7 = 0
    · rw [if_pos c, if_pos c]
    · rw [if_neg c, if_neg c, x_lS, if_pos e0]
      rfl
  have n0 := lg_ne w0
  rw [if_neg n0, if_neg w0]
  by_cases w1 : w = 1818846821
  · have e1 := lg_eq w1
    rw [if_pos e1, if_pos w1]
    obtain ⟨r, σ', q1, q2⟩ := p_numLine (of_ := 1) (hi := 99) h (by omega)
    refine ⟨r, σ', ?_, q2⟩
    rw [← q1]
    congr 1
    funext s2
    rw [x_lS, if_neg n0]
    show x_b2 (D_take 0 1 99 s2) _ = _
    congr 1
    funext r7 s8
    by_cases c : r7 = 0
    · rw [if_pos c, if_pos c]
    · rw [if_neg c, if_neg c, x_lS, if_neg n0]
      rfl
  rw [if_neg (lg_ne w1), if_neg w1]
  by_cases w2 : w = 1919905645
  · rw [if_pos (lg_eq w2), if_pos w2]
    exact p_roomLine h
  rw [if_neg (lg_ne w2), if_neg w2]
  by_cases w3 : w = 1818848875
  · rw [if_pos (lg_eq w3), if_pos w3]
    exact p_linkLine h hc
  rw [if_neg (lg_ne w3), if_neg w3, x_lS]
  by_cases w4 : w = 491496240229
  · have e4 := lg_eq w4
    rw [if_pos e4, if_pos w4, x_lS, if_pos e4]
    obtain ⟨r, σ', q1, q2⟩ := p_routeLine (at_ := at_) h hc hat
    refine ⟨r, σ', ?_, q2⟩
    rw [← q1]
    show x_l _ _ = _
    rw [x_lS, if_pos e4]
    show x_b (D_full 3 12 (nI at_) σ) _ = _
    congr 1
    funext s28
    congr 1
    funext s30
    congr 1
    funext r32 s33
    by_cases c : r32 = 0
    · rw [if_pos c, if_pos c]
    · rw [if_neg c, if_neg c]
      congr 1
      funext r36 s37
      by_cases c2 : r36 = 0
      · rw [if_pos c2, if_pos c2]
      · rw [if_neg c2, if_neg c2, x_lS, if_pos e4]
        congr 1
        funext j52
        congr 1
        funext r54 s55
        by_cases c3 : r54 = 0
        · rw [if_pos c3, if_pos c3]
        · rw [if_neg c3, if_neg c3]
          show x_l _ _ = _
          rw [x_lS, if_pos e4]
          show x_b2 (D_take 3 0 99 s55) _ = _
          congr 1
          funext r42 s43
          by_cases c4 : r42 = 0
          · rw [if_pos c4, if_pos c4]
          · rw [if_neg c4, if_neg c4, if_pos e4]
  have n4 := lg_ne w4
  rw [if_neg n4, if_neg w4]
  by_cases w5 : w = 495623239269
  · rw [if_pos (lg_eq w5), if_pos w5, x_lS, if_neg n4]
    obtain ⟨r, σ', q1, q2⟩ := p_serveLine (at_ := at_) h hc hat
    refine ⟨r, σ', ?_, q2⟩
    rw [← q1]
    show x_l _ _ = _
    rw [x_lS, if_neg n4]
    show x_b (D_full 4 6 (nI at_) σ) _ = _
    congr 1
    funext s28
    congr 1
    funext s30
    congr 1
    funext r32 s33
    by_cases c : r32 = 0
    · rw [if_pos c, if_pos c]
    · rw [if_neg c, if_neg c]
      congr 1
      funext r36 s37
      by_cases c2 : r36 = 0
      · rw [if_pos c2, if_pos c2]
      · rw [if_neg c2, if_neg c2, x_lS, if_neg n4]
        show x_l _ _ = _
        rw [x_lS, if_neg n4]
        show x_b2 (D_take 2 0 99 s37) _ = _
        congr 1
        funext r42 s43
        by_cases c4 : r42 = 0
        · rw [if_pos c4, if_pos c4]
        · rw [if_neg c4, if_neg c4, if_neg n4]
  rw [if_neg (lg_ne w5), if_neg w5]
  exact p_failsL h
end T84
