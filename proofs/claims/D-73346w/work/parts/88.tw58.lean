/-! THE TWIN's LAW, 58: what was told, the lines of a net, runs, logs -/
set_option maxRecDepth 100000
set_option maxHeartbeats 1000000
theorem s_isOf_comm (a b c d : Int32) : s_isOf a b c d = s_isOf c d a b := by
  unfold s_isOf
  have e : ∀ x y : Int32, decide (x = y) = decide (y = x) := fun x y => decide_eq_decide.mpr ⟨Eq.symm, Eq.symm⟩
  rw [e c a, e d b, e c b, e d a, Bool.and_comm (decide (b = c)) (decide (a = d))]
theorem s_keepL_cnt {r0 r1 r2 : Int32} {row : s_R} {kk : Nat} (hk : row 2 = nI kk) (hkk : kk ≤ 15) : (∃ a, a ≤ 15 ∧ s_keepL r0 r1 r2 row 2 = nI a) ∧ ∀ j, j ≠ 2 → (j < 11 ∨ 56 ≤ j) → s_keepL r0 r1 r2 row j = row j := by
  have hv : v_ (row 2) = kk := by rw [hk]; exact v_nI (by omega)
  unfold s_keepL
  rw [hv]
  cases hs : s_find (fun k => s_isOf (row (11 + 3 * k)) (row (11 + 3 * k + 1)) r0 r1) 0 kk with
  | some k =>
    have := (s_find_some hs).2.1
    exact ⟨⟨kk, hkk, (s_up1_n (by omega)).trans hk⟩, fun j h1 h2 => s_up1_n (by omega)⟩
  | none =>
    obtain ⟨c1, c2⟩ := s_keepR_cnt (cnt := 2) (frm := 11) (wide := 3) (most := 15) (rd := fun i => if i = 0 then r0 else if i = 1 then r1 else r2) hk hkk (by omega)
    refine ⟨c1, fun j h1 h2 => ?_⟩
    show s_keepR 2 11 3 15 _ row j = _
    unfold s_keepR
    rw [hv, if_neg h1, if_neg (by omega)]
theorem c_L.keep {far far' : Int32} {row : s_R} {a b : Int32} {d : Nat} (h : c_L far row) (hf : far ≤ far') (ha : c_nd far' a (v_ a)) (hb : c_nd far' b (v_ b)) (hab : a ≠ b) (hd : 1 ≤ d ∧ d ≤ 9) : c_L far' (s_keepL a b (nI d) row) := by
  obtain ⟨L, l1, l2, l3, l4⟩ := h
  have hv : v_ (row 2) = L := by rw [l2]; exact v_nI (by omega)
  unfold s_keepL
  rw [hv]
  cases hs : s_find (fun k => s_isOf (row (11 + 3 * k)) (row (11 + 3 * k + 1)) a b) 0 L with
  | some k =>
    have hk := (s_find_some hs).2.1
    have hne : ∀ j, j ≠ 11 + 3 * k + 2 → s_up1 row (11 + 3 * k + 2) (nI d) j = row j := fun j hj => s_up1_n hj
    refine ⟨L, l1, (hne 2 (by omega)).trans l2, fun l hl => ?_, fun l m hl hm q => l4 l m hl hm ?_⟩
    · obtain ⟨x, y, c, h1, h2, h3, h4⟩ := l3 l hl
      by_cases e : l = k
      · subst e
        exact ⟨x, y, d, by show c_nd _ (s_up1 _ _ _ _) _; rw [hne _ (by omega)]; exact h1.mono hf, by show c_nd _ (s_up1 _ _ _ _) _; rw [hne _ (by omega)]; exact h2.mono hf, s_up1_s, hd.1, hd.2, h4.2.2⟩
      · exact ⟨x, y, c, by show c_nd _ (s_up1 _ _ _ _) _; rw [hne _ (by omega)]; exact h1.mono hf, by show c_nd _ (s_up1 _ _ _ _) _; rw [hne _ (by omega)]; exact h2.mono hf, (hne _ (by omega)).trans h3, h4⟩
    · have q' : s_isOf (s_up1 row (11 + 3 * k + 2) (nI d) (11 + 3 * l)) (s_up1 row (11 + 3 * k + 2) (nI d) (11 + 3 * l + 1)) (s_up1 row (11 + 3 * k + 2) (nI d) (11 + 3 * m)) (s_up1 row (11 + 3 * k + 2) (nI d) (11 + 3 * m + 1)) = true := q
      rw [hne _ (by omega), hne _ (by omega), hne _ (by omega), hne _ (by omega)] at q'
      exact q'
  | none =>
    show c_L far' (s_keepR 2 11 3 15 (fun i => if i = 0 then a else if i = 1 then b else nI d) row)
    by_cases cl : L < 15
    · obtain ⟨e1, e2, e3⟩ := s_keepR_lt (cnt := 2) (frm := 11) (wide := 3) (most := 15) (rd := fun i => if i = 0 then a else if i = 1 then b else nI d) l2 cl (by omega) (by omega)
      have f0 : s_keepR 2 11 3 15 (fun i => if i = 0 then a else if i = 1 then b else nI d) row (11 + 3 * L) = a := e2 0 (by omega)
      have f1 : s_keepR 2 11 3 15 (fun i => if i = 0 then a else if i = 1 then b else nI d) row (11 + 3 * L + 1) = b := e2 1 (by omega)
      have f2 : s_keepR 2 11 3 15 (fun i => if i = 0 then a else if i = 1 then b else nI d) row (11 + 3 * L + 2) = nI d := e2 2 (by omega)
      generalize s_keepR 2 11 3 15 (fun i => if i = 0 then a else if i = 1 then b else nI d) row = row' at e1 e3 f0 f1 f2 ⊢
      refine ⟨L + 1, by omega, e1, fun l hl => ?_, fun l m hl hm q => ?_⟩
      · by_cases e : l = L
        · subst e
          refine ⟨v_ a, v_ b, d, by rw [f0]; exact ha, by rw [f1]; exact hb, f2, hd.1, hd.2, fun q => hab ?_⟩
          rw [ha.1, hb.1, q]
        · exact (l3 l (by omega)).of hf (fun i hi => e3 _ (by omega) (by omega))
      · have hno : ∀ l, l < L → s_isOf (row (11 + 3 * l)) (row (11 + 3 * l + 1)) a b = false := fun l hl => s_find_none hs l (by omega) (by omega)
        by_cases e : l = L
        · by_cases e' : m = L
          · rw [e, e']
          · exfalso
            subst e
            rw [f0, f1, e3 _ (by omega) (by omega), e3 _ (by omega) (by omega), s_isOf_comm, hno m (by omega)] at q
            cases q
        · by_cases e' : m = L
          · exfalso
            subst e'
            rw [f0, f1, e3 _ (by omega) (by omega), e3 _ (by omega) (by omega), hno l (by omega)] at q
            cases q
          · rw [e3 _ (by omega) (by omega), e3 _ (by omega) (by omega), e3 _ (by omega) (by omega), e3 _ (by omega) (by omega)] at q
            exact l4 l m (by omega) (by omega) q
    · have hL : L = 15 := by omega
      have hsame : ∀ j, s_keepR 2 11 3 15 (fun i => if i = 0 then a else if i = 1 then b else nI d) row j = row j := by
        intro j
        unfold s_keepR
        rw [hv]
        by_cases c : j = 2
        · rw [if_pos c, c, l2, hL]; rfl
        · rw [if_neg c, if_neg (by omega)]
      exact c_L.of ⟨L, l1, l2, l3, l4⟩ hf (fun j _ => hsame j)
section T88
variable {B : Nat → Int32} {y : s_Y}
theorem y_net.link {y1 : s_Y} (h : y_net B y) (hg : y_g y = true) (h1 : s_linkLine B y = .inr y1) : y_net B y1 ∧ k_at (y_k y) ≤ k_at (y_k y1) := by
  obtain ⟨o, it, hc, hp⟩ := h
  obtain ⟨p, p1, p2⟩ := s_sb_inr h1
  obtain ⟨q, q1, q2⟩ := s_sb_inr p2
  obtain ⟨r, r1, r2⟩ := s_sb_inr q2
  have hn := y_ord.next (B := B) (y := y)
  obtain ⟨a1, a2, a3, a4, a5, -⟩ := s_takeNode_ok p1 hn.1
  obtain ⟨b1, b2, b3, b4, b5, -⟩ := s_takeNode_ok q1 a1
  obtain ⟨d1, d2, d3, d4, d5, -⟩ := s_takeB_ok r1 b1
  have hk : k_at (y_k y) ≤ k_at (y_k r.2) := Nat.le_trans (Nat.le_trans o.1 hn.2) (Nat.le_trans a2 (Nat.le_trans b2 d2))
  have hrow : y_row r.2 = y_row y := d4.trans (b4.trans a4)
  have hfp : y_far p.2 = if p.1 < y_far y then y_far y else p.1 := a3
  have hfar : y_far r.2 = if q.1 < y_far p.2 then y_far p.2 else q.1 := d3.trans b3
  have f1 := s_far_le p.1 (y_far y)
  have f2 := s_far_le q.1 (y_far p.2)
  rw [← hfp] at f1
  rw [← hfar] at f2
  obtain ⟨⟨kk, k1, k2⟩, hc3, hc4⟩ := hc
  by_cases cg : y_g r.2 = true
  · rw [if_pos cg] at r2
    cases r2
    obtain ⟨⟨a, x1, x2⟩, xo⟩ := s_keepL_cnt (r0 := p.1) (r1 := q.1) (r2 := r.1) k2 k1
    refine ⟨⟨d1, s_takeB_T r1, ?_, fun hF => ?_⟩, hk⟩
    · show y_cnt (s_keepL p.1 q.1 r.1 (y_row r.2))
      rw [hrow]
      obtain ⟨b, x3, x4⟩ := hc3
      obtain ⟨c, x5, x6⟩ := hc4
      exact ⟨⟨a, x1, x2⟩, ⟨b, x3, (xo 3 (by omega) (by omega)).trans x4⟩, c, x5, (xo 4 (by omega) (by omega)).trans x6⟩
    · have hF' : (y_f r.2).1 = 0 := hF
      obtain ⟨z1, z2, z3, z4⟩ := s_takeB_0 r1 hF'
      obtain ⟨u1, u2, u3, u4⟩ := s_takeNode_0 q1 z1
      obtain ⟨t1, t2, t3, t4⟩ := s_takeNode_0 p1 u1
      obtain ⟨w1, w2, w3, w4⟩ := hp t1
      show c_net (y_far r.2) (s_keepL p.1 q.1 r.1 (y_row r.2))
      rw [hrow]
      have hff := Int32.le_trans f1.1 f2.1
      obtain ⟨e1, e2, e3⟩ := s_between (a := 1) (b := 9) rfl rfl (by omega) (by omega) z3
      have hL := w2.keep (a := p.1) (b := q.1) (d := v_ r.1) hff ⟨(nI_of05 t3).1, (nI_of05 t3).2, Int32.le_trans f1.2 f2.1⟩ ⟨(nI_of05 u3).1, (nI_of05 u3).2, f2.2⟩ (fun z => u4 z.symm) ⟨e2, e3⟩
      rw [← e1] at hL
      exact ⟨w1.of (fun j hj => xo j (by omega) (by omega)), hL, w3.of hff (fun j hj => xo j (by omega) (by omega)), w4.of hff (fun j hj => xo j (by omega) (by omega))⟩
  · rw [if_neg cg] at r2
    cases r2
    refine ⟨⟨d1, s_takeB_T r1, by rw [hrow]; exact ⟨⟨kk, k1, k2⟩, hc3, hc4⟩, fun hF => ?_⟩, hk⟩
    obtain ⟨z1, z2, z3, z4⟩ := s_takeB_0 r1 hF
    obtain ⟨u1, u2, -⟩ := s_takeNode_0 q1 z1
    obtain ⟨t1, t2, -⟩ := s_takeNode_0 p1 u1
    exact absurd (z2.trans (u2.trans (t2.trans hg))) cg
theorem y_net.route {at_ : Nat} {y1 : s_Y} (h : y_net B y) (h1 : s_routeLine B at_ y = .inr y1) : y_net B y1 ∧ k_at (y_k y) ≤ k_at (y_k y1) := by
  obtain ⟨o, it, hc, hp⟩ := h
  obtain ⟨p, p1, p2⟩ := s_sb_inr h1
  obtain ⟨q, q1, q2⟩ := s_sb_inr p2
  obtain ⟨r, r1, r2⟩ := s_sb_inr q2
  obtain ⟨s, s1, s2⟩ := s_sb_inr r2
  cases s2
  obtain ⟨m1, m2, m3, m4⟩ := s_full_row (cnt := 3) (at_ := at_) (most := 12) (y := y)
  have hn := y_ord.next (B := B) (y := s_full 3 12 at_ y)
  rw [m2] at hn
  obtain ⟨a1, a2, a3, a4, a5, -⟩ := s_takeNode_ok p1 hn.1
  obtain ⟨b1, b2, b3, b4, b5, -⟩ := s_takeName_ok q1 a1
  obtain ⟨d1, d2, d3, d4, d5, -⟩ := s_takeNode_ok r1 b1
  obtain ⟨e1, e2, e3, e4, e5, -⟩ := s_takeB_ok s1 d1
  have hk : k_at (y_k y) ≤ k_at (y_k s.2) := Nat.le_trans (Nat.le_trans o.1 hn.2) (Nat.le_trans a2 (Nat.le_trans b2 (Nat.le_trans d2 e2)))
  have hrow : y_row s.2 = y_row y := e4.trans (d4.trans (b4.trans (a4.trans m1)))
  have hfp : y_far p.2 = if p.1 < y_far y then y_far y else p.1 := by rw [a3]; show (if p.1 < y_far (s_full 3 12 at_ y) then y_far (s_full 3 12 at_ y) else p.1) = _; rw [m4]
  have hfar : y_far s.2 = if r.1 < y_far p.2 then y_far p.2 else r.1 := e3.trans (d3.trans (by rw [b3]))
  have f1 := s_far_le p.1 (y_far y)
  have f2 := s_far_le r.1 (y_far p.2)
  rw [← hfp] at f1
  rw [← hfar] at f2
  obtain ⟨hc2, ⟨kk, k1, k2⟩, hc4⟩ := hc
  obtain ⟨⟨a, x1, x2⟩, xo⟩ := s_keepR_cnt (cnt := 3) (frm := 56) (wide := 4) (most := 12) (rd := fun i => if i = 0 then p.1 else if i = 1 then q.1 else if i = 2 then r.1 else s.1) k2 k1 (by omega)
  refine ⟨⟨e1, s_takeB_T s1, ?_, fun hF => ?_⟩, hk⟩
  · show y_cnt (s_keepR 3 56 4 12 (fun i => if i = 0 then p.1 else if i = 1 then q.1 else if i = 2 then r.1 else s.1) (y_row s.2))
    rw [hrow]
    obtain ⟨b, x3, x4⟩ := hc2
    obtain ⟨c, x5, x6⟩ := hc4
    exact ⟨⟨b, x3, (xo 2 (by omega) (by omega)).trans x4⟩, ⟨a, x1, x2⟩, c, x5, (xo 4 (by omega) (by omega)).trans x6⟩
  · have hF' : (y_f s.2).1 = 0 := hF
    obtain ⟨z1, z2, z3, z4⟩ := s_takeB_0 s1 hF'
    obtain ⟨u1, u2, u3, u4⟩ := s_takeNode_0 r1 z1
    obtain ⟨v1, v2, v3⟩ := s_takeName_0 q1 u1 (s_takeNode_T p1)
    obtain ⟨t1, t2, t3, t4⟩ := s_takeNode_0 p1 v1
    obtain ⟨n1, n2⟩ := s_full_0 t1
    obtain ⟨w1, w2, w3, w4⟩ := hp n1
    show c_net (y_far s.2) (s_keepR 3 56 4 12 (fun i => if i = 0 then p.1 else if i = 1 then q.1 else if i = 2 then r.1 else s.1) (y_row s.2))
    rw [hrow]
    have hff := Int32.le_trans f1.1 f2.1
    have hkk : kk < 12 := by
      refine Nat.lt_of_le_of_ne k1 (fun z => n2 ?_)
      rw [k2, z]; rfl
    obtain ⟨g1, g2, g3⟩ := s_keepR_lt (cnt := 3) (frm := 56) (wide := 4) (most := 12) (rd := fun i => if i = 0 then p.1 else if i = 1 then q.1 else if i = 2 then r.1 else s.1) k2 hkk (by omega) (by omega)
    have h0 := g2 0 (by omega)
    have h1 := g2 1 (by omega)
    have h2 := g2 2 (by omega)
    have h3 := g2 3 (by omega)
    rw [Nat.add_zero] at h0
    have h0' : s_keepR 3 56 4 12 (fun i => if i = 0 then p.1 else if i = 1 then q.1 else if i = 2 then r.1 else s.1) (y_row y) (56 + 4 * kk) = p.1 := h0
    have h1' : s_keepR 3 56 4 12 (fun i => if i = 0 then p.1 else if i = 1 then q.1 else if i = 2 then r.1 else s.1) (y_row y) (56 + 4 * kk + 1) = q.1 := h1
    have h2' : s_keepR 3 56 4 12 (fun i => if i = 0 then p.1 else if i = 1 then q.1 else if i = 2 then r.1 else s.1) (y_row y) (56 + 4 * kk + 2) = r.1 := h2
    have h3' : s_keepR 3 56 4 12 (fun i => if i = 0 then p.1 else if i = 1 then q.1 else if i = 2 then r.1 else s.1) (y_row y) (56 + 4 * kk + 3) = s.1 := h3
    generalize s_keepR 3 56 4 12 (fun i => if i = 0 then p.1 else if i = 1 then q.1 else if i = 2 then r.1 else s.1) (y_row y) = row' at xo g1 g3 h0' h1' h2' h3' ⊢
    obtain ⟨K, c1, c2, c3⟩ := w3
    have hKk : K = kk := (nI_eq (by omega) (by omega)).mp (c2.symm.trans k2)
    subst hKk
    obtain ⟨y1', y2', y3'⟩ := s_between (a := 0) (b := 99) rfl rfl (by omega) (by omega) z3
    refine ⟨w1.of (fun j hj => xo j (by omega) (by omega)), w2.of hff (fun j hj => xo j (by omega) (by omega)), ⟨K + 1, by omega, g1, fun k hk => ?_⟩, w4.of hff (fun j hj => ?_)⟩
    · by_cases e : k = K
      · subst e
        refine ⟨v_ p.1, v_ r.1, v_ s.1, by rw [h0']; exact ⟨(nI_of05 t3).1, (nI_of05 t3).2, Int32.le_trans f1.2 f2.1⟩, by rw [h1']; exact v3, by rw [h2']; exact ⟨(nI_of05 u3).1, (nI_of05 u3).2, f2.2⟩, h3'.trans y1', y3', fun z => u4 ?_⟩
        rw [(nI_of05 t3).1, (nI_of05 u3).1, z]
      · exact (c3 k (by omega)).of hff (fun i hi => g3 _ (by omega) (by omega))
    · rcases hj with hj | hj
      · exact xo j (by omega) (by omega)
      · exact g3 j (by omega) (by omega)
theorem y_net.serve {at_ : Nat} {y1 : s_Y} (h : y_net B y) (h1 : s_serveLine B at_ y = .inr y1) : y_net B y1 ∧ k_at (y_k y) ≤ k_at (y_k y1) := by
  obtain ⟨o, it, hc, hp⟩ := h
  obtain ⟨p, p1, p2⟩ := s_sb_inr h1
  obtain ⟨q, q1, q2⟩ := s_sb_inr p2
  obtain ⟨s, s1, s2⟩ := s_sb_inr q2
  cases s2
  obtain ⟨m1, m2, m3, m4⟩ := s_full_row (cnt := 4) (at_ := at_) (most := 6) (y := y)
  have hn := y_ord.next (B := B) (y := s_full 4 6 at_ y)
  rw [m2] at hn
  obtain ⟨a1, a2, a3, a4, a5, -⟩ := s_takeNode_ok p1 hn.1
  obtain ⟨b1, b2, b3, b4, b5, -⟩ := s_takeName_ok q1 a1
  obtain ⟨e1, e2, e3, e4, e5, -⟩ := s_takeB_ok s1 b1
  have hk : k_at (y_k y) ≤ k_at (y_k s.2) := Nat.le_trans (Nat.le_trans o.1 hn.2) (Nat.le_trans a2 (Nat.le_trans b2 e2))
  have hrow : y_row s.2 = y_row y := e4.trans (b4.trans (a4.trans m1))
  have hfp : y_far s.2 = if p.1 < y_far y then y_far y else p.1 := by
    rw [e3, b3, a3]
    show (if p.1 < y_far (s_full 4 6 at_ y) then y_far (s_full 4 6 at_ y) else p.1) = _
    rw [m4]
  have f1 := s_far_le p.1 (y_far y)
  rw [← hfp] at f1
  obtain ⟨hc2, hc3, ⟨kk, k1, k2⟩⟩ := hc
  obtain ⟨⟨a, x1, x2⟩, xo⟩ := s_keepR_cnt (cnt := 4) (frm := 104) (wide := 3) (most := 6) (rd := fun i => if i = 0 then p.1 else if i = 1 then q.1 else s.1) k2 k1 (by omega)
  refine ⟨⟨e1, s_takeB_T s1, ?_, fun hF => ?_⟩, hk⟩
  · show y_cnt (s_keepR 4 104 3 6 (fun i => if i = 0 then p.1 else if i = 1 then q.1 else s.1) (y_row s.2))
    rw [hrow]
    obtain ⟨b, x3, x4⟩ := hc2
    obtain ⟨c, x5, x6⟩ := hc3
    exact ⟨⟨b, x3, (xo 2 (by omega) (by omega)).trans x4⟩, ⟨c, x5, (xo 3 (by omega) (by omega)).trans x6⟩, a, x1, x2⟩
  · have hF' : (y_f s.2).1 = 0 := hF
    obtain ⟨z1, z2, z3, z4⟩ := s_takeB_0 s1 hF'
    obtain ⟨v1, v2, v3⟩ := s_takeName_0 q1 z1 (s_takeNode_T p1)
    obtain ⟨t1, t2, t3, t4⟩ := s_takeNode_0 p1 v1
    obtain ⟨n1, n2⟩ := s_full_0 t1
    obtain ⟨w1, w2, w3, w4⟩ := hp n1
    show c_net (y_far s.2) (s_keepR 4 104 3 6 (fun i => if i = 0 then p.1 else if i = 1 then q.1 else s.1) (y_row s.2))
    rw [hrow]
    have hkk : kk < 6 := by
      refine Nat.lt_of_le_of_ne k1 (fun z => n2 ?_)
      rw [k2, z]; rfl
    obtain ⟨g1, g2, g3⟩ := s_keepR_lt (cnt := 4) (frm := 104) (wide := 3) (most := 6) (rd := fun i => if i = 0 then p.1 else if i = 1 then q.1 else s.1) k2 hkk (by omega) (by omega)
    have h0 := g2 0 (by omega)
    have h1 := g2 1 (by omega)
    have h3 := g2 2 (by omega)
    rw [Nat.add_zero] at h0
    have h0' : s_keepR 4 104 3 6 (fun i => if i = 0 then p.1 else if i = 1 then q.1 else s.1) (y_row y) (104 + 3 * kk) = p.1 := h0
    have h1' : s_keepR 4 104 3 6 (fun i => if i = 0 then p.1 else if i = 1 then q.1 else s.1) (y_row y) (104 + 3 * kk + 1) = q.1 := h1
    have h3' : s_keepR 4 104 3 6 (fun i => if i = 0 then p.1 else if i = 1 then q.1 else s.1) (y_row y) (104 + 3 * kk + 2) = s.1 := h3
    generalize s_keepR 4 104 3 6 (fun i => if i = 0 then p.1 else if i = 1 then q.1 else s.1) (y_row y) = row' at xo g1 g3 h0' h1' h3' ⊢
    obtain ⟨K, c1, c2, c3⟩ := w4
    have hKk : K = kk := (nI_eq (by omega) (by omega)).mp (c2.symm.trans k2)
    subst hKk
    obtain ⟨y1', y2', y3'⟩ := s_between (a := 0) (b := 99) rfl rfl (by omega) (by omega) z3
    refine ⟨w1.of (fun j hj => xo j (by omega) (by omega)), w2.of f1.1 (fun j hj => xo j (by omega) (by omega)), w3.of f1.1 (fun j hj => xo j (by omega) (by omega)), K + 1, by omega, g1, fun k hk => ?_⟩
    by_cases e : k = K
    · subst e
      exact ⟨v_ p.1, v_ s.1, by rw [h0']; exact ⟨(nI_of05 t3).1, (nI_of05 t3).2, f1.2⟩, by rw [h1']; exact v3, h3'.trans y1', y3'⟩
    · exact (c3 k (by omega)).of f1.1 (fun i hi => g3 _ (by omega) (by omega))
theorem y_net.line {w : Int64} {at_ : Nat} {y1 : s_Y} (h : y_net B y) (hg : y_g y = true) (h1 : s_netLine B w at_ y = .inr y1) : y_net B y1 ∧ k_at (y_k y) ≤ k_at (y_k y1) := by
  unfold s_netLine at h1
  split at h1
  · exact h.num hg (Or.inl ⟨rfl, rfl⟩) rfl h1
  split at h1
  · exact h.num hg (Or.inr ⟨rfl, rfl⟩) rfl h1
  split at h1
  · exact h.room hg h1
  split at h1
  · exact h.link hg h1
  split at h1
  · exact h.route h1
  split at h1
  · exact h.serve h1
  · cases h1
end T88
