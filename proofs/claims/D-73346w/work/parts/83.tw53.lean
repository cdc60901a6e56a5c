/-! THE TWIN's LAW, 53: lines of a net -/
set_option maxRecDepth 100000
set_option maxHeartbeats 400000
def s_sb {α β : Type} (m : Nat ⊕ α) (f : α → Nat ⊕ β) : Nat ⊕ β := match m with
  | .inl p => .inl p
  | .inr a => f a
def s_numLine (B : Nat → Int32) (of_ : Nat) (hi : Int32) (y : s_Y) : Nat ⊕ s_Y := s_sb (s_takeB B 1 hi (-1) (s_nextT B y)) fun p => .inr (y_srow p.2 (s_up1 (y_row p.2) of_ (if y_g p.2 = true then p.1 else y_row p.2 of_)))
def s_roomLine (B : Nat → Int32) (y : s_Y) : Nat ⊕ s_Y := s_sb (s_takeNode B (-1) (s_nextT B y)) fun p => s_sb (s_takeB B 0 4 (-1) p.2) fun q => .inr (if y_g q.2 = true then y_srow q.2 (s_up1 (y_row q.2) (5 + v_ p.1) q.1) else q.2)
def s_linkLine (B : Nat → Int32) (y : s_Y) : Nat ⊕ s_Y := s_sb (s_takeNode B (-1) (s_nextT B y)) fun p => s_sb (s_takeNode B p.1 p.2) fun q => s_sb (s_takeB B 1 9 (-1) q.2) fun r => .inr (if y_g r.2 = true then y_srow r.2 (s_keepL p.1 q.1 r.1 (y_row r.2)) else r.2)
def s_routeLine (B : Nat → Int32) (at_ : Nat) (y : s_Y) : Nat ⊕ s_Y := s_sb (s_takeNode B (-1) (s_nextT B (s_full 3 12 at_ y))) fun p => s_sb (s_takeName B p.2) fun q => s_sb (s_takeNode B p.1 q.2) fun r => s_sb (s_takeB B 0 99 (-1) r.2) fun s => .inr (y_srow s.2 (s_keepR 3 56 4 12 (fun i => if i = 0 then p.1 else if i = 1 then q.1 else if i = 2 then r.1 else s.1) (y_row s.2)))
def s_serveLine (B : Nat → Int32) (at_ : Nat) (y : s_Y) : Nat ⊕ s_Y := s_sb (s_takeNode B (-1) (s_nextT B (s_full 4 6 at_ y))) fun p => s_sb (s_takeName B p.2) fun q => s_sb (s_takeB B 0 99 (-1) q.2) fun s => .inr (y_srow s.2 (s_keepR 4 104 3 6 (fun i => if i = 0 then p.1 else if i = 1 then q.1 else s.1) (y_row s.2)))
def s_netLine (B : Nat → Int32) (w : Int64) (at_ : Nat) (y : s_Y) : Nat ⊕ s_Y :=
  if w = 474315253107 then s_numLine B 0 6 y else if w = 1818846821 then s_numLine B 1 99 y else if w = 1919905645 then s_roomLine B y
  else if w = 1818848875 then s_linkLine B y else if w = 491496240229 then s_routeLine B at_ y else if w = 495623239269 then s_serveLine B at_ y else .inl (k_at (y_k y))
/-- what a line comes to -/
def t_ln (σ : t_S) (B : Nat → Int32) (len : Nat) (m : Nat ⊕ s_Y) (r : Int32) (σ' : t_S) : Prop := (∀ a j, a ≠ 18 → a ≠ 19 → t_a σ' a j = t_a σ a j) ∧ match m with
  | .inl pl => r = 0 ∧ t_i σ' 15 = nI pl ∧ pl ≤ 600
  | .inr y => r = 1 ∧ t_Y σ' B len y
/-- how many links, routes, serves were told of -/
def y_cnt (row : s_R) : Prop := (∃ a, a ≤ 15 ∧ row 2 = nI a) ∧ (∃ a, a ≤ 12 ∧ row 3 = nI a) ∧ ∃ a, a ≤ 6 ∧ row 4 = nI a
section T83
variable {σ σ' : t_S} {B : Nat → Int32} {len : Nat} {y : s_Y}
theorem lg_cmp0 (a b : Int64) : lg_cmp a b = 0 ↔ a = b := by
  unfold lg_cmp
  by_cases g : a > b
  · rw [if_pos g]
    constructor
    · intro h; exact absurd h (by decide)
    · intro h; rw [h] at g; exact absurd g Int64.lt_irrefl
  · rw [if_neg g]
    by_cases c : a = b
    · rw [if_pos c]
      exact ⟨fun _ => c, fun _ => rfl⟩
    · rw [if_neg c]
      constructor
      · intro h; exact absurd h (by decide)
      · intro h; exact absurd h c
theorem x_ga40 {α : Type} {kk : Nat → Option α} : x_ga 0 4 kk = kk 0 := x_gaS (j := 0) (by omega) (by omega)
theorem x_ga41 {α : Type} {kk : Nat → Option α} : x_ga 1 4 kk = kk 1 := x_gaS (j := 1) (by omega) (by omega)
theorem x_ga42 {α : Type} {kk : Nat → Option α} : x_ga 2 4 kk = kk 2 := x_gaS (j := 2) (by omega) (by omega)
theorem t_ln.mono {σ1 : t_S} {m : Nat ⊕ s_Y} {r : Int32} (h : ∀ a j, a ≠ 18 → a ≠ 19 → t_a σ1 a j = t_a σ a j) (h' : t_ln σ1 B len m r σ') : t_ln σ B len m r σ' := ⟨fun a j h1 h2 => (h'.1 a j h1 h2).trans (h a j h1 h2), h'.2⟩
/-- one thing taken, the rest behind it -/
theorem t_seq {k : Nat} {m : Nat ⊕ (Int32 × s_Y)} {r : Int32} {σ1 : t_S} {rest : Option (Int32 × t_S)} {f : Int32 × s_Y → Nat ⊕ s_Y} (h : t_tk k σ B len m r σ1) (hr : ∀ p, m = .inr p → t_Y σ1 B len p.2 → t_a σ1 19 k = p.1 → (∀ j, j ≠ k → t_a σ1 19 j = t_a σ 19 j) → ∃ r' σ', rest = some (r', σ') ∧ t_ln σ1 B len (f p) r' σ') : ∃ r' σ', (if r = 0 then some ((0 : Int32), σ1) else rest) = some (r', σ') ∧ t_ln σ B len (s_sb m f) r' σ' := by
  obtain ⟨h1, h2⟩ := h
  have ho : ∀ a j, a ≠ 18 → a ≠ 19 → t_a σ1 a j = t_a σ a j := fun a j q1 q2 => h1 a j q1 (fun z => q2 z.1)
  cases m with
  | inl pl =>
    obtain ⟨e1, e2, e3⟩ := h2
    exact ⟨0, σ1, by rw [if_pos e1], ho, rfl, e2, e3⟩
  | inr p =>
    obtain ⟨e1, e2, e3⟩ := h2
    obtain ⟨r', σ', q1, q2⟩ := hr p rfl e2 e3 (fun j hj => h1 19 j (by decide) (fun z => hj z.2))
    exact ⟨r', σ', by rw [if_neg (by rw [e1]; decide)]; exact q1, q2.mono ho⟩
theorem s_takeNode_ok {but : Int32} {p : Int32 × s_Y} (h : s_takeNode B but y = .inr p) (ho : y_ord y) : y_ord p.2 ∧ k_at (y_k y) ≤ k_at (y_k p.2) ∧ y_far p.2 = (if p.1 < y_far y then y_far y else p.1) ∧ y_row p.2 = y_row y ∧ (y_g p.2 = true → y_g y = true ∧ (0 ≤ p.1 ∧ p.1 ≤ 5) ∧ p.1 ≠ but ∧ y_f p.2 = y_f y) ∧ (y_g p.2 = false → y_g y = false ∨ y_f p.2 = s_addF 2 (k_at (y_k y)) (y_f y)) := by
  unfold s_takeNode at h
  cases hm : s_takeB B 0 5 but y with
  | inl pl => rw [hm] at h; cases h
  | inr q =>
    rw [hm] at h
    obtain ⟨o1, o2, o3, o4, o5, o6⟩ := s_takeB_ok hm ho
    have h2 : p = _ := (Sum.inr.inj h).symm
    subst h2
    refine ⟨o1, o2, ?_, o4, o5, o6⟩
    show (if q.1 < y_far q.2 then y_far q.2 else q.1) = _
    rw [o3]
theorem s_takeName_ok {p : Int32 × s_Y} (h : s_takeName B y = .inr p) (ho : y_ord y) : y_ord p.2 ∧ k_at (y_k y) ≤ k_at (y_k p.2) ∧ y_far p.2 = y_far y ∧ y_row p.2 = y_row y ∧ (y_g p.2 = true → y_g y = true ∧ k_next (y_k y) - k_at (y_k y) ≤ 4 ∧ y_f p.2 = y_f y) ∧ (y_g p.2 = false → y_g y = false ∨ y_f p.2 = s_addF 2 (k_at (y_k y)) (y_f y)) ∧ p.1 = s_numOf (k_word (y_k y)) ∧ k_sort (y_k y) = 2 := by
  unfold s_takeName at h
  split at h
  · rename_i cs
    have h2 : p = _ := (Sum.inr.inj h).symm
    subst h2
    obtain ⟨n1, n2⟩ := y_ord.next (B := B) (y := if k_next (y_k y) - k_at (y_k y) ≤ 4 then y else s_bad 2 y)
    refine ⟨n1, ?_, ?_, ?_, ?_, ?_, rfl, cs⟩
    · refine Nat.le_trans ?_ n2
      split
      · exact ho.1
      · exact ho.1
    · show y_far (if _ then y else s_bad 2 y) = _
      split <;> rfl
    · show y_row (if _ then y else s_bad 2 y) = _
      split <;> rfl
    · show y_g (if _ then y else s_bad 2 y) = true → y_g y = true ∧ _ ∧ y_f (if _ then y else s_bad 2 y) = y_f y
      split
      · rename_i c
        exact fun q => ⟨q, c, rfl⟩
      · intro q; exact absurd q (by show ¬ false = true; decide)
    · show y_g (if _ then y else s_bad 2 y) = false → y_g y = false ∨ y_f (if _ then y else s_bad 2 y) = _
      split
      · exact fun q => Or.inl q
      · exact fun _ => Or.inr rfl
  · cases h
theorem s_full_row {cnt at_ : Nat} {most : Int32} : y_row (s_full cnt most at_ y) = y_row y ∧ y_k (s_full cnt most at_ y) = y_k y ∧ y_g (s_full cnt most at_ y) = y_g y ∧ y_far (s_full cnt most at_ y) = y_far y := by
  unfold s_full
  split <;> exact ⟨rfl, rfl, rfl, rfl⟩
theorem p_numLine {of_ : Nat} {hi : Int32} (h : t_Y σ B len y) (hof : of_ < 2) : ∃ r σ', (x_b (D_token σ) fun σ2 => x_b2 (D_take (0 : Int32) (1 : Int32) hi σ2) fun r7 σ8 => if r7 = 0 then (some ((0 : Int32), σ8)) else if (t_i σ8 21) = 0 then (x_ga (nI of_) 122 fun j12 => x_ga (nI of_) 122 fun j13 => x_l (t_sa σ8 18 j13 (t_a σ8 18 j12)) fun σ14 => some ((1 : Int32), σ14)) else x_ga (0 : Int32) 4 fun j15 => x_ga (nI of_) 122 fun j16 => x_l (t_sa σ8 18 j16 (t_a σ8 19 j15)) fun σ17 => some ((1 : Int32), σ17)) = some (r, σ') ∧ t_ln σ B len (s_numLine B of_ hi y) r σ' := by
  obtain ⟨s1, a1, a2, a3⟩ := p_nextT h
  obtain ⟨r, s2, b1, b2⟩ := p_take (k := 0) (lo := 1) (hi := hi) a2 (by omega)
  have b1' : D_take (0 : Int32) (1 : Int32) hi s1 = some (r, s2) := b1
  rw [a1, x_bS, b1', x_b2S]
  unfold s_numLine
  have H := t_seq (rest := if (t_i s2 21) = 0 then (x_ga (nI of_) 122 fun j12 => x_ga (nI of_) 122 fun j13 => x_l (t_sa s2 18 j13 (t_a s2 18 j12)) fun σ14 => some ((1 : Int32), σ14)) else x_ga (0 : Int32) 4 fun j15 => x_ga (nI of_) 122 fun j16 => x_l (t_sa s2 18 j16 (t_a s2 19 j15)) fun σ17 => some ((1 : Int32), σ17)) (f := fun p => .inr (y_srow p.2 (s_up1 (y_row p.2) of_ (if y_g p.2 = true then p.1 else y_row p.2 of_)))) b2 (fun p hp hY hv ho => ?_)
  · obtain ⟨r', σ', q1, q2⟩ := H
    exact ⟨r', σ', q1, q2.mono (fun a j _ _ => a3 a j)⟩
  · have go : ∀ x : Int32, x = (if y_g p.2 = true then p.1 else y_row p.2 of_) → t_ln s2 B len (.inr (y_srow p.2 (s_up1 (y_row p.2) of_ (if y_g p.2 = true then p.1 else y_row p.2 of_)))) 1 (t_sa s2 18 of_ x) := by
      intro x hx
      refine ⟨fun a j h1 h2 => by rw [t_a_sa, if_neg (fun z => h1 z.1)], rfl, hY.row (fun _ => rfl) rfl (fun a j ha => by rw [t_a_sa, if_neg (fun z => ha z.1)]) (fun j hj => ?_)⟩
      rw [t_a_sa]
      unfold s_up1
      by_cases c : j = of_
      · rw [if_pos ⟨rfl, c⟩, if_pos c, hx]
      · rw [if_neg (fun z => c z.2), if_neg c]
        exact hY.2.2.2.2.2.2 j hj
    rw [hY.2.2.2.2.1]
    by_cases cg : y_g p.2 = true
    · rw [if_pos cg, if_neg (show ¬ (1 : Int32) = 0 by decide), x_ga40, x_gaS (by omega) (by omega), x_lS, hv]
      exact ⟨1, _, rfl, go _ (by rw [if_pos cg])⟩
    · rw [if_neg cg, if_pos (show (0 : Int32) = 0 from rfl), x_gaS (by omega) (by omega), x_gaS (by omega) (by omega), x_lS, hY.2.2.2.2.2.2 of_ (by omega)]
      exact ⟨1, _, rfl, go _ (by rw [if_neg cg])⟩
theorem p_roomLine (h : t_Y σ B len y) : ∃ r σ', (x_b (D_token σ) fun σ84 => x_b2 (D_takeNode (0 : Int32) (-1 : Int32) σ84) fun r86 σ87 => if r86 = 0 then (some ((0 : Int32), σ87)) else x_b2 (D_take (1 : Int32) (0 : Int32) (4 : Int32) σ87) fun r90 σ91 => if r90 = 0 then (some ((0 : Int32), σ91)) else if (t_i σ91 21) = 0 then (some ((1 : Int32), σ91)) else x_ga (0 : Int32) 4 fun j94 => x_ga (1 : Int32) 4 fun j95 => x_ga ((5 : Int32) + (t_a σ91 19 j94)) 122 fun j96 => x_l (t_sa σ91 18 j96 (t_a σ91 19 j95)) fun σ97 => some ((1 : Int32), σ97)) = some (r, σ') ∧ t_ln σ B len (s_roomLine B y) r σ' := by
  obtain ⟨s1, a1, a2, a3⟩ := p_nextT h
  obtain ⟨r, s2, b1, b2⟩ := p_takeNode (k := 0) (but := -1) a2 (by omega)
  have b1' : D_takeNode (0 : Int32) (-1 : Int32) s1 = some (r, s2) := b1
  rw [a1, x_bS, b1', x_b2S]
  unfold s_roomLine
  obtain ⟨r', σ', q1, q2⟩ := t_seq (rest := x_b2 (D_take (1 : Int32) (0 : Int32) (4 : Int32) s2) fun r90 σ91 => if r90 = 0 then (some ((0 : Int32), σ91)) else if (t_i σ91 21) = 0 then (some ((1 : Int32), σ91)) else x_ga (0 : Int32) 4 fun j94 => x_ga (1 : Int32) 4 fun j95 => x_ga ((5 : Int32) + (t_a σ91 19 j94)) 122 fun j96 => x_l (t_sa σ91 18 j96 (t_a σ91 19 j95)) fun σ97 => some ((1 : Int32), σ97)) (f := fun p => s_sb (s_takeB B 0 4 (-1) p.2) fun q => .inr (if y_g q.2 = true then y_srow q.2 (s_up1 (y_row q.2) (5 + v_ p.1) q.1) else q.2)) b2 (fun p hp hY hv ho => by
    have hpo := s_takeNode_ok hp (y_ord.next (B := B) (y := y)).1
    obtain ⟨r2, s3, c1, c2⟩ := p_take (k := 1) (lo := 0) (hi := 4) hY (by omega)
    have c1' : D_take (1 : Int32) (0 : Int32) (4 : Int32) s2 = some (r2, s3) := c1
    rw [c1', x_b2S]
    refine t_seq c2 (fun q hq hY2 hv2 ho2 => ?_)
    have hqo := s_takeB_ok hq hpo.1
    rw [hY2.2.2.2.2.1]
    by_cases cg : y_g q.2 = true
    · have h05 := (hpo.2.2.2.2.1 (hqo.2.2.2.2.1 cg).1).2.1
      obtain ⟨e1, e2, e3⟩ := s_between (a := 0) (b := 5) rfl rfl (by omega) (by omega) h05
      have hv0 : t_a s3 19 0 = nI (v_ p.1) := (ho2 0 (by omega)).trans (hv.trans e1)
      rw [if_pos cg, if_neg (show ¬ (1 : Int32) = 0 by decide), x_ga40, x_ga41, hv0, show (5 : Int32) = nI 5 from rfl, nI_add, x_gaS (by omega) (by omega), x_lS, hv2]
      simp only [if_pos cg]
      refine ⟨1, _, rfl, fun a j h1 h2 => by rw [t_a_sa, if_neg (fun z => h1 z.1)], rfl, hY2.row (fun _ => rfl) rfl (fun a j ha => by rw [t_a_sa, if_neg (fun z => ha z.1)]) (fun j hj => ?_)⟩
      rw [t_a_sa]
      unfold s_up1
      by_cases c : j = 5 + v_ p.1
      · rw [if_pos ⟨rfl, c⟩, if_pos c]
      · rw [if_neg (fun z => c z.2), if_neg c]
        exact hY2.2.2.2.2.2.2 j hj
    · rw [if_neg cg, if_pos (show (0 : Int32) = 0 from rfl)]
      simp only [if_neg cg]
      exact ⟨1, s3, rfl, fun _ _ _ _ => rfl, rfl, hY2⟩)
  exact ⟨r', σ', q1, q2.mono (fun a j _ _ => a3 a j)⟩
theorem p_linkLine (h : t_Y σ B len y) (hc : y_cnt (y_row y)) : ∃ r σ', (x_b (D_token σ) fun σ66 => x_b2 (D_takeNode (0 : Int32) (-1 : Int32) σ66) fun r68 σ69 => if r68 = 0 then (some ((0 : Int32), σ69)) else x_ga (0 : Int32) 4 fun j71 => x_b2 (D_takeNode (1 : Int32) (t_a σ69 19 j71) σ69) fun r73 σ74 => if r73 = 0 then (some ((0 : Int32), σ74)) else x_b2 (D_take (2 : Int32) (1 : Int32) (9 : Int32) σ74) fun r77 σ78 => if r77 = 0 then (some ((0 : Int32), σ78)) else if (t_i σ78 21) = 0 then (some ((1 : Int32), σ78)) else x_b (D_keepLink σ78) fun σ82 => some ((1 : Int32), σ82)) = some (r, σ') ∧ t_ln σ B len (s_linkLine B y) r σ' := by
  obtain ⟨s1, a1, a2, a3⟩ := p_nextT h
  obtain ⟨r, s2, b1, b2⟩ := p_takeNode (k := 0) (but := -1) a2 (by omega)
  have b1' : D_takeNode (0 : Int32) (-1 : Int32) s1 = some (r, s2) := b1
  rw [a1, x_bS, b1', x_b2S]
  unfold s_linkLine
  obtain ⟨r', σ', q1, q2⟩ := t_seq (rest := x_ga (0 : Int32) 4 fun j71 => x_b2 (D_takeNode (1 : Int32) (t_a s2 19 j71) s2) fun r73 σ74 => if r73 = 0 then (some ((0 : Int32), σ74)) else x_b2 (D_take (2 : Int32) (1 : Int32) (9 : Int32) σ74) fun r77 σ78 => if r77 = 0 then (some ((0 : Int32), σ78)) else if (t_i σ78 21) = 0 then (some ((1 : Int32), σ78)) else x_b (D_keepLink σ78) fun σ82 => some ((1 : Int32), σ82)) (f := fun p => s_sb (s_takeNode B p.1 p.2) fun q => s_sb (s_takeB B 1 9 (-1) q.2) fun r => .inr (if y_g r.2 = true then y_srow r.2 (s_keepL p.1 q.1 r.1 (y_row r.2)) else r.2)) b2 (fun p hp hY hv ho => by
    have hpo := s_takeNode_ok hp (y_ord.next (B := B) (y := y)).1
    obtain ⟨r2, s3, c1, c2⟩ := p_takeNode (k := 1) (but := p.1) hY (by omega)
    have c1' : D_takeNode (1 : Int32) p.1 s2 = some (r2, s3) := c1
    rw [x_ga40, hv, c1', x_b2S]
    refine t_seq c2 (fun q hq hY2 hv2 ho2 => ?_)
    have hqo := s_takeNode_ok hq hpo.1
    obtain ⟨r3, s4, d1, d2⟩ := p_take (k := 2) (lo := 1) (hi := 9) hY2 (by omega)
    have d1' : D_take (2 : Int32) (1 : Int32) (9 : Int32) s3 = some (r3, s4) := d1
    rw [d1', x_b2S]
    refine t_seq d2 (fun u hu hY3 hv3 ho3 => ?_)
    have huo := s_takeB_ok hu hqo.1
    rw [hY3.2.2.2.2.1]
    by_cases cg : y_g u.2 = true
    · obtain ⟨kk, k1, k2⟩ := hc.1
      have hrow : y_row u.2 = y_row y := huo.2.2.2.1.trans (hqo.2.2.2.1.trans hpo.2.2.2.1)
      obtain ⟨s5, e1, e2, e3⟩ := p_keepLink (r0 := p.1) (r1 := q.1) (r2 := u.1) hY3 (by rw [hrow]; exact k2) k1 ((ho3 0 (by omega)).trans ((ho2 0 (by omega)).trans hv)) ((ho3 1 (by omega)).trans hv2) hv3
      rw [if_pos cg, if_neg (show ¬ (1 : Int32) = 0 by decide), e1, x_bS]
      simp only [if_pos cg]
      exact ⟨1, s5, rfl, fun a j h1 h2 => e3 a j h1, rfl, e2⟩
    · rw [if_neg cg, if_pos (show (0 : Int32) = 0 from rfl)]
      simp only [if_neg cg]
      exact ⟨1, s4, rfl, fun _ _ _ _ => rfl, rfl, hY3⟩)
  exact ⟨r', σ', q1, q2.mono (fun a j _ _ => a3 a j)⟩
end T83
