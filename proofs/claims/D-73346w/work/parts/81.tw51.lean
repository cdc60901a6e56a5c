/-! THE TWIN's LAW, 51: what a line's tokens give -/
set_option maxRecDepth 100000
set_option maxHeartbeats 400000
/-- a text that is read: token, first fault (kind, place), whether the line is good, the furthest node, what was told -/
abbrev s_Y : Type := s_K × (Int32 × Nat) × Bool × Int32 × s_R
def y_k (y : s_Y) : s_K := y.1
def y_f (y : s_Y) : Int32 × Nat := y.2.1
def y_g (y : s_Y) : Bool := y.2.2.1
def y_far (y : s_Y) : Int32 := y.2.2.2.1
def y_row (y : s_Y) : s_R := y.2.2.2.2
def y_sk (y : s_Y) (x : s_K) : s_Y := (x, y.2)
def y_sf (y : s_Y) (x : Int32 × Nat) : s_Y := (y.1, x, y.2.2)
def y_sg (y : s_Y) (x : Bool) : s_Y := (y.1, y.2.1, x, y.2.2.2)
def y_sfar (y : s_Y) (x : Int32) : s_Y := (y.1, y.2.1, y.2.2.1, x, y.2.2.2.2)
def y_srow (y : s_Y) (x : s_R) : s_Y := (y.1, y.2.1, y.2.2.1, y.2.2.2.1, x)
def s_addF (f : Int32) (pl : Nat) (F : Int32 × Nat) : Int32 × Nat := if F.1 = 0 ∨ pl < F.2 ∨ pl = F.2 ∧ f < F.1 then (f, pl) else F
def s_adds (f : Int32) (pl : Nat) (y : s_Y) : s_Y := y_sf y (s_addF f pl (y_f y))
/-- the next token -/
def s_nextT (B : Nat → Int32) (y : s_Y) : s_Y := y_sk y (s_tok B (k_next (y_k y)))
/-- what is wrong with a line, but goes on -/
def s_bad (f : Int32) (y : s_Y) : s_Y := y_sg (s_adds f (k_at (y_k y)) y) false
def s_takeB (B : Nat → Int32) (lo hi but : Int32) (y : s_Y) : Nat ⊕ (Int32 × s_Y) :=
  if k_sort (y_k y) = 3 then .inr (k_val (y_k y), s_nextT B (if (lo ≤ k_val (y_k y) ∧ k_val (y_k y) ≤ hi) ∧ ¬ k_val (y_k y) = but then y else s_bad 2 y)) else .inl (k_at (y_k y))
def s_takeNode (B : Nat → Int32) (but : Int32) (y : s_Y) : Nat ⊕ (Int32 × s_Y) := match s_takeB B 0 5 but y with
  | .inl pl => .inl pl
  | .inr p => .inr (p.1, y_sfar p.2 (if p.1 < y_far p.2 then y_far p.2 else p.1))
def s_num1 (w : Int64) (sh : Int32) (n : Int32) : Int32 := if ((w >>> (sh.toInt64 &&& 63)) &&& 255).toInt32 = 0 then n else 27 * n + ((w >>> (sh.toInt64 &&& 63)) &&& 255).toInt32 - 96
def s_numOf (w : Int64) : Int32 := s_num1 w 0 (s_num1 w 8 (s_num1 w 16 (s_num1 w 24 0)))
def s_takeName (B : Nat → Int32) (y : s_Y) : Nat ⊕ (Int32 × s_Y) :=
  if k_sort (y_k y) = 2 then .inr (s_numOf (k_word (y_k y)), s_nextT B (if k_next (y_k y) - k_at (y_k y) ≤ 4 then y else s_bad 2 y)) else .inl (k_at (y_k y))
def s_full (cnt : Nat) (most : Int32) (at_ : Nat) (y : s_Y) : s_Y := if y_row y cnt = most then s_adds 3 at_ y else y
def s_keepR (cnt frm wide most : Nat) (rd : Nat → Int32) (row : s_R) : s_R := fun j => if j = cnt then nI (min most (v_ (row cnt) + 1)) else if v_ (row cnt) < most ∧ frm + wide * v_ (row cnt) ≤ j ∧ j < frm + wide * v_ (row cnt) + wide then rd (j - (frm + wide * v_ (row cnt))) else row j
def t_Y (σ : t_S) (B : Nat → Int32) (len : Nat) (y : s_Y) : Prop := t_B σ B len ∧ t_tok σ (y_k y) ∧ (k_at (y_k y) ≤ len ∧ k_next (y_k y) ≤ len) ∧ (t_i σ 16 = (y_f y).1 ∧ ((y_f y).1 ≠ 0 → t_i σ 17 = nI (y_f y).2 ∧ (y_f y).2 ≤ 600)) ∧ t_i σ 21 = (if y_g y = true then 1 else 0) ∧ t_i σ 20 = y_far y ∧ ∀ j, j < 122 → t_a σ 18 j = y_row y j
/-- what taking leaves: all but what was told and number k of the line -/
def t_rk (k : Nat) (σ σ' : t_S) : Prop := ∀ a j, a ≠ 18 → ¬ (a = 19 ∧ j = k) → t_a σ' a j = t_a σ a j
section T81
variable {σ σ' : t_S} {B : Nat → Int32} {len : Nat} {y : s_Y}
theorem t_rk.of (h : ∀ a j, t_a σ' a j = t_a σ a j) {k : Nat} : t_rk k σ σ' := fun a j _ _ => h a j
theorem t_rk.trans {σ2 : t_S} {k : Nat} (h : t_rk k σ σ') (h' : t_rk k σ' σ2) : t_rk k σ σ2 := fun a j h1 h2 => (h' a j h1 h2).trans (h a j h1 h2)
theorem p_addsFault {f : Int32} {pl : Nat} (h : t_Y σ B len y) (hf : f ≠ 0) (hpl : pl ≤ 600) : ∃ σ', D_addsFault f (nI pl) σ = some σ' ∧ t_Y σ' B len (s_adds f pl y) ∧ ∀ a j, t_a σ' a j = t_a σ a j := by
  obtain ⟨h1, h2, h3, ⟨h4, h4'⟩, h5, h6, h7⟩ := h
  have hset : t_Y (t_si (t_si σ 16 f) 17 (nI pl)) B len (y_sf y (f, pl)) := by
    have hi : ∀ k, k ≠ 16 → k ≠ 17 → t_i (t_si (t_si σ 16 f) 17 (nI pl)) k = t_i σ k := fun k q1 q2 => by rw [t_i_si, if_neg q2, t_i_si, if_neg q1]
    exact ⟨⟨(hi 10 (by decide) (by decide)).trans h1.1, h1.2.1, h1.2.2.1, h1.2.2.2⟩, ⟨(hi 12 (by decide) (by decide)).trans h2.1, (hi 11 (by decide) (by decide)).trans h2.2.1, (hi 9 (by decide) (by decide)).trans h2.2.2.1, fun q => (hi 13 (by decide) (by decide)).trans (h2.2.2.2.1 q), h2.2.2.2.2⟩, h3, ⟨rfl, fun _ => ⟨rfl, hpl⟩⟩, (hi 21 (by decide) (by decide)).trans h5, (hi 20 (by decide) (by decide)).trans h6, h7⟩
  unfold D_addsFault s_adds s_addF
  rw [x_lS, x_lS, x_lS, h4]
  by_cases c1 : (y_f y).1 = 0
  · rw [if_pos c1, if_pos (Or.inl c1)]
    exact ⟨_, rfl, hset, fun _ _ => rfl⟩
  · obtain ⟨e1, e2⟩ := h4' c1
    rw [if_neg c1, e1]
    by_cases c2 : pl < (y_f y).2
    · rw [if_pos (nI_lt c2 (by omega)), if_pos (Or.inr (Or.inl c2))]
      exact ⟨_, rfl, hset, fun _ _ => rfl⟩
    · rw [if_neg (nI_nlt (by omega) (by omega))]
      by_cases c3 : pl = (y_f y).2
      · rw [if_pos (by rw [c3])]
        by_cases c4 : f < (y_f y).1
        · rw [if_neg (Int32.not_le.mpr c4), if_pos (Or.inr (Or.inr ⟨c3, c4⟩))]
          exact ⟨_, rfl, hset, fun _ _ => rfl⟩
        · rw [if_pos (Int32.not_lt.mp c4), if_neg (by rintro (q | q | ⟨-, q⟩); exact c1 q; exact c2 q; exact c4 q)]
          exact ⟨σ, rfl, ⟨h1, h2, h3, ⟨h4, h4'⟩, h5, h6, h7⟩, fun _ _ => rfl⟩
      · rw [if_neg (fun q => c3 ((nI_eq (by omega) (by omega)).mp q)), if_neg (by rintro (q | q | ⟨q, -⟩); exact c1 q; exact c2 q; exact c3 q)]
        exact ⟨σ, rfl, ⟨h1, h2, h3, ⟨h4, h4'⟩, h5, h6, h7⟩, fun _ _ => rfl⟩
theorem p_nextT (h : t_Y σ B len y) : ∃ σ', D_token σ = some σ' ∧ t_Y σ' B len (s_nextT B y) ∧ ∀ a j, t_a σ' a j = t_a σ a j := by
  obtain ⟨h1, h2, h3, ⟨h4, h4'⟩, h5, h6, h7⟩ := h
  obtain ⟨σ', a1, a2, a3, a4, a5⟩ := p_token h1 h2.2.2.1 h3.2
  have hi : ∀ k, 13 < k → t_i σ' k = t_i σ k := fun k hk => a3.1 k (by omega) (by omega) (by omega) (by omega)
  exact ⟨σ', a1, ⟨h1.of a3, a2, ⟨a5, a4⟩, ⟨(hi 16 (by omega)).trans h4, fun q => ⟨(hi 17 (by omega)).trans (h4' q).1, (h4' q).2⟩⟩, (hi 21 (by omega)).trans h5, (hi 20 (by omega)).trans h6, fun j hj => (a3.2 18 j).trans (h7 j hj)⟩, a3.2⟩
theorem t_Y.good (h : t_Y σ B len y) {x : Bool} : t_Y (t_si σ 21 (if x = true then 1 else 0)) B len (y_sg y x) := by
  obtain ⟨h1, h2, h3, ⟨h4, h4'⟩, h5, h6, h7⟩ := h
  have hi : ∀ k, k ≠ 21 → t_i (t_si σ 21 (if x = true then 1 else 0)) k = t_i σ k := fun k q1 => by rw [t_i_si, if_neg q1]
  exact ⟨⟨(hi 10 (by decide)).trans h1.1, h1.2.1, h1.2.2.1, h1.2.2.2⟩, ⟨(hi 12 (by decide)).trans h2.1, (hi 11 (by decide)).trans h2.2.1, (hi 9 (by decide)).trans h2.2.2.1, fun q => (hi 13 (by decide)).trans (h2.2.2.2.1 q), h2.2.2.2.2⟩, h3, ⟨h4, h4'⟩, rfl, h6, h7⟩
theorem p_bad (h : t_Y σ B len y) : ∃ σ', (x_b (D_addsFault (2 : Int32) (t_i σ 11) σ) fun σ7 => some (t_si σ7 21 (0 : Int32))) = some σ' ∧ t_Y σ' B len (s_bad 2 y) ∧ ∀ a j, t_a σ' a j = t_a σ a j := by
  have hlen := h.1.2.1
  have hat := h.2.2.1.1
  obtain ⟨s1, a1, a2, a3⟩ := p_addsFault (f := 2) (pl := k_at (y_k y)) h (by decide) (by omega)
  rw [h.2.1.2.1, a1, x_bS]
  exact ⟨_, rfl, a2.good (x := false), a3⟩
/-- a number of the line is laid -/
theorem t_Y.rd {k : Nat} {x : Int32} (h : t_Y σ B len y) : t_Y (t_sa σ 19 k x) B len y := by
  obtain ⟨h1, h2, h3, ⟨h4, h4'⟩, h5, h6, h7⟩ := h
  exact ⟨⟨h1.1, h1.2.1, fun j hj => (h1.2.2.1 j hj).trans (by rw [t_a_sa, if_neg (by omega)]), h1.2.2.2⟩, h2, h3, ⟨h4, h4'⟩, h5, h6, fun j hj => by rw [t_a_sa, if_neg (by omega)]; exact h7 j hj⟩
theorem p_fails (h : t_Y σ B len y) : ∃ σ', D_fails σ = some (0, σ') ∧ t_i σ' 15 = nI (k_at (y_k y)) ∧ (∀ a j, t_a σ' a j = t_a σ a j) ∧ ∀ k, k ≠ 15 → t_i σ' k = t_i σ k := by
  unfold D_fails
  rw [x_lS]
  exact ⟨_, rfl, by rw [t_i_si, if_pos rfl]; exact h.2.1.2.1, fun _ _ => rfl, fun k hk => by rw [t_i_si, if_neg hk]⟩
/-- what a method that takes comes to -/
def t_tk (k : Nat) (σ : t_S) (B : Nat → Int32) (len : Nat) (m : Nat ⊕ (Int32 × s_Y)) (r : Int32) (σ' : t_S) : Prop := t_rk k σ σ' ∧ match m with
  | .inl pl => r = 0 ∧ t_i σ' 15 = nI pl ∧ pl ≤ 600
  | .inr p => r = 1 ∧ t_Y σ' B len p.2 ∧ t_a σ' 19 k = p.1
theorem p_takeBut {k : Nat} {lo hi but : Int32} (h : t_Y σ B len y) (hk : k < 4) : ∃ r σ', D_takeBut (nI k) lo hi but σ = some (r, σ') ∧ t_tk k σ B len (s_takeB B lo hi but y) r σ' := by
  have hlen := h.1.2.1
  have hat := h.2.2.1.1
  unfold D_takeBut s_takeB
  rw [h.2.1.1]
  by_cases cs : k_sort (y_k y) = 3
  · rw [if_pos cs, if_pos cs, x_gaS hk (by omega), x_lS]
    have hv : t_i σ 13 = k_val (y_k y) := h.2.1.2.2.2.1 cs
    have h2 : t_Y (t_sa σ 19 k (t_i σ 13)) B len y := h.rd
    have hk2 : t_rk k σ (t_sa σ 19 k (t_i σ 13)) := fun a j h1 h2 => by rw [t_a_sa, if_neg h2]
    have hr2 : t_a (t_sa σ 19 k (t_i σ 13)) 19 k = k_val (y_k y) := by rw [t_a_sa, if_pos ⟨rfl, rfl⟩]; exact hv
    have hv2 : t_i (t_sa σ 19 k (t_i σ 13)) 13 = k_val (y_k y) := hv
    generalize t_sa σ 19 k (t_i σ 13) = s2 at h2 hk2 hr2 hv2 ⊢
    obtain ⟨s3, b1, b2, b3⟩ := p_bad h2
    obtain ⟨s4, c1, c2, c3⟩ := p_nextT b2
    obtain ⟨s5, d1, d2, d3⟩ := p_nextT h2
    have hbad : (x_b (D_addsFault (2 : Int32) (t_i s2 11) s2) fun σ7 => x_l (t_si σ7 21 (0 : Int32)) fun σ8 => x_b (D_token σ8) fun σ10 => some ((1 : Int32), σ10)) = some (1, s4) := by
      cases hq : D_addsFault (2 : Int32) (t_i s2 11) s2 with
      | none => rw [hq] at b1; cases b1
      | some s0 =>
        rw [hq, x_bS] at b1
        cases b1
        rw [x_bS, x_lS, c1, x_bS]
    rw [hv2, p_in, x_bS, x_lS]
    unfold s_i
    by_cases c9 : (lo ≤ k_val (y_k y) ∧ k_val (y_k y) ≤ hi) ∧ ¬ k_val (y_k y) = but
    · rw [if_pos c9.1, if_neg (show ¬ (1 : Int32) = 0 by decide), if_neg c9.2, if_pos c9, d1, x_bS]
      exact ⟨1, s5, rfl, hk2.trans (t_rk.of d3), rfl, d2, (d3 19 k).trans hr2⟩
    · rw [if_neg c9]
      refine ⟨1, s4, ?_, hk2.trans ((t_rk.of b3).trans (t_rk.of c3)), rfl, c2, ((c3 19 k).trans (b3 19 k)).trans hr2⟩
      by_cases c8 : lo ≤ k_val (y_k y) ∧ k_val (y_k y) ≤ hi
      · rw [if_pos c8, if_neg (show ¬ (1 : Int32) = 0 by decide), if_pos (by
          by_cases q : k_val (y_k y) = but
          · exact q
          · exact absurd ⟨c8, q⟩ c9)]
        exact hbad
      · rw [if_neg c8, if_pos (show (0 : Int32) = 0 from rfl)]
        exact hbad
  · rw [if_neg cs, if_neg cs]
    obtain ⟨s1, a1, a2, a3, -⟩ := p_fails h
    refine ⟨0, s1, ?_, t_rk.of a3, rfl, a2, by omega⟩
    rw [a1, x_b2S, x_gS (Or.inl rfl)]
theorem p_take {k : Nat} {lo hi : Int32} (h : t_Y σ B len y) (hk : k < 4) : ∃ r σ', D_take (nI k) lo hi σ = some (r, σ') ∧ t_tk k σ B len (s_takeB B lo hi (-1) y) r σ' := by
  obtain ⟨r, σ', a1, a2⟩ := p_takeBut (lo := lo) (hi := hi) (but := -1) h hk
  refine ⟨r, σ', ?_, a2⟩
  unfold D_take
  rw [a1, x_b2S, x_gS]
  obtain ⟨-, a3⟩ := a2
  cases hm : s_takeB B lo hi (-1) y with
  | inl pl => rw [hm] at a3; exact Or.inl a3.1
  | inr p => rw [hm] at a3; exact Or.inr a3.1
theorem p_takeNode {k : Nat} {but : Int32} (h : t_Y σ B len y) (hk : k < 4) : ∃ r σ', D_takeNode (nI k) but σ = some (r, σ') ∧ t_tk k σ B len (s_takeNode B but y) r σ' := by
  obtain ⟨r, s1, a1, a2, a3⟩ := p_takeBut (lo := 0) (hi := 5) (but := but) h hk
  unfold D_takeNode s_takeNode
  rw [a1, x_b2S]
  cases hm : s_takeB B 0 5 but y with
  | inl pl =>
    rw [hm] at a3
    rw [if_pos a3.1]
    exact ⟨0, s1, rfl, a2, rfl, a3.2⟩
  | inr p =>
    rw [hm] at a3
    obtain ⟨r1, r2, r3⟩ := a3
    rw [if_neg (by rw [r1]; decide), x_gaS hk (by omega), p_greater, x_bS, x_lS, r3, r2.2.2.2.2.2.1]
    refine ⟨1, _, rfl, a2.trans (fun a j _ _ => rfl), rfl, ?_, r3⟩
    obtain ⟨h1, h2, h3, ⟨h4, h4'⟩, h5, h6, h7⟩ := r2
    have hi : ∀ x k, k ≠ 20 → t_i (t_si s1 20 x) k = t_i s1 k := fun x k q1 => by rw [t_i_si, if_neg q1]
    exact ⟨⟨(hi _ 10 (by decide)).trans h1.1, h1.2.1, h1.2.2.1, h1.2.2.2⟩, ⟨(hi _ 12 (by decide)).trans h2.1, (hi _ 11 (by decide)).trans h2.2.1, (hi _ 9 (by decide)).trans h2.2.2.1, fun q => (hi _ 13 (by decide)).trans (h2.2.2.2.1 q), h2.2.2.2.2⟩, h3, ⟨(hi _ 16 (by decide)).trans h4, fun q => ⟨(hi _ 17 (by decide)).trans (h4' q).1, (h4' q).2⟩⟩, (hi _ 21 (by decide)).trans h5, by rw [t_i_si, if_pos rfl]; rfl, h7⟩
theorem p_numberOf (w : Int64) : D_numberOf w = some (s_numOf w) := by
  have step : ∀ (f k : Nat) (n : Int32), k < 32 → D_numberOf_5 w (fun (v2_12 : Int32) => some v2_12) (f + 1) n (nI k) = D_numberOf_5 w (fun (v2_12 : Int32) => some v2_12) f (s_num1 w (nI k) n) (nI k + (-8)) := by
    intro f k n hk
    show (if nI k < 0 then _ else _) = _
    rw [if_neg (nI_pos (by omega)), x_lS]
    unfold s_num1
    by_cases c : ((w >>> ((nI k).toInt64 &&& 63)) &&& 255).toInt32 = 0
    · rw [if_pos c, if_pos c, x_lS]
    · rw [if_neg c, if_neg c, x_lS, x_lS]
  unfold D_numberOf
  show D_numberOf_5 w _ (9999 + 1) 0 (nI 24) = _
  rw [step _ 24 _ (by omega), show nI 24 + (-8) = nI 16 by decide]
  show D_numberOf_5 w _ (9998 + 1) _ (nI 16) = _
  rw [step _ 16 _ (by omega), show nI 16 + (-8) = nI 8 by decide]
  show D_numberOf_5 w _ (9997 + 1) _ (nI 8) = _
  rw [step _ 8 _ (by omega), show nI 8 + (-8) = nI 0 by decide]
  show D_numberOf_5 w _ (9996 + 1) _ (nI 0) = _
  rw [step _ 0 _ (by omega), show nI 0 + (-8) = (-8 : Int32) by decide]
  show D_numberOf_5 w _ (9995 + 1) _ (-8) = _
  show (if (-8 : Int32) < 0 then _ else _) = _
  rw [if_pos (by decide)]
  rfl
theorem p_takeName {k : Nat} (h : t_Y σ B len y) (hk : k < 4) (hord : k_at (y_k y) ≤ k_next (y_k y)) : ∃ r σ', D_takeName (nI k) σ = some (r, σ') ∧ t_tk k σ B len (s_takeName B y) r σ' := by
  have hlen := h.1.2.1
  have hat := h.2.2.1
  unfold D_takeName s_takeName
  rw [h.2.1.1]
  by_cases cs : k_sort (y_k y) = 2
  · rw [if_pos cs, if_pos cs, x_lS, h.2.1.2.1, h.2.1.2.2.1, nI_sub hord]
    have hw : t_w σ = k_word (y_k y) := h.2.1.2.2.2.2 cs
    have fin : ∀ (s2 : t_S) (y2 : s_Y), t_Y s2 B len y2 → t_w s2 = k_word (y_k y) → t_rk k σ s2 → ∃ σ', (x_b (D_numberOf (t_w s2)) fun r4 => x_ga (nI k) 4 fun j5 => x_l (t_sa s2 19 j5 r4) fun σ6 => x_b (D_token σ6) fun σ8 => some ((1 : Int32), σ8)) = some (1, σ') ∧ t_rk k σ σ' ∧ t_Y σ' B len (s_nextT B y2) ∧ t_a σ' 19 k = s_numOf (k_word (y_k y)) := by
      intro s2 y2 h2 hw2 hk2
      rw [p_numberOf, x_bS, x_gaS hk (by omega), x_lS, hw2]
      obtain ⟨s3, c1, c2, c3⟩ := p_nextT (h2.rd (k := k) (x := s_numOf (k_word (y_k y))))
      rw [c1, x_bS]
      exact ⟨s3, rfl, hk2.trans (fun a j h1 h2 => (c3 a j).trans (by rw [t_a_sa, if_neg h2])), c2, (c3 19 k).trans (by rw [t_a_sa, if_pos ⟨rfl, rfl⟩])⟩
    by_cases c4 : k_next (y_k y) - k_at (y_k y) ≤ 4
    · rw [if_pos (show nI (k_next (y_k y) - k_at (y_k y)) ≤ 4 from nI_le (b := 4) c4 (by omega)), if_pos c4]
      obtain ⟨s3, c1, c2, c3, c5⟩ := fin σ y h hw (fun _ _ _ _ => rfl)
      exact ⟨1, s3, c1, c2, rfl, c3, c5⟩
    · rw [if_neg (show ¬ nI (k_next (y_k y) - k_at (y_k y)) ≤ 4 from nI_ge (a := 4) (by omega) (by omega)), if_neg c4]
      obtain ⟨s1, a1, a2, a3⟩ := p_addsFault (f := 2) (pl := k_at (y_k y)) h (by decide) (by omega)
      have hw1 : t_w s1 = k_word (y_k y) := a2.2.1.2.2.2.2 cs
      have a2' : t_Y (t_si s1 21 0) B len (s_bad 2 y) := a2.good (x := false)
      rw [a1, x_bS, x_lS]
      obtain ⟨s3, c1, c2, c3, c5⟩ := fin (t_si s1 21 0) (s_bad 2 y) a2' hw1 (fun a j _ _ => a3 a j)
      exact ⟨1, s3, c1, c2, rfl, c3, c5⟩
  · rw [if_neg cs, if_neg cs]
    obtain ⟨s1, a1, a2, a3, -⟩ := p_fails h
    refine ⟨0, s1, ?_, t_rk.of a3, rfl, a2, by omega⟩
    rw [a1, x_b2S, x_gS (Or.inl rfl)]
end T81
