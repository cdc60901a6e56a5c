/-! THE TWIN's LAW, 50: tokens -/
set_option maxRecDepth 100000
set_option maxHeartbeats 400000
/-- a token: its sort, its place, where it ends, its value, its letters -/
abbrev s_K : Type := Int32 × Nat × Nat × Int32 × Int64
def k_sort (k : s_K) : Int32 := k.1
def k_at (k : s_K) : Nat := k.2.1
def k_next (k : s_K) : Nat := k.2.2.1
def k_val (k : s_K) : Int32 := k.2.2.2.1
def k_word (k : s_K) : Int64 := k.2.2.2.2
def s_span (P : Int32 → Bool) (B : Nat → Int32) : Nat → Nat → Nat
  | 0, r => r
  | m + 1, r => if P (B r) = true then s_span P B m (r + 1) else r
def s_ws (c : Int32) : Bool := decide (c = 10) || decide (c = 32)
def s_al (c : Int32) : Bool := decide (97 ≤ c ∧ c ≤ 122)
def s_dg (c : Int32) : Bool := decide (48 ≤ c ∧ c ≤ 57)
/-- m letters from place r on, behind the letters w -/
def s_pack (B : Nat → Int32) : Nat → Nat → Int64 → Int64
  | 0, _, w => w
  | m + 1, r, w => s_pack B m (r + 1) ((w <<< (((8 : Int32)).toInt64 &&& 63)) ||| (B r).toInt64)
/-- m digits from place r on, the n-th the first of them -/
def s_dv (B : Nat → Int32) : Nat → Nat → Nat → Int32 → Int32
  | 0, _, _, v => v
  | m + 1, r, n, v => s_dv B m (r + 1) (n + 1) (if n < 2 then 10 * v + B r - 48 else v)
/-- the token behind place r -/
def s_tok (B : Nat → Int32) (r : Nat) : s_K :=
  let p := s_span s_ws B 601 r
  if s_al (B p) = true then
    (let e := s_span s_al B 601 p
     (2, p, e, 0, if e - p ≤ 8 then s_pack B (e - p) p 0 else 0))
  else if s_dg (B p) = true then
    (let e := s_span s_dg B 601 p
     (if e - p ≤ 2 then 3 else 1, p, e, s_dv B (e - p) p 0 0, 0))
  else if B p < 0 then (0, p, p, 0, 0)
  else (if B p = 59 then 4 else 1, p, p + 1, 0, 0)
/-- the bytes of a text -/
def t_B (σ : t_S) (B : Nat → Int32) (len : Nat) : Prop := t_i σ 10 = nI len ∧ len ≤ 600 ∧ (∀ k, k < len → B k = t_a σ 1 k &&& 255) ∧ ∀ k, len ≤ k → B k = -1
def t_tok (σ : t_S) (k : s_K) : Prop := t_i σ 12 = k_sort k ∧ t_i σ 11 = nI (k_at k) ∧ t_i σ 9 = nI (k_next k) ∧ (k_sort k = 3 → t_i σ 13 = k_val k) ∧ (k_sort k = 2 → t_w σ = k_word k)
/-- tokens alone change -/
def t_pt (σ σ' : t_S) : Prop := (∀ k, k ≠ 9 → k ≠ 11 → k ≠ 12 → k ≠ 13 → t_i σ' k = t_i σ k) ∧ ∀ k j, t_a σ' k j = t_a σ k j
section T80
variable {σ σ' : t_S} {B : Nat → Int32} {len : Nat}
theorem t_pt.refl : t_pt σ σ := ⟨fun _ _ _ _ _ => rfl, fun _ _ => rfl⟩
theorem t_pt.trans {σ2 : t_S} (h : t_pt σ σ') (h' : t_pt σ' σ2) : t_pt σ σ2 := ⟨fun k h1 h2 h3 h4 => (h'.1 k h1 h2 h3 h4).trans (h.1 k h1 h2 h3 h4), fun k j => (h'.2 k j).trans (h.2 k j)⟩
theorem t_pt.si {k : Nat} {x : Int32} (hk : k = 9 ∨ k = 11 ∨ k = 12 ∨ k = 13) : t_pt σ (t_si σ k x) := ⟨fun j h1 h2 h3 h4 => by rw [t_i_si, if_neg (by omega)], fun _ _ => rfl⟩
theorem t_pt.sw {x : Int64} : t_pt σ (t_sw σ x) := ⟨fun _ _ _ _ _ => rfl, fun _ _ => rfl⟩
theorem t_B.of (h : t_B σ B len) (ho : t_pt σ σ') : t_B σ' B len := ⟨(ho.1 10 (by decide) (by decide) (by decide) (by decide)).trans h.1, h.2.1, fun k hk => (h.2.2.1 k hk).trans (by rw [ho.2 1 k]), h.2.2.2⟩
theorem p_see {r : Nat} (h : t_B σ B len) (hr : t_i σ 9 = nI r) (hr2 : r < 2 ^ 31) : D_see σ = some (B r) := by
  obtain ⟨h1, h2, h3, h4⟩ := h
  unfold D_see
  rw [h1, hr]
  by_cases c : len ≤ r
  · rw [if_pos (nI_le c hr2), h4 r c]
  · rw [if_neg (nI_ge (by omega) (by omega)), x_gaS (by omega) (by omega), h3 r (by omega)]
theorem s_span_le (P : Int32 → Bool) : ∀ m r, r ≤ s_span P B m r ∧ s_span P B m r ≤ r + m := by
  intro m
  induction m with
  | zero => intro r; exact ⟨Nat.le_refl _, Nat.le_refl _⟩
  | succ m ih =>
    intro r
    unfold s_span
    split
    · have := ih (r + 1); omega
    · omega
/-- a span ends at what is not of it, at the text's end at the latest -/
theorem s_span_end {P : Int32 → Bool} (hP : P (-1) = false) (hB : ∀ k, len ≤ k → B k = -1) : ∀ m r, r ≤ len → len < r + m → P (B (s_span P B m r)) = false ∧ s_span P B m r ≤ len ∧ ∀ j, r ≤ j → j < s_span P B m r → P (B j) = true := by
  intro m
  induction m with
  | zero => intro r h1 h2; omega
  | succ m ih =>
    intro r h1 h2
    unfold s_span
    by_cases c : P (B r) = true
    · rw [if_pos c]
      have hlt : r < len := by
        refine Nat.lt_of_not_le (fun q => ?_)
        rw [hB r q, hP] at c
        cases c
      obtain ⟨q1, q2, q3⟩ := ih (r + 1) (by omega) (by omega)
      refine ⟨q1, q2, fun j h3 h4 => ?_⟩
      by_cases e : j = r
      · rw [e]; exact c
      · exact q3 j (by omega) h4
    · rw [if_neg c]
      exact ⟨by simpa using c, h1, fun j h3 h4 => by omega⟩
theorem p_token_0 (K : t_S → Option t_S) : ∀ (m f r : Nat) (σ : t_S), t_B σ B len → t_i σ 9 = nI r → r ≤ len → len < r + m → m ≤ f → ∃ σ', D_token_0 K f σ = K σ' ∧ t_i σ' 9 = nI (s_span s_ws B m r) ∧ t_pt σ σ' ∧ t_i σ' 13 = t_i σ 13 := by
  intro m
  induction m with
  | zero => intro f r σ h hr h1 h2; omega
  | succ m ih =>
    intro f r σ h hr h1 h2 hf
    obtain ⟨f, rfl⟩ : ∃ f', f = f' + 1 := ⟨f - 1, by omega⟩
    have hlen := h.2.1
    have hstep : D_token_0 K (f + 1) σ = if s_ws (B r) = true then D_token_0 K f (t_si σ 9 (nI (r + 1))) else K σ := by
      show x_b (D_see σ) _ = _
      rw [p_see h hr (by omega), x_bS, x_lS, x_lS, hr, nI_1]
      unfold s_ws
      by_cases c1 : B r = 10
      · rw [if_pos c1, if_pos (by simp [c1])]
      · rw [if_neg c1, x_bS]
        by_cases c2 : B r = 32
        · rw [if_pos c2, if_pos (by simp [c2])]
        · rw [if_neg c2, if_neg (by simp [c1, c2])]
    rw [hstep]
    unfold s_span
    by_cases c : s_ws (B r) = true
    · rw [if_pos c, if_pos c]
      have hlt : r < len := by
        refine Nat.lt_of_not_le (fun q => ?_)
        rw [h.2.2.2 r q] at c
        exact absurd c (by decide)
      obtain ⟨σ', a1, a2, a3, a4⟩ := ih f (r + 1) (t_si σ 9 (nI (r + 1))) (h.of (t_pt.si (by omega))) (by rw [t_i_si, if_pos rfl]) (by omega) (by omega) (by omega)
      exact ⟨σ', a1, a2, (t_pt.si (by omega)).trans a3, a4.trans (by rw [t_i_si, if_neg (by decide)])⟩
    · rw [if_neg c, if_neg c]
      exact ⟨σ, rfl, hr, t_pt.refl, rfl⟩
theorem p_inS {c lo hi : Int32} : D_in c lo hi = some (if decide (lo ≤ c ∧ c ≤ hi) = true then 1 else 0) := by
  rw [p_in]
  unfold s_i
  by_cases q : lo ≤ c ∧ c ≤ hi
  · rw [if_pos q, if_pos (decide_eq_true q)]
  · rw [if_neg q, if_neg (by simp only [decide_eq_true_eq]; exact q)]
/-- letters -/
theorem p_token_74 (K : Int32 → t_S → Option t_S) : ∀ (m f r n : Nat) (σ : t_S), t_B σ B len → t_i σ 9 = nI r → r ≤ len → len < r + m → n ≤ r → m ≤ f → ∃ σ', D_token_74 K f (nI n) σ = K (nI (n + (s_span s_al B m r - r))) σ' ∧ t_i σ' 9 = nI (s_span s_al B m r) ∧ t_w σ' = s_pack B (s_span s_al B m r - r) r (t_w σ) ∧ t_pt σ σ' ∧ t_i σ' 11 = t_i σ 11 := by
  intro m
  induction m with
  | zero => intro f r n σ h hr h1 h2; omega
  | succ m ih =>
    intro f r n σ h hr h1 h2 hn hf
    obtain ⟨f, rfl⟩ : ∃ f', f = f' + 1 := ⟨f - 1, by omega⟩
    have hlen := h.2.1
    have hstep : D_token_74 K (f + 1) (nI n) σ = if s_al (B r) = true then D_token_74 K f (nI (n + 1)) (t_si (t_sw σ (((t_w σ) <<< (((8 : Int32)).toInt64 &&& 63)) ||| (B r).toInt64)) 9 (nI (r + 1))) else K (nI n) σ := by
      show x_b (D_see σ) _ = _
      rw [p_see h hr (by omega), x_bS, p_inS, x_bS]
      unfold s_al
      by_cases c1 : decide (97 ≤ B r ∧ B r ≤ 122) = true
      · have e9 : t_i (t_sw σ (((t_w σ) <<< (((8 : Int32)).toInt64 &&& 63)) ||| (B r).toInt64)) 9 = nI r := hr
        rw [if_pos c1, if_neg (show ¬ (1 : Int32) = 0 by decide), if_pos c1, x_bS, x_lS, x_lS, x_lS, e9, nI_1, nI_1]
      · rw [if_neg c1, if_pos (show (0 : Int32) = 0 from rfl), if_neg c1]
    rw [hstep]
    unfold s_span
    by_cases c : s_al (B r) = true
    · rw [if_pos c, if_pos c]
      have hlt : r < len := by
        refine Nat.lt_of_not_le (fun q => ?_)
        rw [h.2.2.2 r q] at c
        exact absurd c (by decide)
      obtain ⟨σ', a1, a2, a3, a4, a5⟩ := ih f (r + 1) (n + 1) (t_si (t_sw σ (((t_w σ) <<< (((8 : Int32)).toInt64 &&& 63)) ||| (B r).toInt64)) 9 (nI (r + 1))) (h.of (t_pt.sw.trans (t_pt.si (by omega)))) (by rw [t_i_si, if_pos rfl]) (by omega) (by omega) (by omega) (by omega)
      have hle := s_span_le (B := B) s_al m (r + 1)
      have e : s_span s_al B m (r + 1) - r = (s_span s_al B m (r + 1) - (r + 1)) + 1 := by omega
      refine ⟨σ', ?_, a2, ?_, (t_pt.sw.trans (t_pt.si (by omega))).trans a4, a5⟩
      · rw [a1]
        congr 2
        omega
      · rw [a3, e]
        rfl
    · rw [if_neg c, if_neg c, Nat.sub_self]
      exact ⟨σ, rfl, hr, rfl, t_pt.refl, rfl⟩
/-- digits -/
theorem p_token_163 (K : Int32 → t_S → Option t_S) : ∀ (m f r n : Nat) (σ : t_S), t_B σ B len → t_i σ 9 = nI r → r ≤ len → len < r + m → n ≤ r → m ≤ f → ∃ σ', D_token_163 K f (nI n) σ = K (nI (n + (s_span s_dg B m r - r))) σ' ∧ t_i σ' 9 = nI (s_span s_dg B m r) ∧ t_i σ' 13 = s_dv B (s_span s_dg B m r - r) r n (t_i σ 13) ∧ t_pt σ σ' ∧ t_i σ' 11 = t_i σ 11 := by
  intro m
  induction m with
  | zero => intro f r n σ h hr h1 h2; omega
  | succ m ih =>
    intro f r n σ h hr h1 h2 hn hf
    obtain ⟨f, rfl⟩ : ∃ f', f = f' + 1 := ⟨f - 1, by omega⟩
    have hlen := h.2.1
    have hstep : D_token_163 K (f + 1) (nI n) σ = if s_dg (B r) = true then D_token_163 K f (nI (n + 1)) (t_si (t_si σ 13 (if n < 2 then 10 * t_i σ 13 + B r - 48 else t_i σ 13)) 9 (nI (r + 1))) else K (nI n) σ := by
      show x_b (D_see σ) _ = _
      rw [p_see h hr (by omega), x_bS, p_inS, x_bS]
      unfold s_dg
      by_cases c1 : decide (48 ≤ B r ∧ B r ≤ 57) = true
      · have e9 : ∀ x, t_i (t_si σ 13 x) 9 = nI r := fun x => by rw [t_i_si, if_neg (by decide)]; exact hr
        rw [if_pos c1, if_neg (show ¬ (1 : Int32) = 0 by decide), if_pos c1, x_lS]
        by_cases c2 : n < 2
        · rw [if_neg (show ¬ (2 : Int32) ≤ nI n from nI_ge (a := n) (b := 2) c2 (by omega)), if_pos c2, x_bS]
          show x_l (t_si σ 13 (10 * t_i σ 13 + B r - 48)) _ = _
          rw [x_lS, x_lS, x_lS, e9, nI_1, nI_1]
        · rw [if_pos (show (2 : Int32) ≤ nI n from nI_le (a := 2) (by omega) (by omega)), if_neg c2]
          show x_l (t_si σ 13 (t_i σ 13)) _ = _
          rw [x_lS, x_lS, x_lS, e9, nI_1, nI_1]
      · rw [if_neg c1, if_pos (show (0 : Int32) = 0 from rfl), if_neg c1]
    rw [hstep]
    unfold s_span
    by_cases c : s_dg (B r) = true
    · rw [if_pos c, if_pos c]
      have hlt : r < len := by
        refine Nat.lt_of_not_le (fun q => ?_)
        rw [h.2.2.2 r q] at c
        exact absurd c (by decide)
      generalize hx : (if n < 2 then 10 * t_i σ 13 + B r - 48 else t_i σ 13) = x
      obtain ⟨σ', a1, a2, a3, a4, a5⟩ := ih f (r + 1) (n + 1) (t_si (t_si σ 13 x) 9 (nI (r + 1))) (h.of ((t_pt.si (by omega)).trans (t_pt.si (by omega)))) (by rw [t_i_si, if_pos rfl]) (by omega) (by omega) (by omega) (by omega)
      have hle := s_span_le (B := B) s_dg m (r + 1)
      have e : s_span s_dg B m (r + 1) - r = (s_span s_dg B m (r + 1) - (r + 1)) + 1 := by omega
      refine ⟨σ', ?_, a2, ?_, ((t_pt.si (by omega)).trans (t_pt.si (by omega))).trans a4, a5⟩
      · rw [a1]
        congr 2
        omega
      · rw [a3, e]
        show _ = s_dv B (s_span s_dg B m (r + 1) - (r + 1)) (r + 1) (n + 1) (if n < 2 then 10 * t_i σ 13 + B r - 48 else t_i σ 13)
        rw [hx, t_i_si, if_neg (by decide), t_i_si, if_pos rfl]
    · rw [if_neg c, if_neg c, Nat.sub_self]
      exact ⟨σ, rfl, hr, rfl, t_pt.refl, rfl⟩
theorem s_al_dg {c : Int32} (h : s_al c = true) : s_dg c = false := by
  have h1 : 97 ≤ c ∧ c ≤ 122 := of_decide_eq_true h
  apply decide_eq_false
  rintro ⟨-, q⟩
  exact absurd (Int32.le_trans h1.1 q) (by decide)
theorem p_token {r : Nat} (h : t_B σ B len) (hr : t_i σ 9 = nI r) (hrl : r ≤ len) : ∃ σ', D_token σ = some σ' ∧ t_tok σ' (s_tok B r) ∧ t_pt σ σ' ∧ k_next (s_tok B r) ≤ len ∧ k_at (s_tok B r) ≤ len := by
  have hlen := h.2.1
  have hend : ∀ k, len ≤ k → B k = -1 := h.2.2.2
  unfold D_token
  obtain ⟨s1, a1, a2, a3, a4⟩ := p_token_0 (fun (σ10 : t_S) => x_l (t_si σ10 11 (t_i σ10 9)) fun σ11 => x_b (D_see σ11) fun r13 => x_l (t_sw σ11 (0 : Int64)) fun σ14 => if 0 ≤ r13 then (x_b (D_in r13 (97 : Int32) (122 : Int32)) fun r17 => if r17 = 0 then (x_b (D_in r13 (48 : Int32) (57 : Int32)) fun r20 => if r20 = 0 then (x_l (t_si σ14 9 ((t_i σ14 9) + (1 : Int32))) fun σ22 => if r13 = (59 : Int32) then (x_l (t_si σ22 12 (4 : Int32)) fun σ25 => some σ25) else x_l (t_si σ22 12 (1 : Int32)) fun σ24 => some σ24) else x_l (t_si σ14 13 (0 : Int32)) fun σ26 => D_token_163 (fun (v2_43 : Int32) (σ44 : t_S) => if v2_43 ≤ (2 : Int32) then (x_l (t_si σ44 12 (3 : Int32)) fun σ46 => some σ46) else x_l (t_si σ44 12 (1 : Int32)) fun σ47 => some σ47) x_F (0 : Int32) σ26) else D_token_74 (fun (v2_62 : Int32) (σ63 : t_S) => x_l (fun (s64 : Int64) => x_l (t_sw σ63 s64) fun σ65 => x_l (t_si σ65 12 (2 : Int32)) fun σ66 => some σ66) fun J136 => if v2_62 ≤ (8 : Int32) then (J136 (t_w σ63)) else J136 (0 : Int64)) x_F (0 : Int32) σ14) else x_l (t_si σ14 12 (0 : Int32)) fun σ68 => some σ68) 601 x_F r σ h hr hrl (by omega) (by rw [x_Fv]; omega)
  rw [a1]
  obtain ⟨q1, q2, q3⟩ := s_span_end (P := s_ws) (B := B) (len := len) (by decide) hend 601 r hrl (by omega)
  unfold s_tok
  dsimp only
  generalize s_span s_ws B 601 r = p at a2 q1 q2 q3 ⊢
  have hb1 := h.of a3
  have hpt2 : t_pt s1 (t_sw (t_si s1 11 (t_i s1 9)) 0) := (t_pt.si (by omega)).trans t_pt.sw
  have hb2 : t_B (t_sw (t_si s1 11 (t_i s1 9)) 0) B len := hb1.of hpt2
  have h92 : t_i (t_sw (t_si s1 11 (t_i s1 9)) 0) 9 = nI p := a2
  have h112 : t_i (t_sw (t_si s1 11 (t_i s1 9)) 0) 11 = nI p := (show _ = t_i s1 9 from rfl).trans a2
  have hw2 : t_w (t_sw (t_si s1 11 (t_i s1 9)) 0) = 0 := rfl
  have hsee : D_see (t_si s1 11 (t_i s1 9)) = some (B p) := p_see (hb1.of (t_pt.si (by omega))) a2 (by omega)
  rw [x_lS, hsee, x_bS, x_lS]
  have hpt := a3.trans hpt2
  generalize t_sw (t_si s1 11 (t_i s1 9)) 0 = s2 at hb2 h92 h112 hw2 hpt ⊢
  by_cases ca : s_al (B p) = true
  · have ca' : 97 ≤ B p ∧ B p ≤ 122 := of_decide_eq_true ca
    have hlt : p < len := by
      refine Nat.lt_of_not_le (fun q => ?_)
      rw [hend p q] at ca
      exact absurd ca (by decide)
    obtain ⟨e1, e2, e3⟩ := s_span_end (P := s_al) (B := B) (len := len) (by decide) hend 601 p q2 (by omega)
    have hle := s_span_le (B := B) s_al 601 p
    simp only [if_pos ca]
    obtain ⟨s3, b1, b2, b3, b4, b5⟩ := p_token_74 (fun (v2_62 : Int32) (σ63 : t_S) => x_l (fun (s64 : Int64) => x_l (t_sw σ63 s64) fun σ65 => x_l (t_si σ65 12 (2 : Int32)) fun σ66 => some σ66) fun J136 => if v2_62 ≤ (8 : Int32) then (J136 (t_w σ63)) else J136 (0 : Int64)) 601 x_F p 0 s2 hb2 h92 q2 (by omega) (by omega) (by rw [x_Fv]; omega)
    rw [Nat.zero_add] at b1
    rw [hw2] at b3
    have b1' : D_token_74 (fun (v2_62 : Int32) (σ63 : t_S) => x_l (fun (s64 : Int64) => x_l (t_sw σ63 s64) fun σ65 => x_l (t_si σ65 12 (2 : Int32)) fun σ66 => some σ66) fun J136 => if v2_62 ≤ (8 : Int32) then (J136 (t_w σ63)) else J136 (0 : Int64)) x_F (0 : Int32) s2 = _ := b1
    rw [if_pos (show 0 ≤ B p from Int32.le_trans (by decide) ca'.1), p_inS, x_bS, if_pos (show decide (97 ≤ B p ∧ B p ≤ 122) = true from ca), if_neg (show ¬ (1 : Int32) = 0 by decide), b1']
    generalize s_span s_al B 601 p = e at b2 b3 e1 e2 e3 hle ⊢
    have fin : ∀ w : Int64, ∃ σ', (x_l (t_sw s3 w) fun σ65 => x_l (t_si σ65 12 (2 : Int32)) fun σ66 => some σ66) = some σ' ∧ t_tok σ' (2, p, e, 0, w) ∧ t_pt σ σ' ∧ k_next (2, p, e, 0, w) ≤ len ∧ k_at (2, p, e, 0, w) ≤ len := by
      intro w
      refine ⟨t_si (t_sw s3 w) 12 2, by rw [x_lS, x_lS], ⟨rfl, ?_, b2, fun q => absurd (show (2 : Int32) = 3 from q) (by decide), fun _ => rfl⟩, hpt.trans (b4.trans (t_pt.sw.trans (t_pt.si (by omega)))), e2, q2⟩
      show t_i s3 11 = nI p
      rw [b5]; exact h112
    rw [x_lS]
    by_cases c8 : e - p ≤ 8
    · rw [if_pos (show nI (e - p) ≤ 8 from nI_le (b := 8) c8 (by omega)), if_pos c8, b3]
      exact fin _
    · rw [if_neg (show ¬ nI (e - p) ≤ 8 from nI_ge (a := 8) (by omega) (by omega)), if_neg c8]
      exact fin _
  · have caf : ¬ decide (97 ≤ B p ∧ B p ≤ 122) = true := ca
    simp only [if_neg ca]
    by_cases cd : s_dg (B p) = true
    · have cd' : 48 ≤ B p ∧ B p ≤ 57 := of_decide_eq_true cd
      obtain ⟨e1, e2, e3⟩ := s_span_end (P := s_dg) (B := B) (len := len) (by decide) hend 601 p q2 (by omega)
      have hle := s_span_le (B := B) s_dg 601 p
      simp only [if_pos cd]
      have hb3 : t_B (t_si s2 13 0) B len := hb2.of (t_pt.si (by omega))
      obtain ⟨s3, b1, b2, b3, b4, b5⟩ := p_token_163 (fun (v2_43 : Int32) (σ44 : t_S) => if v2_43 ≤ (2 : Int32) then (x_l (t_si σ44 12 (3 : Int32)) fun σ46 => some σ46) else x_l (t_si σ44 12 (1 : Int32)) fun σ47 => some σ47) 601 x_F p 0 (t_si s2 13 0) hb3 h92 q2 (by omega) (by omega) (by rw [x_Fv]; omega)
      rw [Nat.zero_add] at b1
      have b1' : D_token_163 (fun (v2_43 : Int32) (σ44 : t_S) => if v2_43 ≤ (2 : Int32) then (x_l (t_si σ44 12 (3 : Int32)) fun σ46 => some σ46) else x_l (t_si σ44 12 (1 : Int32)) fun σ47 => some σ47) x_F (0 : Int32) (t_si s2 13 0) = _ := b1
      have hv0 : t_i (t_si s2 13 0) 13 = 0 := by rw [t_i_si, if_pos rfl]
      rw [hv0] at b3
      rw [if_pos (show 0 ≤ B p from Int32.le_trans (by decide) cd'.1), p_inS, x_bS, if_neg caf, if_pos (show (0 : Int32) = 0 from rfl), p_inS, x_bS, if_pos (show decide (48 ≤ B p ∧ B p ≤ 57) = true from cd), if_neg (show ¬ (1 : Int32) = 0 by decide), x_lS, b1']
      generalize s_span s_dg B 601 p = e at b2 b3 e1 e2 e3 hle ⊢
      have fin : ∀ x : Int32, x = 3 ∨ x = 1 → ∃ σ', (x_l (t_si s3 12 x) fun σ46 => some σ46) = some σ' ∧ t_tok σ' (x, p, e, s_dv B (e - p) p 0 0, 0) ∧ t_pt σ σ' ∧ k_next (x, p, e, s_dv B (e - p) p 0 0, 0) ≤ len ∧ k_at (x, p, e, s_dv B (e - p) p 0 0, 0) ≤ len := by
        intro x hx
        refine ⟨t_si s3 12 x, by rw [x_lS], ⟨by rw [t_i_si, if_pos rfl]; rfl, ?_, ?_, fun _ => ?_, fun q => ?_⟩, hpt.trans ((t_pt.si (by omega)).trans (b4.trans (t_pt.si (by omega)))), e2, q2⟩
        · rw [t_i_si, if_neg (by decide), b5, t_i_si, if_neg (by decide)]; exact h112
        · rw [t_i_si, if_neg (by decide)]; exact b2
        · rw [t_i_si, if_neg (by decide)]; exact b3
        · have q' : x = 2 := q
          rcases hx with hx | hx <;> rw [hx] at q' <;> exact absurd q' (by decide)
      by_cases c2 : e - p ≤ 2
      · rw [if_pos (show nI (e - p) ≤ 2 from nI_le (b := 2) c2 (by omega)), if_pos c2]
        exact fin 3 (Or.inl rfl)
      · rw [if_neg (show ¬ nI (e - p) ≤ 2 from nI_ge (a := 2) (by omega) (by omega)), if_neg c2]
        exact fin 1 (Or.inr rfl)
    · have cdf : ¬ decide (48 ≤ B p ∧ B p ≤ 57) = true := cd
      simp only [if_neg cd]
      by_cases cn : B p < 0
      · simp only [if_pos cn]
        rw [if_neg (Int32.not_le.mpr cn), x_lS]
        exact ⟨t_si s2 12 0, rfl, ⟨by rw [t_i_si, if_pos rfl]; rfl, h112, h92, fun q => absurd (show (0 : Int32) = 3 from q) (by decide), fun q => absurd (show (0 : Int32) = 2 from q) (by decide)⟩, hpt.trans (t_pt.si (by omega)), q2, q2⟩
      · have hlt : p < len := by
          refine Nat.lt_of_not_le (fun q => ?_)
          rw [hend p q] at cn
          exact absurd cn (by decide)
        simp only [if_neg cn]
        rw [if_pos (Int32.not_lt.mp cn), p_inS, x_bS, if_neg caf, if_pos (show (0 : Int32) = 0 from rfl), p_inS, x_bS, if_neg cdf, if_pos (show (0 : Int32) = 0 from rfl), x_lS]
        have e9 : t_i (t_si s2 9 (t_i s2 9 + 1)) 9 = nI (p + 1) := by rw [t_i_si, if_pos rfl, h92]; exact nI_1 p
        have fin : ∀ x : Int32, x = 4 ∨ x = 1 → ∃ σ', (x_l (t_si (t_si s2 9 (t_i s2 9 + 1)) 12 x) fun σ25 => some σ25) = some σ' ∧ t_tok σ' (x, p, p + 1, 0, 0) ∧ t_pt σ σ' ∧ k_next (x, p, p + 1, 0, 0) ≤ len ∧ k_at (x, p, p + 1, 0, 0) ≤ len := by
          intro x hx
          refine ⟨t_si (t_si s2 9 (t_i s2 9 + 1)) 12 x, by rw [x_lS], ⟨by rw [t_i_si, if_pos rfl]; rfl, h112, ?_, fun q => ?_, fun q => ?_⟩, hpt.trans ((t_pt.si (by omega)).trans (t_pt.si (by omega))), hlt, q2⟩
          · rw [t_i_si, if_neg (by decide)]; exact e9
          · have q' : x = 3 := q
            rcases hx with hx | hx <;> rw [hx] at q' <;> exact absurd q' (by decide)
          · have q' : x = 2 := q
            rcases hx with hx | hx <;> rw [hx] at q' <;> exact absurd q' (by decide)
        by_cases c59 : B p = 59
        · simp only [if_pos c59]
          exact fin 4 (Or.inl rfl)
        · simp only [if_neg c59]
          exact fin 1 (Or.inr rfl)
end T80
