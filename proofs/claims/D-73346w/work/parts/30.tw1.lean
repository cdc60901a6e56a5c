/-! THE TWIN's LAW, 1: small methods in plain words -/
set_option maxRecDepth 100000
theorem x_bS {α β : Type} {a : α} {k : α → Option β} : x_b (some a) k = k a := rfl
theorem x_b2S {α γ β : Type} {a : α} {c : γ} {k : α → γ → Option β} : x_b2 (some (a, c)) k = k a c := rfl
theorem x_lS {α β : Type} {a : α} {k : α → β} : x_l a k = k a := rfl
theorem x_gaS {α : Type} {j n : Nat} {k : Nat → Option α} (h : j < n) (hn : n < 2 ^ 31) : x_ga (nI j) n k = k j := by
  unfold x_ga
  rw [if_pos ⟨nI_pos (by omega), by rw [nI_clamp (by omega)]; exact h⟩, nI_clamp (by omega)]
theorem x_gS {α : Type} {c : Prop} [Decidable c] {m : Option α} (h : c) : x_g c m = m := if_pos h
theorem nI_mul (a b : Nat) : nI a * nI b = nI (a * b) := (Int32.ofNat_mul a b).symm
theorem nI_sub {a b : Nat} (h : b ≤ a) : nI a - nI b = nI (a - b) := by
  have e := nI_add (a - b) b
  rw [Nat.sub_add_cancel h] at e
  rw [← e]
  exact Int32.add_sub_cancel _ _
/-- small numbers as they stand in the code -/
theorem nI_c : (0 : Int32) = nI 0 ∧ (1 : Int32) = nI 1 ∧ (2 : Int32) = nI 2 ∧ (3 : Int32) = nI 3 ∧ (4 : Int32) = nI 4 ∧ (5 : Int32) = nI 5 ∧ (6 : Int32) = nI 6 ∧ (10 : Int32) = nI 10 ∧ (11 : Int32) = nI 11 ∧ (15 : Int32) = nI 15 ∧ (17 : Int32) = nI 17 ∧ (27 : Int32) = nI 27 ∧ (36 : Int32) = nI 36 ∧ (56 : Int32) = nI 56 ∧ (64 : Int32) = nI 64 ∧ (100 : Int32) = nI 100 ∧ (104 : Int32) = nI 104 ∧ (121 : Int32) = nI 121 ∧ (122 : Int32) = nI 122 := by
  refine ⟨rfl, rfl, rfl, rfl, rfl, rfl, rfl, rfl, rfl, rfl, rfl, rfl, rfl, rfl, rfl, rfl, rfl, rfl, rfl⟩
theorem nI_div {a b : Nat} (ha : a < 2 ^ 31) (hb : b < 2 ^ 31) : nI a / nI b = nI (a / b) := by
  apply Int32.toInt_inj.mp
  rw [Int32.toInt_div_of_ne_right _ _ (by
    intro h
    have h1 := congrArg Int32.toInt h
    rw [nI_toInt hb] at h1
    have h2 : (-1 : Int32).toInt = -1 := by decide
    rw [h2] at h1
    omega), nI_toInt ha, nI_toInt hb, nI_toInt (Nat.lt_of_le_of_lt (Nat.div_le_self a b) ha)]
  exact (Int.ofNat_tdiv a b)
abbrev s_i (c : Prop) [Decidable c] : Int32 := if c then 1 else 0
theorem p_in (v lo hi : Int32) : D_in v lo hi = some (s_i (lo ≤ v ∧ v ≤ hi)) := by
  unfold D_in s_i
  by_cases h1 : v < lo
  · rw [if_pos h1, if_neg (fun h => absurd h.1 (Int32.not_le.mpr h1))]
  · rw [if_neg h1]
    by_cases h2 : hi < v
    · rw [if_pos h2, if_neg (fun h => absurd h.2 (Int32.not_le.mpr h2))]
    · rw [if_neg h2, if_pos ⟨Int32.not_lt.mp h1, Int32.not_lt.mp h2⟩]
def s_has (s k : Int32) : Prop := (s >>> (k &&& 31)) &&& 1 = 1
theorem p_has (s k : Int32) : D_has s k = some (if (s >>> (k &&& 31)) &&& 1 = 1 then 1 else 0) := by
  unfold D_has
  split <;> rfl
theorem p_hasL (s : Int64) (k : Int32) : D_hasL s k = some (if (s >>> (k.toInt64 &&& 63)) &&& 1 = 1 then 1 else 0) := by
  unfold D_hasL lg_cmp
  by_cases h : (s >>> (k.toInt64 &&& 63)) &&& 1 = 1
  · rw [if_pos (by rw [h]; decide), if_pos h]
  · rw [if_neg, if_neg h]
    rw [if_neg h]
    by_cases h2 : (s >>> (k.toInt64 &&& 63)) &&& 1 > 1
    · rw [if_pos h2]; decide
    · rw [if_neg h2]; decide
theorem p_greater (a b : Int32) : D_greater a b = some (if b < a then a else b) := by
  unfold D_greater
  by_cases h : a ≤ b
  · rw [if_pos h, if_neg (Int32.not_lt.mpr h)]
  · rw [if_neg h, if_pos (Int32.not_le.mp h)]
theorem p_lesser (a b : Int32) : D_lesser a b = some (if a < b then a else b) := by
  unfold D_lesser
  by_cases h : b ≤ a
  · rw [if_pos h, if_neg (Int32.not_lt.mpr h)]
  · rw [if_neg h, if_pos (Int32.not_le.mp h)]
/-- a name's letters, 1 to 26, as its number has them by 27s -/
def s_let (n : Nat) : List Nat := if h : n = 0 then [] else s_let (n / 27) ++ [n % 27]
termination_by n
decreasing_by omega
def s_len (n : Nat) : Nat := (s_let n).length
theorem s_let0 : s_let 0 = [] := by rw [s_let, dif_pos rfl]
theorem s_letS {n : Nat} (h : n ≠ 0) : s_let n = s_let (n / 27) ++ [n % 27] := by rw [s_let, dif_neg h]
theorem s_len0 : s_len 0 = 0 := by unfold s_len; rw [s_let0]; rfl
theorem s_lenS {n : Nat} (h : n ≠ 0) : s_len n = s_len (n / 27) + 1 := by unfold s_len; rw [s_letS h, List.length_append]; rfl
theorem s_len_le : ∀ (k n : Nat), n < 27 ^ k → s_len n ≤ k := by
  intro k
  induction k with
  | zero =>
    intro n h
    rw [show n = 0 by simpa using h, s_len0]
    exact Nat.le_refl _
  | succ k ih =>
    intro n h
    by_cases h0 : n = 0
    · rw [h0, s_len0]; omega
    · rw [s_lenS h0]
      have := ih (n / 27) (by rw [Nat.div_lt_iff_lt_mul (by omega)]; rw [Nat.pow_succ] at h; exact h)
      omega
theorem p_lettersOf_4 (k18 : Int32 → Option Int32) : ∀ (f a n : Nat), a < 2 ^ 31 → s_len a < f → D_lettersOf_4 k18 f (nI n) (nI a) = k18 (nI (n + s_len a)) := by
  intro f
  induction f with
  | zero => intro a n _ h; omega
  | succ f ih =>
    intro a n ha hf
    show (if nI a ≤ 0 then _ else _) = _
    by_cases h : a = 0
    · subst h
      rw [if_pos (by rw [nI_0]; exact Int32.le_refl _), s_len0, Nat.add_zero]
    · rw [if_neg (nI_nle (by omega) ha)]
      simp only [x_lS]
      rw [nI_1, show (27 : Int32) = nI 27 from rfl, nI_div ha (by omega), ih (a / 27) (n + 1) (by omega) (by rw [s_lenS h] at hf; omega), s_lenS h]
      congr 2
      omega
theorem x_Fv : x_F = 10000 := rfl
theorem s_len7 {a : Nat} (h : a < 2 ^ 31) : s_len a ≤ 7 := s_len_le 7 a (Nat.lt_of_lt_of_le h (by decide))
theorem p_lettersOf {a : Nat} (h : a < 2 ^ 31) : D_lettersOf (nI a) = some (nI (s_len a)) := by
  unfold D_lettersOf
  have := s_len7 h
  rw [← nI_0, p_lettersOf_4 _ x_F a 0 h (by rw [x_Fv]; omega), Nat.zero_add]
/-- part is a beginning of name -/
def s_pre (part name : Nat) : Bool := name / 27 ^ (s_len name - s_len part) == part
theorem p_isBeginning_7 (p : Nat) (hp : p < 2 ^ 31) (K : Int32 → Option Int32) : ∀ (f a k : Nat), a < 2 ^ 31 → k < 100 → k < f → D_isBeginning_7 (nI p) K f (nI a) (nI k) = K (nI (a / 27 ^ (k - s_len p))) := by
  intro f
  induction f with
  | zero => intro a k _ _ h; omega
  | succ f ih =>
    intro a k ha hk hf
    have h7 := s_len7 hp
    show x_b (D_lettersOf (nI p)) _ = _
    rw [p_lettersOf hp, x_bS]
    by_cases h : k ≤ s_len p
    · rw [if_pos (nI_le h (by omega)), Nat.sub_eq_zero_of_le h, Nat.pow_zero, Nat.div_one]
    · rw [if_neg (nI_ge (by omega) (by omega))]
      simp only [x_lS]
      obtain ⟨k, rfl⟩ : ∃ k', k = k' + 1 := ⟨k - 1, by omega⟩
      rw [show (27 : Int32) = nI 27 from rfl, nI_div ha (by omega), show nI (k + 1) + (-1 : Int32) = nI k from (Int32.sub_eq_add_neg _ 1).symm.trans (nI_pred k) , ih (a / 27) k (Nat.lt_of_le_of_lt (Nat.div_le_self _ _) ha) (by omega) (by omega), Nat.div_div_eq_div_mul, Nat.succ_sub (by omega), Nat.pow_succ, Nat.mul_comm]
theorem p_isBeginning {p a : Nat} (hp : p < 2 ^ 31) (ha : a < 2 ^ 31) : D_isBeginning (nI p) (nI a) = some (if s_pre p a = true then 1 else 0) := by
  unfold D_isBeginning
  have h7 := s_len7 ha
  rw [p_lettersOf ha, x_bS, p_isBeginning_7 p hp _ x_F a (s_len a) ha (by omega) (by rw [x_Fv]; omega)]
  unfold s_pre
  by_cases h : a / 27 ^ (s_len a - s_len p) = p
  · rw [if_pos (by rw [h]), if_pos (by simpa using h)]
  · rw [if_neg (fun e => h ((nI_eq (Nat.lt_of_le_of_lt (Nat.div_le_self _ _) ha) hp).mp e)), if_neg (by simpa using h)]
/-- loops over an index -/
def s_fold {α : Type} (st : Nat → α → α) : Nat → Nat → α → α
  | _, 0, a => a
  | k, m + 1, a => s_fold st (k + 1) m (st k a)
theorem x_for {α β : Type} (P : Nat → α → Prop) (L : Nat → α → Nat → β) (K : α → β) (st : Nat → α → α) (n : Nat) (h1 : ∀ f a, P n a → L (f + 1) a n = K a) (h2 : ∀ f a k, P k a → k < n → L (f + 1) a k = L f (st k a) (k + 1)) (h3 : ∀ a k, P k a → k < n → P (k + 1) (st k a)) : ∀ f k a, k ≤ n → P k a → n - k < f → L f a k = K (s_fold st k (n - k) a) := by
  intro f
  induction f with
  | zero => intro k a _ _ h; omega
  | succ f ih =>
    intro k a hk hP hf
    by_cases h : k < n
    · rw [h2 f a k hP h, ih (k + 1) (st k a) (by omega) (h3 a k hP h) (by omega), show n - k = (n - (k + 1)) + 1 by omega]
      rfl
    · have e : k = n := by omega
      subst e
      rw [h1 f a hP, Nat.sub_self]
      rfl
theorem s_foldP {α : Type} (P : Nat → α → Prop) (st : Nat → α → α) (n : Nat) (h3 : ∀ a k, P k a → k < n → P (k + 1) (st k a)) : ∀ m k a, P k a → k + m ≤ n → P (k + m) (s_fold st k m a) := by
  intro m
  induction m with
  | zero => intro k a h _; exact h
  | succ m ih =>
    intro k a h hk
    have := ih (k + 1) (st k a) (h3 a k h (by omega)) (by omega)
    rw [show k + 1 + m = k + (m + 1) by omega] at this
    exact this
/-- the first index with p, from k on; none -/
def s_find (p : Nat → Bool) : Nat → Nat → Option Nat
  | _, 0 => none
  | k, m + 1 => if p k then some k else s_find p (k + 1) m
theorem x_find {β : Type} (L : Nat → Nat → β) (K : β) (R : Nat → β) (p : Nat → Bool) (n : Nat) (h1 : ∀ f, L (f + 1) n = K) (h2 : ∀ f k, k < n → L (f + 1) k = if p k then R k else L f (k + 1)) : ∀ f k, k ≤ n → n - k < f → L f k = match s_find p k (n - k) with
    | some j => R j
    | none => K := by
  intro f
  induction f with
  | zero => intro k _ h; omega
  | succ f ih =>
    intro k hk hf
    by_cases h : k < n
    · rw [h2 f k h, show n - k = (n - (k + 1)) + 1 by omega]
      show _ = match (if p k then some k else s_find p (k + 1) (n - (k + 1))) with
        | some j => R j
        | none => K
      by_cases hp : p k = true
      · rw [if_pos hp, if_pos hp]
      · rw [if_neg hp, if_neg hp]
        exact ih (k + 1) (by omega) (by omega)
    · have e : k = n := by omega
      subst e
      rw [h1 f, Nat.sub_self]
      rfl
theorem s_find_some {p : Nat → Bool} : ∀ {m k j : Nat}, s_find p k m = some j → k ≤ j ∧ j < k + m ∧ p j = true ∧ ∀ i, k ≤ i → i < j → p i = false := by
  intro m
  induction m with
  | zero => intro k j h; cases h
  | succ m ih =>
    intro k j h
    unfold s_find at h
    by_cases hp : p k = true
    · rw [if_pos hp] at h
      cases h
      exact ⟨Nat.le_refl _, by omega, hp, fun i h1 h2 => by omega⟩
    · rw [if_neg hp] at h
      obtain ⟨h1, h2, h3, h4⟩ := ih h
      refine ⟨by omega, by omega, h3, fun i h5 h6 => ?_⟩
      by_cases e : i = k
      · rw [e]; simpa using hp
      · exact h4 i (by omega) h6
theorem s_find_none {p : Nat → Bool} : ∀ {m k : Nat}, s_find p k m = none → ∀ i, k ≤ i → i < k + m → p i = false := by
  intro m
  induction m with
  | zero => intro k _ i h1 h2; omega
  | succ m ih =>
    intro k h i h1 h2
    unfold s_find at h
    by_cases hp : p k = true
    · rw [if_pos hp] at h; cases h
    · rw [if_neg hp] at h
      by_cases e : i = k
      · rw [e]; simpa using hp
      · exact ih h i (by omega) (by omega)
