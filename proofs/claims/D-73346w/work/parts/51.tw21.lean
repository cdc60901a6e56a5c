/-! THE TWIN's LAW, 21: bits -/
set_option maxRecDepth 100000
theorem i32_and31 {k : Nat} (h : k < 32) : nI k &&& 31 = nI k := by
  have : ∀ k : Fin 32, nI k.1 &&& 31 = nI k.1 := by decide
  exact this ⟨k, h⟩
theorem i64_and63 {k : Nat} (h : k < 64) : (nI k).toInt64 &&& 63 = Int64.ofNat k := by
  have : ∀ k : Fin 64, (nI k.1).toInt64 &&& 63 = Int64.ofNat k.1 := by decide
  exact this ⟨k, h⟩
theorem bv_and1 {n : Nat} (x : BitVec (n + 1)) : decide (x &&& 1#(n+1) = 1#(n+1)) = x.getLsbD 0 := by
  by_cases h : x.getLsbD 0 = true
  · rw [h]
    apply decide_eq_true
    apply BitVec.eq_of_getLsbD_eq
    intro i hi
    rw [BitVec.getLsbD_and, BitVec.getLsbD_one]
    by_cases hz : i = 0
    · subst hz; simp [h]
    · simp [hz]
  · have h' : x.getLsbD 0 = false := by simpa using h
    rw [h']
    apply decide_eq_false
    intro e
    have := congrArg (fun b => b.getLsbD 0) e
    rw [BitVec.getLsbD_and, h'] at this
    simp at this
theorem s_bit_v (x : Int32) {k : Nat} (h : k < 32) : s_bit x (nI k) = x.toBitVec.getLsbD k := by
  have e : s_bit x (nI k) = decide ((x >>> nI k).toBitVec &&& 1#32 = 1#32) := by
    unfold s_bit
    rw [i32_and31 h]
    apply decide_eq_decide.mpr
    constructor
    · intro q; exact congrArg Int32.toBitVec q
    · intro q; exact Int32.toBitVec_inj.mp q
  rw [e, bv_and1]
  have q : ∀ k : Fin 32, ((nI k.1).toBitVec.smod 32).toNat = k.1 := by decide
  rw [Int32.toBitVec_shiftRight, BitVec.sshiftRight_eq', q ⟨k, h⟩, BitVec.getLsbD_sshiftRight]
  simp [h]
theorem s_hasL_v (x : Int64) {k : Nat} (h : k < 64) : s_hasL x (nI k) = x.toBitVec.getLsbD k := by
  have e : s_hasL x (nI k) = decide ((x >>> Int64.ofNat k).toBitVec &&& 1#64 = 1#64) := by
    unfold s_hasL
    rw [i64_and63 h]
    apply decide_eq_decide.mpr
    constructor
    · intro q; exact congrArg Int64.toBitVec q
    · intro q; exact Int64.toBitVec_inj.mp q
  rw [e, bv_and1]
  have q : ∀ k : Fin 64, ((Int64.ofNat k.1).toBitVec.smod 64).toNat = k.1 := by decide
  rw [Int64.toBitVec_shiftRight, BitVec.sshiftRight_eq', q ⟨k, h⟩, BitVec.getLsbD_sshiftRight]
  simp [h]
theorem s_bit_or (x y : Int32) {k : Nat} (h : k < 32) : s_bit (x ||| y) (nI k) = (s_bit x (nI k) || s_bit y (nI k)) := by
  rw [s_bit_v _ h, s_bit_v _ h, s_bit_v _ h, Int32.toBitVec_or, BitVec.getLsbD_or]
theorem s_bit_1 {t k : Nat} (ht : t < 32) (h : k < 32) : s_bit ((1 : Int32) <<< (nI t &&& 31)) (nI k) = decide (k = t) := by
  have : ∀ t k : Fin 32, s_bit ((1 : Int32) <<< (nI t.1 &&& 31)) (nI k.1) = decide (k.1 = t.1) := by decide
  exact this ⟨t, ht⟩ ⟨k, h⟩
theorem s_bit_0 {k : Nat} (h : k < 32) : s_bit 0 (nI k) = false := by
  rw [s_bit_v _ h]
  exact BitVec.getLsbD_zero
theorem s_hasL_or (x y : Int64) {k : Nat} (h : k < 64) : s_hasL (x ||| y) (nI k) = (s_hasL x (nI k) || s_hasL y (nI k)) := by
  rw [s_hasL_v _ h, s_hasL_v _ h, s_hasL_v _ h, Int64.toBitVec_or, BitVec.getLsbD_or]
theorem s_hasL_1 {t k : Nat} (ht : t < 64) (h : k < 64) : s_hasL ((1 : Int64) <<< ((nI t).toInt64 &&& 63)) (nI k) = decide (k = t) := by
  rw [i64_and63 ht, s_hasL_v _ h, Int64.toBitVec_shiftLeft, BitVec.shiftLeft_eq']
  have q : ∀ k : Fin 64, ((Int64.ofNat k.1).toBitVec.smod 64).toNat = k.1 := by decide
  rw [q ⟨t, ht⟩, BitVec.getLsbD_shiftLeft]
  show (decide (k < 64) && !decide (k < t) && (1#64).getLsbD (k - t)) = _
  rw [BitVec.getLsbD_one]
  by_cases e : k = t
  · subst e; simp [h]
  · by_cases e2 : k < t
    · simp [e, e2]
    · have : ¬ k - t = 0 := by omega
      simp [e, this]
theorem s_hasL_0 {k : Nat} (h : k < 64) : s_hasL 0 (nI k) = false := by
  rw [s_hasL_v _ h]
  exact BitVec.getLsbD_zero

def s_b1 (x : Int32) (j : Nat) : Nat := if s_bit x (nI j) = true then 1 else 0
def s_pop (x : Int32) : Nat := s_b1 x 0 + s_b1 x 1 + s_b1 x 2 + s_b1 x 3 + s_b1 x 4 + s_b1 x 5
theorem s_b1_le (x : Int32) (j : Nat) : s_b1 x j ≤ 1 := by
  unfold s_b1
  split <;> omega
theorem s_b1_or (x : Int32) {t j : Nat} (ht : t < 32) (hj : j < 32) : s_b1 (x ||| ((1 : Int32) <<< (nI t &&& 31))) j = if j = t then 1 else s_b1 x j := by
  unfold s_b1
  rw [s_bit_or _ _ hj, s_bit_1 ht hj]
  by_cases e : j = t
  · simp [e]
  · simp [e]
theorem s_pop_or_le (x : Int32) {t : Nat} (ht : t < 6) : s_pop (x ||| ((1 : Int32) <<< (nI t &&& 31))) ≤ s_pop x + 1 := by
  unfold s_pop
  have h0 := s_b1_le x 0
  have h1 := s_b1_le x 1
  have h2 := s_b1_le x 2
  have h3 := s_b1_le x 3
  have h4 := s_b1_le x 4
  have h5 := s_b1_le x 5
  simp only [s_b1_or x (show t < 32 by omega) (show 0 < 32 by omega), s_b1_or x (show t < 32 by omega) (show 1 < 32 by omega), s_b1_or x (show t < 32 by omega) (show 2 < 32 by omega), s_b1_or x (show t < 32 by omega) (show 3 < 32 by omega), s_b1_or x (show t < 32 by omega) (show 4 < 32 by omega), s_b1_or x (show t < 32 by omega) (show 5 < 32 by omega)]
  rcases (show t = 0 ∨ t = 1 ∨ t = 2 ∨ t = 3 ∨ t = 4 ∨ t = 5 by omega) with rfl | rfl | rfl | rfl | rfl | rfl <;> simp <;> omega
theorem s_pop_or (x : Int32) {t : Nat} (ht : t < 6) (hb : s_bit x (nI t) = false) : s_pop (x ||| ((1 : Int32) <<< (nI t &&& 31))) = s_pop x + 1 := by
  unfold s_pop
  have hz : s_b1 x t = 0 := by unfold s_b1; rw [hb]; rfl
  simp only [s_b1_or x (show t < 32 by omega) (show 0 < 32 by omega), s_b1_or x (show t < 32 by omega) (show 1 < 32 by omega), s_b1_or x (show t < 32 by omega) (show 2 < 32 by omega), s_b1_or x (show t < 32 by omega) (show 3 < 32 by omega), s_b1_or x (show t < 32 by omega) (show 4 < 32 by omega), s_b1_or x (show t < 32 by omega) (show 5 < 32 by omega)]
  rcases (show t = 0 ∨ t = 1 ∨ t = 2 ∨ t = 3 ∨ t = 4 ∨ t = 5 by omega) with rfl | rfl | rfl | rfl | rfl | rfl <;> simp <;> omega
theorem s_pop_le5 (x : Int32) {n : Nat} (hn : n < 6) (hb : s_bit x (nI n) = false) : s_pop x ≤ 5 := by
  unfold s_pop
  have hz : s_b1 x n = 0 := by unfold s_b1; rw [hb]; rfl
  have h0 := s_b1_le x 0
  have h1 := s_b1_le x 1
  have h2 := s_b1_le x 2
  have h3 := s_b1_le x 3
  have h4 := s_b1_le x 4
  have h5 := s_b1_le x 5
  rcases (show n = 0 ∨ n = 1 ∨ n = 2 ∨ n = 3 ∨ n = 4 ∨ n = 5 by omega) with rfl | rfl | rfl | rfl | rfl | rfl <;> omega
theorem s_pop_0 : s_pop 0 = 0 := by decide
/-- how many of the first K nonces are dead -/
def s_dc (K : Nat) (d : Int64) : Nat := (List.range K).countP (fun k => s_hasL d (nI k))
theorem s_dc_mono {K : Nat} (d d' : Int64) (h : ∀ k, k < K → s_hasL d (nI k) = true → s_hasL d' (nI k) = true) : s_dc K d ≤ s_dc K d' := by
  unfold s_dc
  induction K with
  | zero => simp
  | succ K ih =>
    rw [List.range_succ, List.countP_append, List.countP_append]
    have := ih (fun k hk => h k (by omega))
    have h2 := h K (by omega)
    simp only [List.countP_cons, List.countP_nil]
    by_cases c : s_hasL d (nI K) = true
    · rw [h2 c, c]; simp; omega
    · simp [c]; omega
theorem s_dc_lt {K k0 : Nat} (d d' : Int64) (h : ∀ k, k < K → s_hasL d (nI k) = true → s_hasL d' (nI k) = true) (hk : k0 < K) (h0 : s_hasL d (nI k0) = false) (h1 : s_hasL d' (nI k0) = true) : s_dc K d + 1 ≤ s_dc K d' := by
  unfold s_dc
  induction K with
  | zero => omega
  | succ K ih =>
    rw [List.range_succ, List.countP_append, List.countP_append]
    have h2 := h K (by omega)
    simp only [List.countP_cons, List.countP_nil]
    by_cases e : k0 = K
    · subst e
      have hm := s_dc_mono (K := k0) d d' (fun k hk => h k (by omega))
      unfold s_dc at hm
      rw [h0, h1]; simp; omega
    · have := ih (fun k hk => h k (by omega)) (by omega)
      by_cases c : s_hasL d (nI K) = true
      · rw [h2 c, c]; simp; omega
      · simp [c]; omega
theorem s_dc_le {K K' : Nat} (d : Int64) (h : K ≤ K') : s_dc K d ≤ s_dc K' d := by
  unfold s_dc
  induction K' with
  | zero => rw [show K = 0 by omega]; exact Nat.le_refl _
  | succ K' ih =>
    by_cases e : K = K' + 1
    · rw [e]; exact Nat.le_refl _
    · rw [List.range_succ, List.countP_append]
      have := ih (by omega)
      omega
/-- unlike numbers below K of which none is marked: they and the marked ones are K at most -/
theorem s_pigeon (p : Nat → Bool) : ∀ (K : Nat) (l : List Nat), l.Nodup → (∀ x ∈ l, x < K ∧ p x = false) → l.length + (List.range K).countP p ≤ K := by
  intro K
  induction K with
  | zero =>
    intro l _ h
    cases l with
    | nil => simp
    | cons a l => have := (h a (by simp)).1; omega
  | succ K ih =>
    intro l hn h
    rw [List.range_succ, List.countP_append]
    simp only [List.countP_cons, List.countP_nil]
    by_cases c : K ∈ l
    · have hp := (h K c).2
      have h1 := ih (l.erase K) (hn.erase K) (fun x hx => by
        have hx' := (List.Nodup.mem_erase_iff hn).mp hx
        have := h x hx'.2
        exact ⟨by omega, this.2⟩)
      rw [List.length_erase_of_mem c] at h1
      have hpos := List.length_pos_of_mem c
      rw [hp]
      simp
      omega
    · have h1 := ih l hn (fun x hx => by
        have := h x hx
        have : x ≠ K := fun e => c (e ▸ hx)
        exact ⟨by omega, (h x hx).2⟩)
      split <;> omega
