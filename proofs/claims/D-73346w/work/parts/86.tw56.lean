/-! THE TWIN's LAW, 56: a name's letters as its number -/
set_option maxRecDepth 100000
set_option maxHeartbeats 1000000
theorem lN_or {W b : Nat} (hW : W < 2 ^ 40) (hb : b < 256) : ((Int64.ofNat W) <<< (((8 : Int32)).toInt64 &&& 63)) ||| (nI b).toInt64 = Int64.ofNat (256 * W + b) := by
  have e8 : ((8 : Int32)).toInt64 &&& 63 = 8 := by decide
  have eb : (nI b).toInt64 = Int64.ofNat b := by
    have : ∀ b : Fin 256, (nI b.1).toInt64 = Int64.ofNat b.1 := by decide
    exact this ⟨b, hb⟩
  rw [e8, eb]
  apply Int64.toBitVec_inj.mp
  rw [Int64.toBitVec_or, Int64.toBitVec_shiftLeft, show (8 : Int64).toBitVec.smod 64 = 8#64 by decide, BitVec.shiftLeft_eq']
  apply BitVec.eq_of_toNat_eq
  rw [BitVec.toNat_or, BitVec.toNat_shiftLeft]
  show ((BitVec.ofNat 64 W).toNat <<< 8) % 2 ^ 64 ||| (BitVec.ofNat 64 b).toNat = (BitVec.ofNat 64 (256 * W + b)).toNat
  rw [BitVec.toNat_ofNat, BitVec.toNat_ofNat, BitVec.toNat_ofNat, Nat.mod_eq_of_lt (show W < 2 ^ 64 by omega), Nat.mod_eq_of_lt (show b < 2 ^ 64 by omega), Nat.mod_eq_of_lt (show 256 * W + b < 2 ^ 64 by omega)]
  rw [Nat.mod_eq_of_lt (show W <<< 8 < 2 ^ 64 by rw [Nat.shiftLeft_eq]; omega), ← Nat.shiftLeft_add_eq_or_of_lt (show b < 2 ^ 8 by omega), Nat.shiftLeft_eq]
  omega
theorem lN_byte {W sh : Nat} (hW : W < 2 ^ 40) (hs : sh < 32) : (((Int64.ofNat W) >>> ((nI sh).toInt64 &&& 63)) &&& 255).toInt32 = nI (W / 2 ^ sh % 256) := by
  have es : (nI sh).toInt64 &&& 63 = Int64.ofNat sh := by
    have : ∀ b : Fin 32, (nI b.1).toInt64 &&& 63 = Int64.ofNat b.1 := by decide
    exact this ⟨sh, hs⟩
  rw [es]
  apply Int32.toBitVec_inj.mp
  have em : ∀ b : Fin 32, ((Int64.ofNat b.1).toBitVec.smod 64).toNat = b.1 := by decide
  rw [Int64.toBitVec_toInt32, Int64.toBitVec_and, Int64.toBitVec_shiftRight, BitVec.sshiftRight_eq', em ⟨sh, hs⟩]
  have hmsb : (Int64.ofNat W).toBitVec.msb = false := by
    show (BitVec.ofNat 64 W).msb = false
    rw [BitVec.msb_eq_false_iff_two_mul_lt, BitVec.toNat_ofNat, Nat.mod_eq_of_lt (show W < 2 ^ 64 by omega)]
    omega
  rw [BitVec.sshiftRight_eq_of_msb_false hmsb]
  apply BitVec.eq_of_toNat_eq
  rw [BitVec.signExtend_eq_setWidth_of_le _ (by omega), BitVec.toNat_setWidth, BitVec.toNat_and, BitVec.toNat_ushiftRight]
  show ((BitVec.ofNat 64 W).toNat >>> sh &&& (BitVec.ofNat 64 255).toNat) % 2 ^ 32 = (BitVec.ofNat 32 (W / 2 ^ sh % 256)).toNat
  rw [BitVec.toNat_ofNat, BitVec.toNat_ofNat, BitVec.toNat_ofNat, Nat.mod_eq_of_lt (show W < 2 ^ 64 by omega), show (255 % 2 ^ 64 : Nat) = 2 ^ 8 - 1 by decide, Nat.and_two_pow_sub_one_eq_mod, Nat.shiftRight_eq_div_pow]
theorem s_num1_N {W sh a : Nat} (hW : W < 2 ^ 40) (hs : sh < 32) (hc : W / 2 ^ sh % 256 = 0 ∨ 97 ≤ W / 2 ^ sh % 256) : s_num1 (Int64.ofNat W) (nI sh) (nI a) = nI (if W / 2 ^ sh % 256 = 0 then a else 27 * a + (W / 2 ^ sh % 256 - 96)) := by
  unfold s_num1
  rw [lN_byte hW hs]
  have hlt : W / 2 ^ sh % 256 < 256 := Nat.mod_lt _ (by omega)
  generalize W / 2 ^ sh % 256 = c at hc hlt ⊢
  by_cases c0 : c = 0
  · subst c0
    rw [if_pos nI_0, if_pos rfl]
  · rw [if_neg (nI_ne0 (by omega) (by omega)), if_neg c0, show (27 : Int32) = nI 27 from rfl, nI_mul, nI_add, show (96 : Int32) = nI 96 from rfl, nI_sub (by omega)]
    congr 1
    omega
theorem s_vn_step {a d : Nat} (ha : a = 0 ∨ s_vn a) (hl : s_len a ≤ 3) (hd : 1 ≤ d ∧ d ≤ 26) : s_vn (27 * a + d) ∧ s_len (27 * a + d) = s_len a + 1 := by
  have h27 : a < 27 ^ 3 := s_len_lt 3 hl
  have hlt : 27 * a + d < 27 ^ 4 := by
    have : (27 : Nat) ^ 4 = 27 * 27 ^ 3 := by decide
    omega
  have hlen : s_len (27 * a + d) = s_len a + 1 := by
    rw [s_lenS (by omega), show (27 * a + d) / 27 = a by omega]
  refine ⟨⟨by omega, hlt, fun x hx => ?_⟩, hlen⟩
  rw [s_letS (by omega), show (27 * a + d) / 27 = a by omega, show (27 * a + d) % 27 = d by omega] at hx
  rcases List.mem_append.mp hx with q | q
  · rcases ha with ha | ha
    · rw [ha, s_let0] at q; cases q
    · exact ha.2.2 x q
  · rw [List.mem_singleton.mp q]; omega
theorem s_span_all {P : Int32 → Bool} {B : Nat → Int32} : ∀ m r j, r ≤ j → j < s_span P B m r → P (B j) = true := by
  intro m
  induction m with
  | zero => intro r j h1 h2; exact absurd h2 (by show ¬ j < r; omega)
  | succ m ih =>
    intro r j h1 h2
    unfold s_span at h2
    by_cases c : P (B r) = true
    · rw [if_pos c] at h2
      by_cases e : j = r
      · rw [e]; exact c
      · exact ih (r + 1) j (by omega) h2
    · rw [if_neg c] at h2; omega
/-- a name's number: its letters by 27s -/
def s_codeB (b : Nat → Nat) : Nat → Nat → Nat → Nat
  | 0, _, a => a
  | m + 1, r, a => s_codeB b m (r + 1) (27 * a + (b r - 96))
theorem s_numOf_pack {B : Nat → Int32} {p n : Nat} (hn : 1 ≤ n ∧ n ≤ 4) (hb : ∀ j, p ≤ j → j < p + n → B j = nI (v_ (B j)) ∧ 97 ≤ v_ (B j) ∧ v_ (B j) ≤ 122) : s_numOf (s_pack B n p 0) = nI (s_codeB (fun j => v_ (B j)) n p 0) ∧ s_vn (s_codeB (fun j => v_ (B j)) n p 0) := by
  have h0 : (0 : Int64) = Int64.ofNat 0 := rfl
  have st : ∀ j W, p ≤ j → j < p + n → W < 2 ^ 24 → ((Int64.ofNat W) <<< (((8 : Int32)).toInt64 &&& 63)) ||| (B j).toInt64 = Int64.ofNat (256 * W + v_ (B j)) := by
    intro j W h1 h2 h3
    obtain ⟨e1, e2, e3⟩ := hb j h1 h2
    conv => lhs; rw [e1]
    exact lN_or (by omega) (by omega)
  have fin : ∀ W : Nat, W < 2 ^ 32 → ∀ c3 c2 c1 c0 : Nat, W / 2 ^ 24 % 256 = c3 → W / 2 ^ 16 % 256 = c2 → W / 2 ^ 8 % 256 = c1 → W / 2 ^ 0 % 256 = c0 → (c3 = 0 ∨ 97 ≤ c3) → (c2 = 0 ∨ 97 ≤ c2) → (c1 = 0 ∨ 97 ≤ c1) → (c0 = 0 ∨ 97 ≤ c0) → s_numOf (Int64.ofNat W) = nI (if c0 = 0 then (if c1 = 0 then (if c2 = 0 then (if c3 = 0 then 0 else 27 * 0 + (c3 - 96)) else 27 * (if c3 = 0 then 0 else 27 * 0 + (c3 - 96)) + (c2 - 96)) else 27 * (if c2 = 0 then (if c3 = 0 then 0 else 27 * 0 + (c3 - 96)) else 27 * (if c3 = 0 then 0 else 27 * 0 + (c3 - 96)) + (c2 - 96)) + (c1 - 96)) else 27 * (if c1 = 0 then (if c2 = 0 then (if c3 = 0 then 0 else 27 * 0 + (c3 - 96)) else 27 * (if c3 = 0 then 0 else 27 * 0 + (c3 - 96)) + (c2 - 96)) else 27 * (if c2 = 0 then (if c3 = 0 then 0 else 27 * 0 + (c3 - 96)) else 27 * (if c3 = 0 then 0 else 27 * 0 + (c3 - 96)) + (c2 - 96)) + (c1 - 96)) + (c0 - 96)) := by
    intro W hW c3 c2 c1 c0 e3 e2 e1 e0 d3 d2 d1 d0
    unfold s_numOf
    show s_num1 _ (nI 0) (s_num1 _ (nI 8) (s_num1 _ (nI 16) (s_num1 _ (nI 24) (nI 0)))) = _
    rw [s_num1_N (sh := 24) (by omega) (by omega) (by rw [e3]; exact d3), e3, s_num1_N (sh := 16) (by omega) (by omega) (by rw [e2]; exact d2), e2, s_num1_N (sh := 8) (by omega) (by omega) (by rw [e1]; exact d1), e1, s_num1_N (sh := 0) (by omega) (by omega) (by rw [e0]; exact d0), e0]
  have z : s_len 0 = 0 := s_len0
  rcases (show n = 1 ∨ n = 2 ∨ n = 3 ∨ n = 4 by omega) with rfl | rfl | rfl | rfl
  · obtain ⟨-, a1, a2⟩ := hb p (by omega) (by omega)
    show s_numOf (((0 : Int64) <<< _) ||| (B p).toInt64) = nI (27 * 0 + (v_ (B p) - 96)) ∧ s_vn (27 * 0 + (v_ (B p) - 96))
    rw [h0, st p 0 (by omega) (by omega) (by omega)]
    generalize v_ (B p) = b0 at a1 a2 ⊢
    rw [fin (256 * 0 + b0) (by omega) 0 0 0 b0 (by omega) (by omega) (by omega) (by omega) (Or.inl rfl) (Or.inl rfl) (Or.inl rfl) (Or.inr a1)]
    rw [if_neg (show ¬ b0 = 0 by omega)]
    exact ⟨rfl, (s_vn_step (Or.inl rfl) (by omega) (by omega)).1⟩
  · obtain ⟨-, a1, a2⟩ := hb p (by omega) (by omega)
    obtain ⟨-, a3, a4⟩ := hb (p + 1) (by omega) (by omega)
    show s_numOf (((((0 : Int64) <<< _) ||| (B p).toInt64) <<< _) ||| (B (p + 1)).toInt64) = nI (27 * (27 * 0 + (v_ (B p) - 96)) + (v_ (B (p + 1)) - 96)) ∧ s_vn (27 * (27 * 0 + (v_ (B p) - 96)) + (v_ (B (p + 1)) - 96))
    rw [h0, st p 0 (by omega) (by omega) (by omega), st (p + 1) _ (by omega) (by omega) (by omega)]
    generalize v_ (B p) = b0 at a1 a2 ⊢
    generalize v_ (B (p + 1)) = b1 at a3 a4 ⊢
    rw [fin (256 * (256 * 0 + b0) + b1) (by omega) 0 0 b0 b1 (by omega) (by omega) (by omega) (by omega) (Or.inl rfl) (Or.inl rfl) (Or.inr a1) (Or.inr a3)]
    rw [if_neg (show ¬ b1 = 0 by omega), if_neg (show ¬ b0 = 0 by omega)]
    obtain ⟨s1, s2⟩ := s_vn_step (a := 0) (d := b0 - 96) (Or.inl rfl) (by omega) (by omega)
    exact ⟨rfl, (s_vn_step (Or.inr s1) (by omega) (by omega)).1⟩
  · obtain ⟨-, a1, a2⟩ := hb p (by omega) (by omega)
    obtain ⟨-, a3, a4⟩ := hb (p + 1) (by omega) (by omega)
    obtain ⟨-, a5, a6⟩ := hb (p + 1 + 1) (by omega) (by omega)
    show s_numOf (((((((0 : Int64) <<< _) ||| (B p).toInt64) <<< _) ||| (B (p + 1)).toInt64) <<< _) ||| (B (p + 1 + 1)).toInt64) = nI (27 * (27 * (27 * 0 + (v_ (B p) - 96)) + (v_ (B (p + 1)) - 96)) + (v_ (B (p + 1 + 1)) - 96)) ∧ s_vn (27 * (27 * (27 * 0 + (v_ (B p) - 96)) + (v_ (B (p + 1)) - 96)) + (v_ (B (p + 1 + 1)) - 96))
    rw [h0, st p 0 (by omega) (by omega) (by omega), st (p + 1) _ (by omega) (by omega) (by omega), st (p + 1 + 1) _ (by omega) (by omega) (by omega)]
    generalize v_ (B p) = b0 at a1 a2 ⊢
    generalize v_ (B (p + 1)) = b1 at a3 a4 ⊢
    generalize v_ (B (p + 1 + 1)) = b2 at a5 a6 ⊢
    rw [fin (256 * (256 * (256 * 0 + b0) + b1) + b2) (by omega) 0 b0 b1 b2 (by omega) (by omega) (by omega) (by omega) (Or.inl rfl) (Or.inr a1) (Or.inr a3) (Or.inr a5)]
    rw [if_neg (show ¬ b2 = 0 by omega), if_neg (show ¬ b1 = 0 by omega), if_neg (show ¬ b0 = 0 by omega)]
    obtain ⟨s1, s2⟩ := s_vn_step (a := 0) (d := b0 - 96) (Or.inl rfl) (by omega) (by omega)
    obtain ⟨s3, s4⟩ := s_vn_step (d := b1 - 96) (Or.inr s1) (by omega) (by omega)
    exact ⟨rfl, (s_vn_step (Or.inr s3) (by omega) (by omega)).1⟩
  · obtain ⟨-, a1, a2⟩ := hb p (by omega) (by omega)
    obtain ⟨-, a3, a4⟩ := hb (p + 1) (by omega) (by omega)
    obtain ⟨-, a5, a6⟩ := hb (p + 1 + 1) (by omega) (by omega)
    obtain ⟨-, a7, a8⟩ := hb (p + 1 + 1 + 1) (by omega) (by omega)
    show s_numOf (((((((((0 : Int64) <<< _) ||| (B p).toInt64) <<< _) ||| (B (p + 1)).toInt64) <<< _) ||| (B (p + 1 + 1)).toInt64) <<< _) ||| (B (p + 1 + 1 + 1)).toInt64) = nI (27 * (27 * (27 * (27 * 0 + (v_ (B p) - 96)) + (v_ (B (p + 1)) - 96)) + (v_ (B (p + 1 + 1)) - 96)) + (v_ (B (p + 1 + 1 + 1)) - 96)) ∧ s_vn (27 * (27 * (27 * (27 * 0 + (v_ (B p) - 96)) + (v_ (B (p + 1)) - 96)) + (v_ (B (p + 1 + 1)) - 96)) + (v_ (B (p + 1 + 1 + 1)) - 96))
    rw [h0, st p 0 (by omega) (by omega) (by omega), st (p + 1) _ (by omega) (by omega) (by omega), st (p + 1 + 1) _ (by omega) (by omega) (by omega), st (p + 1 + 1 + 1) _ (by omega) (by omega) (by omega)]
    generalize v_ (B p) = b0 at a1 a2 ⊢
    generalize v_ (B (p + 1)) = b1 at a3 a4 ⊢
    generalize v_ (B (p + 1 + 1)) = b2 at a5 a6 ⊢
    generalize v_ (B (p + 1 + 1 + 1)) = b3 at a7 a8 ⊢
    rw [fin (256 * (256 * (256 * (256 * 0 + b0) + b1) + b2) + b3) (by omega) b0 b1 b2 b3 (by omega) (by omega) (by omega) (by omega) (Or.inr a1) (Or.inr a3) (Or.inr a5) (Or.inr a7)]
    rw [if_neg (show ¬ b3 = 0 by omega), if_neg (show ¬ b2 = 0 by omega), if_neg (show ¬ b1 = 0 by omega), if_neg (show ¬ b0 = 0 by omega)]
    obtain ⟨s1, s2⟩ := s_vn_step (a := 0) (d := b0 - 96) (Or.inl rfl) (by omega) (by omega)
    obtain ⟨s3, s4⟩ := s_vn_step (d := b1 - 96) (Or.inr s1) (by omega) (by omega)
    obtain ⟨s5, s6⟩ := s_vn_step (d := b2 - 96) (Or.inr s3) (by omega) (by omega)
    exact ⟨rfl, (s_vn_step (Or.inr s5) (by omega) (by omega)).1⟩
/-- a word of 1 to 4 letters is a name -/
theorem s_tok_name {B : Nat → Int32} {r : Nat} (hs : k_sort (s_tok B r) = 2) (hl : k_next (s_tok B r) - k_at (s_tok B r) ≤ 4) : s_wn (s_numOf (k_word (s_tok B r))) ∧ k_at (s_tok B r) < k_next (s_tok B r) ∧ s_numOf (k_word (s_tok B r)) = nI (s_codeB (fun j => v_ (B j)) (k_next (s_tok B r) - k_at (s_tok B r)) (k_at (s_tok B r)) 0) := by
  unfold s_tok at hs hl ⊢
  dsimp only at hs hl ⊢
  generalize s_span s_ws B 601 r = p at hs hl ⊢
  by_cases ca : s_al (B p) = true
  · rw [if_pos ca] at hs hl ⊢
    have hsp : s_span s_al B 601 p = s_span s_al B 600 (p + 1) := by
      show (if s_al (B p) = true then _ else _) = _
      rw [if_pos ca]
    have h4 := s_span_le (B := B) s_al 600 (p + 1)
    have hall := s_span_all (P := s_al) (B := B) 601 p
    rw [← hsp] at h4
    generalize s_span s_al B 601 p = e at h4 hall hs hl ⊢
    have hl' : e - p ≤ 4 := hl
    have key := s_numOf_pack (B := B) (p := p) (n := e - p) (by omega) (fun j h1 h2 => by
      have := of_decide_eq_true (hall j h1 (by omega))
      exact s_between (a := 97) (b := 122) rfl rfl (by omega) (by omega) this)
    show s_wn (s_numOf (if e - p ≤ 8 then s_pack B (e - p) p 0 else 0)) ∧ p < e ∧ s_numOf (if e - p ≤ 8 then s_pack B (e - p) p 0 else 0) = nI (s_codeB (fun j => v_ (B j)) (e - p) p 0)
    rw [if_pos (show e - p ≤ 8 by omega), key.1]
    have hlt := key.2.2.1
    have hv : v_ (nI (s_codeB (fun j => v_ (B j)) (e - p) p 0)) = s_codeB (fun j => v_ (B j)) (e - p) p 0 := v_nI (by omega)
    refine ⟨⟨by rw [hv], by rw [hv]; exact key.2⟩, by omega, rfl⟩
  · rw [if_neg ca] at hs
    exfalso
    revert hs
    by_cases cd : s_dg (B p) = true
    · rw [if_pos cd]
      show (if s_span s_dg B 601 p - p ≤ 2 then (3 : Int32) else 1) = 2 → False
      split <;> decide
    · rw [if_neg cd]
      by_cases cn : B p < 0
      · rw [if_pos cn]; show (0 : Int32) = 2 → False; decide
      · rw [if_neg cn]
        show (if B p = 59 then (4 : Int32) else 1) = 2 → False
        split <;> decide
