/-! THE COMPONENT's LAW, 49: the bits of a long are counted -/
set_option maxRecDepth 100000
set_option maxHeartbeats 400000
set_option linter.unusedVariables false
/-- the bits of a byte -/
def b_p (d : Nat) : Nat := d % 2 + d / 2 % 2 + d / 4 % 2 + d / 8 % 2 + d / 16 % 2 + d / 32 % 2 + d / 64 % 2 + d / 128 % 2
def b_m (c : Nat) : Nat → Nat
  | 0 => 0
  | k + 1 => c + 256 * b_m c k
def b_1 (k x : Nat) : Nat := x - ((x / 2) &&& b_m 0x55 k)
def b_2 (k x : Nat) : Nat := (x &&& b_m 0x33 k) + ((x / 4) &&& b_m 0x33 k)
def b_3 (k x : Nat) : Nat := (x + x / 16) &&& b_m 0x0f k
theorem b_and {a b c d : Nat} (ha : a < 256) (hc : c < 256) : (a + 256 * b) &&& (c + 256 * d) = (a &&& c) + 256 * (b &&& d) := by
  have h1 := Nat.and_mod_two_pow (a := a + 256 * b) (b := c + 256 * d) (n := 8)
  have h2 := Nat.and_div_two_pow (a := a + 256 * b) (b := c + 256 * d) (n := 8)
  have e1 : (a + 256 * b) % 2 ^ 8 = a := by omega
  have e2 : (c + 256 * d) % 2 ^ 8 = c := by omega
  have e3 : (a + 256 * b) / 2 ^ 8 = b := by omega
  have e4 : (c + 256 * d) / 2 ^ 8 = d := by omega
  rw [e1, e2] at h1
  rw [e3, e4] at h2
  omega
theorem b_1S {d m k : Nat} (hd : d < 256) : b_1 (k + 1) (d + 256 * m) = (d - ((d / 2) &&& 0x55)) + 256 * b_1 k m := by
  unfold b_1
  have e : (d + 256 * m) / 2 = (d / 2 + 128 * (m % 2)) + 256 * (m / 2) := by omega
  have H : ∀ d : Fin 256, ∀ c : Fin 2, (d.1 / 2 + 128 * c.1) &&& 0x55 = (d.1 / 2) &&& 0x55 := by decide
  have e2 := H ⟨d, hd⟩ ⟨m % 2, by omega⟩
  have h1 : (d / 2) &&& 0x55 ≤ d / 2 := Nat.and_le_left
  have h2 : (m / 2) &&& b_m 0x55 k ≤ m / 2 := Nat.and_le_left
  rw [e]
  show d + 256 * m - ((d / 2 + 128 * (m % 2) + 256 * (m / 2)) &&& (0x55 + 256 * b_m 0x55 k)) = _
  rw [b_and (by omega) (by omega)]
  have e3 : (d / 2 + 128 * (m % 2)) &&& 0x55 = (d / 2) &&& 0x55 := e2
  rw [e3]
  omega
theorem b_2S {d m k : Nat} (hd : d < 256) : b_2 (k + 1) (d + 256 * m) = ((d &&& 0x33) + ((d / 4) &&& 0x33)) + 256 * b_2 k m := by
  unfold b_2
  have e : (d + 256 * m) / 4 = (d / 4 + 64 * (m % 4)) + 256 * (m / 4) := by omega
  have H : ∀ d : Fin 256, ∀ c : Fin 4, (d.1 / 4 + 64 * c.1) &&& 0x33 = (d.1 / 4) &&& 0x33 := by decide
  have e3 : (d / 4 + 64 * (m % 4)) &&& 0x33 = (d / 4) &&& 0x33 := H ⟨d, hd⟩ ⟨m % 4, by omega⟩
  rw [e]
  show ((d + 256 * m) &&& (0x33 + 256 * b_m 0x33 k)) + ((d / 4 + 64 * (m % 4) + 256 * (m / 4)) &&& (0x33 + 256 * b_m 0x33 k)) = _
  rw [b_and (by omega) (by omega), b_and (by omega) (by omega), e3]
  omega
theorem b_3S {d m k : Nat} (hd : d < 0x50) (hm : m % 16 < 5) : b_3 (k + 1) (d + 256 * m) = ((d + d / 16) &&& 0x0f) + 256 * b_3 k m := by
  unfold b_3
  have e : d + 256 * m + (d + 256 * m) / 16 = (d + d / 16 + 16 * (m % 16)) + 256 * (m + m / 16) := by omega
  have H : ∀ d : Fin 0x50, ∀ c : Fin 5, (d.1 + d.1 / 16 + 16 * c.1) &&& 0x0f = (d.1 + d.1 / 16) &&& 0x0f := by decide
  have e3 : (d + d / 16 + 16 * (m % 16)) &&& 0x0f = (d + d / 16) &&& 0x0f := H ⟨d, hd⟩ ⟨m % 16, hm⟩
  rw [e]
  show ((d + d / 16 + 16 * (m % 16) + 256 * (m + m / 16)) &&& (0x0f + 256 * b_m 0x0f k)) = _
  rw [b_and (by omega) (by omega), e3]
def b_t1 (d : Nat) : Nat := d - ((d / 2) &&& 0x55)
def b_t2 (d : Nat) : Nat := (b_t1 d &&& 0x33) + ((b_t1 d / 4) &&& 0x33)
theorem b_t : ∀ d : Fin 256, b_t1 d.1 < 256 ∧ b_t2 d.1 < 0x50 ∧ b_t2 d.1 % 16 < 5 ∧ (b_t2 d.1 + b_t2 d.1 / 16) &&& 0x0f = b_p d.1 ∧ b_p d.1 ≤ 8 := by decide
/-- bits byte by byte -/
theorem b_x1 {d m k : Nat} (hd : d < 256) : b_2 (k + 1) (b_1 (k + 1) (d + 256 * m)) = b_t2 d + 256 * b_2 k (b_1 k m) := by
  rw [b_1S hd]
  exact b_2S (b_t ⟨d, hd⟩).1
theorem b_x0 : ∀ k x : Nat, x < 256 ^ k → b_2 k (b_1 k x) % 16 < 5 := by
  intro k x hx
  cases k with
  | zero =>
    have : x = 0 := by have : x < 1 := hx; omega
    subst this
    decide
  | succ k =>
    have e : x = x % 256 + 256 * (x / 256) := by omega
    rw [e, b_x1 (by omega)]
    have := (b_t ⟨x % 256, by omega⟩).2.2.1
    show (b_t2 (x % 256) + _) % 16 < 5
    have h2 : b_t2 (x % 256) % 16 < 5 := this
    omega
theorem b_x {d m k : Nat} (hd : d < 256) (hm : m < 256 ^ k) : b_3 (k + 1) (b_2 (k + 1) (b_1 (k + 1) (d + 256 * m))) = b_p d + 256 * b_3 k (b_2 k (b_1 k m)) := by
  rw [b_x1 hd, b_3S (b_t ⟨d, hd⟩).2.1 (b_x0 k m hm)]
  have := (b_t ⟨d, hd⟩).2.2.2.1
  have h2 : (b_t2 d + b_t2 d / 16) &&& 0x0f = b_p d := this
  rw [h2]
def b_d : Nat → Nat → Nat
  | 0, _ => 0
  | k + 1, x => b_p (x % 256) + b_d k (x / 256)
def b_w : Nat → Nat → Nat
  | 0, _ => 0
  | k + 1, x => b_p (x % 256) + 256 * b_w k (x / 256)
theorem b_wE : ∀ k x : Nat, x < 256 ^ k → b_3 k (b_2 k (b_1 k x)) = b_w k x := by
  intro k
  induction k with
  | zero =>
    intro x hx
    have : x = 0 := by have : x < 1 := hx; omega
    subst this
    decide
  | succ k ih =>
    intro x hx
    have hm : x / 256 < 256 ^ k := by
      have e : 256 ^ (k + 1) = 256 * 256 ^ k := by rw [Nat.pow_succ, Nat.mul_comm]
      omega
    have e : x = x % 256 + 256 * (x / 256) := by omega
    conv => lhs; rw [e]
    rw [b_x (by omega) hm, ih _ hm]
    rfl
theorem b_p8 (d : Nat) (h : d < 256) : b_p d ≤ 8 := (b_t ⟨d, h⟩).2.2.2.2
theorem b_dv {m p a : Nat} (h : p < m) : (p + m * a) / m = a := by
  rw [Nat.add_mul_div_left _ _ (by omega), Nat.div_eq_of_lt h, Nat.zero_add]
theorem b_8 {p0 p1 p2 p3 p4 p5 p6 p7 x4 x5 x6 : Nat} (q0 : p0 ≤ 8) (q1 : p1 ≤ 8) (q2 : p2 ≤ 8) (q3 : p3 ≤ 8) (q4 : p4 ≤ 8) (q5 : p5 ≤ 8) (q6 : p6 ≤ 8) (q7 : p7 ≤ 8)
    {x : Nat} (hx : x = p0 + 256 * (p1 + 256 * (p2 + 256 * (p3 + 256 * (p4 + 256 * (p5 + 256 * (p6 + 256 * p7))))))) (h4 : x4 = x + x / 256) (h5 : x5 = x4 + x4 / 65536) (h6 : x6 = x5 + x5 / 4294967296) :
    x4 < 2 ^ 64 ∧ x5 < 2 ^ 64 ∧ x6 < 2 ^ 64 ∧ x6 % 2 ^ 32 % 128 = p0 + p1 + p2 + p3 + p4 + p5 + p6 + p7 := by
  have e4 : x / 256 = p1 + 256 * (p2 + 256 * (p3 + 256 * (p4 + 256 * (p5 + 256 * (p6 + 256 * p7))))) := by rw [hx]; exact b_dv (by omega)
  rw [e4] at h4
  have f4 : x4 = (p0 + p1 + 256 * (p1 + p2)) + 65536 * (p2 + p3 + 256 * (p3 + p4) + 65536 * (p4 + p5 + 256 * (p5 + p6) + 65536 * (p6 + p7 + 256 * p7))) := by rw [h4, hx]; clear h5 h6 hx h4 e4 q0 q1 q2 q3 q4 q5 q6 q7; omega
  have e5 : x4 / 65536 = p2 + p3 + 256 * (p3 + p4) + 65536 * (p4 + p5 + 256 * (p5 + p6) + 65536 * (p6 + p7 + 256 * p7)) := by rw [f4]; exact b_dv (by clear h5 h6 hx h4 e4 f4; omega)
  rw [e5] at h5
  have f5 : x5 = (p0 + p1 + p2 + p3 + 256 * (p1 + p2 + p3 + p4) + 65536 * (p2 + p3 + p4 + p5 + 256 * (p3 + p4 + p5 + p6))) + 4294967296 * (p4 + p5 + p6 + p7 + 256 * (p5 + p6 + p7) + 65536 * (p6 + p7 + 256 * p7)) := by rw [h5, f4]; clear h5 h6 hx h4 e4 f4 e5 q0 q1 q2 q3 q4 q5 q6 q7; omega
  have e6 : x5 / 4294967296 = p4 + p5 + p6 + p7 + 256 * (p5 + p6 + p7) + 65536 * (p6 + p7 + 256 * p7) := by rw [f5]; exact b_dv (by clear h5 h6 hx h4 e4 f4 e5 f5; omega)
  rw [e6] at h6
  have f6 : x6 = (p0 + p1 + p2 + p3 + p4 + p5 + p6 + p7 + 256 * (p1 + p2 + p3 + p4 + p5 + p6 + p7 + 256 * (p2 + p3 + p4 + p5 + p6 + p7 + 256 * (p3 + p4 + p5 + p6 + p7)))) + 4294967296 * (p4 + p5 + p6 + p7 + 256 * (p5 + p6 + p7) + 65536 * (p6 + p7 + 256 * p7)) := by rw [h6, f5]; clear h5 h6 hx h4 e4 f4 e5 f5 e6 q0 q1 q2 q3 q4 q5 q6 q7; omega
  clear hx h4 e4 h5 e5 h6 e6
  refine ⟨by clear f5 f6; omega, by clear f4 f6; omega, by clear f4 f5; omega, ?_⟩
  clear f4 f5
  have hr : p0 + p1 + p2 + p3 + p4 + p5 + p6 + p7 + 256 * (p1 + p2 + p3 + p4 + p5 + p6 + p7 + 256 * (p2 + p3 + p4 + p5 + p6 + p7 + 256 * (p3 + p4 + p5 + p6 + p7))) < 4294967296 := by clear f6; omega
  have hm : x6 % 2 ^ 32 = p0 + p1 + p2 + p3 + p4 + p5 + p6 + p7 + 256 * (p1 + p2 + p3 + p4 + p5 + p6 + p7 + 256 * (p2 + p3 + p4 + p5 + p6 + p7 + 256 * (p3 + p4 + p5 + p6 + p7))) := by
    rw [f6]
    exact (Nat.add_mul_mod_self_left _ 4294967296 _).trans (Nat.mod_eq_of_lt hr)
  rw [hm]
  clear hm f6 hr
  generalize p1 + p2 + p3 + p4 + p5 + p6 + p7 + 256 * (p2 + p3 + p4 + p5 + p6 + p7 + 256 * (p3 + p4 + p5 + p6 + p7)) = T
  have h9 : p0 + p1 + p2 + p3 + p4 + p5 + p6 + p7 ≤ 64 := by omega
  generalize p0 + p1 + p2 + p3 + p4 + p5 + p6 + p7 = S at *
  clear q0 q1 q2 q3 q4 q5 q6 q7
  omega
/-- the last steps put the bytes together -/
theorem b_end (x : Nat) {v3 v4 v5 v6 : Nat} (h3 : v3 = b_w 8 x) (h4 : v4 = v3 + v3 / 256) (h5 : v5 = v4 + v4 / 65536) (h6 : v6 = v5 + v5 / 4294967296) : v4 < 2 ^ 64 ∧ v5 < 2 ^ 64 ∧ v6 < 2 ^ 64 ∧ v6 % 2 ^ 32 % 128 = b_d 8 x ∧ b_d 8 x ≤ 64 := by
  have q0 := b_p8 (x % 256) (by omega)
  have q1 := b_p8 (x / 256 % 256) (by omega)
  have q2 := b_p8 (x / 256 / 256 % 256) (by omega)
  have q3 := b_p8 (x / 256 / 256 / 256 % 256) (by omega)
  have q4 := b_p8 (x / 256 / 256 / 256 / 256 % 256) (by omega)
  have q5 := b_p8 (x / 256 / 256 / 256 / 256 / 256 % 256) (by omega)
  have q6 := b_p8 (x / 256 / 256 / 256 / 256 / 256 / 256 % 256) (by omega)
  have q7 := b_p8 (x / 256 / 256 / 256 / 256 / 256 / 256 / 256 % 256) (by omega)
  have hd : b_d 8 x = b_p (x % 256) + (b_p (x / 256 % 256) + (b_p (x / 256 / 256 % 256) + (b_p (x / 256 / 256 / 256 % 256) + (b_p (x / 256 / 256 / 256 / 256 % 256) + (b_p (x / 256 / 256 / 256 / 256 / 256 % 256) + (b_p (x / 256 / 256 / 256 / 256 / 256 / 256 % 256) + (b_p (x / 256 / 256 / 256 / 256 / 256 / 256 / 256 % 256) + 0))))))) := rfl
  have hw : b_w 8 x = b_p (x % 256) + 256 * (b_p (x / 256 % 256) + 256 * (b_p (x / 256 / 256 % 256) + 256 * (b_p (x / 256 / 256 / 256 % 256) + 256 * (b_p (x / 256 / 256 / 256 / 256 % 256) + 256 * (b_p (x / 256 / 256 / 256 / 256 / 256 % 256) + 256 * (b_p (x / 256 / 256 / 256 / 256 / 256 / 256 % 256) + 256 * (b_p (x / 256 / 256 / 256 / 256 / 256 / 256 / 256 % 256) + 256 * 0))))))) := rfl
  rw [hw] at h3
  rw [hd]
  clear hw hd
  generalize b_p (x % 256) = p0 at *
  generalize b_p (x / 256 % 256) = p1 at *
  generalize b_p (x / 256 / 256 % 256) = p2 at *
  generalize b_p (x / 256 / 256 / 256 % 256) = p3 at *
  generalize b_p (x / 256 / 256 / 256 / 256 % 256) = p4 at *
  generalize b_p (x / 256 / 256 / 256 / 256 / 256 % 256) = p5 at *
  generalize b_p (x / 256 / 256 / 256 / 256 / 256 / 256 % 256) = p6 at *
  generalize b_p (x / 256 / 256 / 256 / 256 / 256 / 256 / 256 % 256) = p7 at *
  rw [Nat.mul_zero, Nat.add_zero] at h3
  obtain ⟨l4, l5, l6, l7⟩ := b_8 q0 q1 q2 q3 q4 q5 q6 q7 h3 h4 h5 h6
  refine ⟨l4, l5, l6, ?_, ?_⟩
  · rw [l7]; clear h3 h4 h5 h6 l4 l5 l6 l7; omega
  · clear h3 h4 h5 h6 l4 l5 l6 l7; omega
def b_bc (b : BitVec 64) : BitVec 64 :=
  let v1 := b - ((b >>> 1) &&& 6148914691236517205#64)
  let v2 := (v1 &&& 3689348814741910323#64) + ((v1 >>> 2) &&& 3689348814741910323#64)
  let v3 := (v2 + (v2 >>> 4)) &&& 1085102592571150095#64
  let v4 := v3 + (v3 >>> 8)
  let v5 := v4 + (v4 >>> 16)
  v5 + (v5 >>> 32)
theorem b_shr (b : BitVec 64) (s : Nat) : (b >>> s).toNat = b.toNat / 2 ^ s := by
  rw [BitVec.toNat_ushiftRight, Nat.shiftRight_eq_div_pow]
theorem b_addN {a b : BitVec 64} {x : Nat} (h : a.toNat + b.toNat = x) (hx : x < 2 ^ 64) : (a + b).toNat = x := by
  rw [BitVec.toNat_add, h, Nat.mod_eq_of_lt hx]
theorem b_bcE (b : BitVec 64) : (b_bc b).toNat % 2 ^ 32 % 128 = b_d 8 b.toNat ∧ b_d 8 b.toNat ≤ 64 := by
  have hx : b.toNat < 256 ^ 8 := b.isLt
  have hw := b_wE 8 b.toNat hx
  have m1 : b_m 0x55 8 = 6148914691236517205 := rfl
  have m2 : b_m 0x33 8 = 3689348814741910323 := rfl
  have m3 : b_m 0x0f 8 = 1085102592571150095 := rfl
  have c1 : (6148914691236517205#64).toNat = b_m 0x55 8 := rfl
  have c2 : (3689348814741910323#64).toNat = b_m 0x33 8 := rfl
  have c3 : (1085102592571150095#64).toNat = b_m 0x0f 8 := rfl
  have E1 : (b - ((b >>> 1) &&& 6148914691236517205#64)).toNat = b_1 8 b.toNat := by
    have hy : ((b >>> 1) &&& 6148914691236517205#64).toNat = (b.toNat / 2) &&& b_m 0x55 8 := by
      rw [BitVec.toNat_and, b_shr, c1]
    have hle : (b.toNat / 2) &&& b_m 0x55 8 ≤ b.toNat / 2 := Nat.and_le_left
    rw [BitVec.toNat_sub_of_le (by rw [BitVec.le_def, hy]; omega), hy]
    rfl
  unfold b_bc
  dsimp only
  generalize b - ((b >>> 1) &&& 6148914691236517205#64) = w1 at *
  have E2 : ((w1 &&& 3689348814741910323#64) + ((w1 >>> 2) &&& 3689348814741910323#64)).toNat = b_2 8 (b_1 8 b.toNat) := by
    refine b_addN ?_ ?_
    · rw [BitVec.toNat_and, BitVec.toNat_and, b_shr, c2, E1]
      rfl
    · have h1 : b_1 8 b.toNat &&& b_m 0x33 8 ≤ b_m 0x33 8 := Nat.and_le_right
      have h2 : (b_1 8 b.toNat / 4) &&& b_m 0x33 8 ≤ b_m 0x33 8 := Nat.and_le_right
      rw [m2] at h1 h2
      unfold b_2
      rw [m2]
      omega
  have hb2 : b_2 8 (b_1 8 b.toNat) ≤ 7378697629483820646 := by
    have h1 : b_1 8 b.toNat &&& b_m 0x33 8 ≤ b_m 0x33 8 := Nat.and_le_right
    have h2 : (b_1 8 b.toNat / 4) &&& b_m 0x33 8 ≤ b_m 0x33 8 := Nat.and_le_right
    rw [m2] at h1 h2
    unfold b_2
    rw [m2]
    omega
  generalize (w1 &&& 3689348814741910323#64) + ((w1 >>> 2) &&& 3689348814741910323#64) = w2 at *
  have E3 : ((w2 + (w2 >>> 4)) &&& 1085102592571150095#64).toNat = b_w 8 b.toNat := by
    have ha : (w2 + (w2 >>> 4)).toNat = b_2 8 (b_1 8 b.toNat) + b_2 8 (b_1 8 b.toNat) / 16 := b_addN (by rw [b_shr, E2]) (by omega)
    rw [BitVec.toNat_and, ha, c3, ← hw]
    rfl
  generalize (w2 + (w2 >>> 4)) &&& 1085102592571150095#64 = w3 at *
  obtain ⟨l4, l5, l6, h1, h2⟩ := b_end b.toNat (v3 := b_w 8 b.toNat) rfl rfl rfl rfl
  have E4 : (w3 + (w3 >>> 8)).toNat = b_w 8 b.toNat + b_w 8 b.toNat / 256 := b_addN (by rw [b_shr, E3]) l4
  generalize w3 + (w3 >>> 8) = w4 at *
  generalize b_w 8 b.toNat + b_w 8 b.toNat / 256 = x4 at *
  have E5 : (w4 + (w4 >>> 16)).toNat = x4 + x4 / 65536 := b_addN (by rw [b_shr, E4]) l5
  generalize w4 + (w4 >>> 16) = w5 at *
  generalize x4 + x4 / 65536 = x5 at *
  have E6 : (w5 + (w5 >>> 32)).toNat = x5 + x5 / 4294967296 := b_addN (by rw [b_shr, E5]) l6
  rw [E6]
  exact ⟨h1, h2⟩
/-- the bits, one by one -/
def b_q (x : Nat) : Nat → Bool := fun k => decide (x / 2 ^ k % 2 = 1)
theorem s_cntB_succ (p : Nat → Bool) (n : Nat) : s_cntB p (n + 1) = s_cntB p n + if p n = true then 1 else 0 := by
  unfold s_cntB
  rw [s_fold_succ, Nat.zero_add]
  split
  · rfl
  · rfl
theorem s_cntB_add (p : Nat → Bool) (n : Nat) : ∀ m, s_cntB p (n + m) = s_cntB p n + s_cntB (fun k => p (n + k)) m := by
  intro m
  induction m with
  | zero => rfl
  | succ m ih =>
    have e : n + (m + 1) = (n + m) + 1 := rfl
    rw [e, s_cntB_succ, s_cntB_succ, ih, Nat.add_assoc]
theorem b_q1 (x k : Nat) : (if b_q x k = true then 1 else 0) = x / 2 ^ k % 2 := by
  unfold b_q
  by_cases c : x / 2 ^ k % 2 = 1
  · rw [if_pos (decide_eq_true c), c]
  · rw [if_neg (by rw [decide_eq_false c]; decide)]
    omega
theorem b_q8 (x : Nat) : s_cntB (b_q x) 8 = b_p (x % 256) := by
  have h : s_cntB (b_q x) 8 = 0 + (if b_q x 0 = true then 1 else 0) + (if b_q x 1 = true then 1 else 0) + (if b_q x 2 = true then 1 else 0) + (if b_q x 3 = true then 1 else 0) + (if b_q x 4 = true then 1 else 0) + (if b_q x 5 = true then 1 else 0) + (if b_q x 6 = true then 1 else 0) + (if b_q x 7 = true then 1 else 0) := by
    rw [s_cntB_succ, s_cntB_succ, s_cntB_succ, s_cntB_succ, s_cntB_succ, s_cntB_succ, s_cntB_succ, s_cntB_succ]
    rfl
  rw [h]
  simp only [b_q1]
  unfold b_p
  have e0 : x / 2 ^ 0 % 2 = x % 256 % 2 := by omega
  have e1 : x / 2 ^ 1 % 2 = x % 256 / 2 % 2 := by omega
  have e2 : x / 2 ^ 2 % 2 = x % 256 / 4 % 2 := by omega
  have e3 : x / 2 ^ 3 % 2 = x % 256 / 8 % 2 := by omega
  have e4 : x / 2 ^ 4 % 2 = x % 256 / 16 % 2 := by omega
  have e5 : x / 2 ^ 5 % 2 = x % 256 / 32 % 2 := by omega
  have e6 : x / 2 ^ 6 % 2 = x % 256 / 64 % 2 := by omega
  have e7 : x / 2 ^ 7 % 2 = x % 256 / 128 % 2 := by omega
  rw [e0, e1, e2, e3, e4, e5, e6, e7, Nat.zero_add]
theorem b_qS : ∀ k x : Nat, s_cntB (b_q x) (8 * k) = b_d k x := by
  intro k
  induction k with
  | zero => intro x; rfl
  | succ k ih =>
    intro x
    have e : 8 * (k + 1) = 8 + 8 * k := by omega
    have h2 : (fun j => b_q x (8 + j)) = b_q (x / 256) := by
      funext j
      unfold b_q
      rw [Nat.pow_add, ← Nat.div_div_eq_div_mul]
    rw [e, s_cntB_add, b_q8, h2, ih]
    rfl
theorem b_hasL (x : Int64) {k : Nat} (h : k < 64) : s_hasL x (nI k) = b_q x.toBitVec.toNat k := by
  rw [s_hasL_v x h, BitVec.getLsbD, Nat.testBit_eq_decide_div_mod_eq]
  rfl
theorem s_cntB_congr {p q : Nat → Bool} : ∀ n, (∀ k, k < n → p k = q k) → s_cntB p n = s_cntB q n := by
  intro n
  induction n with
  | zero => intro _; rfl
  | succ n ih =>
    intro h
    rw [s_cntB_succ, s_cntB_succ, ih (fun k hk => h k (by omega)), h n (by omega)]
theorem x_shr64 (x : Int64) (s : UInt64) : ((x.toUInt64 >>> s).toInt64).toBitVec = x.toBitVec >>> (s.toBitVec % 64#64) := rfl
theorem x_bitCount (x : Int64) : D_J18_bitCount x = some (nI (s_cntB (fun k => s_hasL x (nI k)) 64)) := by
  have hc : s_cntB (fun k => s_hasL x (nI k)) 64 = b_d 8 x.toBitVec.toNat := by
    rw [s_cntB_congr (q := b_q x.toBitVec.toNat) 64 (fun k hk => b_hasL x hk)]
    exact b_qS 8 _
  obtain ⟨h1, h2⟩ := b_bcE x.toBitVec
  rw [hc]
  have hI : ∀ v6 : Int64, v6.toBitVec = b_bc x.toBitVec → (v6.toInt32 &&& (127 : Int32)) = nI (b_d 8 x.toBitVec.toNat) := by
    intro v6 h6
    refine Int32.toBitVec_inj.mp ?_
    refine BitVec.eq_of_toNat_eq ?_
    have e1 : (v6.toInt32 &&& (127 : Int32)).toBitVec.toNat = (v6.toBitVec.toNat % 2 ^ 32) &&& 127 := by
      rw [Int32.toBitVec_and, BitVec.toNat_and, Int64.toBitVec_toInt32, BitVec.signExtend_eq_setWidth_of_le _ (by omega), BitVec.toNat_setWidth]
      rfl
    have e2 : (nI (b_d 8 x.toBitVec.toNat)).toBitVec.toNat = b_d 8 x.toBitVec.toNat := by
      show (BitVec.ofNat 32 _).toNat = _
      rw [BitVec.toNat_ofNat, Nat.mod_eq_of_lt (by omega)]
    rw [e1, e2, h6, Nat.and_two_pow_sub_one_eq_mod _ 7, ← h1]
  unfold D_J18_bitCount
  rw [x_lS, x_lS, x_lS, x_lS, x_lS, x_lS]
  refine congrArg some (hI _ ?_)
  unfold b_bc
  dsimp only
  rfl
