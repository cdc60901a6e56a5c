/-! THE TWIN DECOMPILED (printed by tools/g21.py) -/
set_option maxRecDepth 100000
section T21
variable {g : z_G} {d : Nat} {Q : z_O → z_M → Prop} {μ : z_M} {σ σz : t_S} {b : Nat}
noncomputable def D_four_3 (f1_1 : Int32) (k38 : t_S → Option t_S) : Nat → Int32 → t_S → Option t_S
  | 0, _, _ => none
  | f + 1, v2_2, σ3 =>
    if v2_2 < 0 then (k38 σ3) else
    x_ga (0 : Int32) 4 fun j6 =>
    x_ga (t_a σ3 2 j6) 2400 fun j7 =>
    x_l (t_sa σ3 1 j7 (((((f1_1 >>> (v2_2 &&& 31))).toInt8.toInt32)).toInt8.toInt32)) fun σ8 =>
    x_ga (0 : Int32) 4 fun j9 =>
    x_ga (0 : Int32) 4 fun j10 =>
    x_l (t_sa σ8 2 j10 ((t_a σ8 2 j9) + (1 : Int32))) fun σ11 =>
    x_l (v2_2 + (-8 : Int32)) fun v12 =>
    D_four_3 f1_1 k38 f v12 σ11
theorem w_four_3 {f1_1 : Int32}  {k38 : t_S → Option t_S} (hk38 : ∀ (σ4 : t_S), k38 σ4 = some σz → z_V g d YX2_four 38 [] [] (t_m b σ4 μ) Q) (hQ : Q (.inl none) (t_m b σz μ)) : ∀ (f : Nat) (v2_2 : Int32) (σ3 : t_S), D_four_3 f1_1 k38 f v2_2 σ3 = some σz → z_V g d YX2_four 3 [(0, .ref b), (1, .int f1_1), (2, .int v2_2)] [] (t_m b σ3 μ) Q := by
  intro f
  induction f with
  | zero =>
    intro v2_2 σ3 h
    exact absurd h (x_n _)
  | succ f ih =>
    intro v2_2 σ3 h
    refine zi_iload_n 2 dX2_four_3 rfl rfl ?_
    refine zi_if_lt 38 dX2_four_4 (by decide) (fun c5 => ?_) (fun c5 => ?_)
    · replace h := x_iT h c5
      refine zi_sub [] rfl ?_
      exact hk38 _ h
    · replace h := x_iF h c5
      refine zi_aload_n 0 dX2_four_7 rfl rfl ?_
      refine ti_getA 1 1 t_o1 q2171 dX2_four_8 ?_
      refine zi_aload_n 0 dX2_four_11 rfl rfl ?_
      refine ti_getA 2 2 t_o2 q2172 dX2_four_12 ?_
      refine zi_iconst (v := 0) dX2_four_15 (by decide) ?_
      obtain ⟨j6, hj6, h⟩ := x_gaE h
      refine ti_iald 2 j6 4 1 ⟨rfl, rfl⟩ hj6 dX2_four_16 ?_
      refine zi_iload_n 1 dX2_four_17 rfl rfl ?_
      refine zi_iload_n 2 dX2_four_18 rfl rfl ?_
      refine zi_ishr dX2_four_19 ?_
      refine zi_i2b (v := ((f1_1 >>> (v2_2 &&& 31))).toInt8.toInt32) dX2_four_20 rfl ?_
      obtain ⟨j7, hj7, h⟩ := x_gaE h
      refine ti_bast (y := (((((f1_1 >>> (v2_2 &&& 31))).toInt8.toInt32)).toInt8.toInt32)) 1 j7 2400 0 ⟨rfl, rfl⟩ hj7 rfl dX2_four_21 ?_
      refine x_lI (fun σ8 => z_V g d YX2_four 22 [(0, .ref b), (1, .int f1_1), (2, .int v2_2)] [] (t_m b σ8 μ) Q) h (fun σ8 h => ?_)
      refine zi_aload_n 0 dX2_four_22 rfl rfl ?_
      refine ti_getA 2 2 t_o2 q2172 dX2_four_23 ?_
      refine zi_iconst (v := 0) dX2_four_26 (by decide) ?_
      refine zi_dup2_11 dX2_four_27 rfl rfl ?_
      obtain ⟨j9, hj9, h⟩ := x_gaE h
      refine ti_iald 2 j9 4 1 ⟨rfl, rfl⟩ hj9 dX2_four_28 ?_
      refine zi_iconst (v := 1) dX2_four_29 (by decide) ?_
      refine zi_iadd dX2_four_30 ?_
      obtain ⟨j10, hj10, h⟩ := x_gaE h
      refine ti_iast 2 j10 4 1 ⟨rfl, rfl⟩ hj10 dX2_four_31 ?_
      refine x_lI (fun σ11 => z_V g d YX2_four 32 [(0, .ref b), (1, .int f1_1), (2, .int v2_2)] [] (t_m b σ11 μ) Q) h (fun σ11 h => ?_)
      refine zi_iinc (v := (v2_2 + (-8 : Int32))) (lc1 := [(2, _), (0, _), (1, _)]) 2 dX2_four_32 rfl rfl (Nat.le_of_ble_eq_true rfl) rfl ?_
      refine x_lI (fun v12 => z_V g d YX2_four 35 [(2, .int v12), (0, .ref b), (1, .int f1_1)] [] (t_m b σ11 μ) Q) h (fun v12 h => ?_)
      refine zi_goto 3 dX2_four_35 (by decide) ?_
      refine zi_sub [1, 2, 0] rfl ?_
      exact ih _ _ h
noncomputable def D_four (a1 : Int32) (σ : t_S) : Option t_S :=
  D_four_3 a1
    (fun (σ13 : t_S) => some σ13)
    x_F (24 : Int32) σ
theorem w_four {a1 : Int32}  (h : D_four a1 σ = some σz) (hQ : Q (.inl none) (t_m b σz μ)) : z_K g d YX2_four [.ref b, .int a1] (t_m b σ μ) Q := by
  unfold D_four at h
  refine z_K.of (by decide) rfl (Nat.le_of_ble_eq_true rfl) ?_
  refine zi_bipush (v := 24) dX2_four_0 (by decide) ?_
  refine zi_istore_n (lc1 := [(2, _), (0, _), (1, _)]) dX2_four_2 rfl (Nat.le_of_ble_eq_true rfl) rfl ?_
  refine zi_sub [1, 2, 0] rfl ?_
  refine w_four_3 (fun σ13 h => ?_) hQ _ _ _ h
  · refine zi_return rfl dX2_four_38 ?_
    exact x_r0 h hQ
noncomputable def D_in (a0 : Int32) (a1 : Int32) (a2 : Int32) : Option Int32 :=
  if a0 < a1 then (some (0 : Int32)) else
  if a2 < a0 then (some (0 : Int32)) else
  some (1 : Int32)
theorem w_in {a0 : Int32} {a1 : Int32} {a2 : Int32} {rz : Int32} (h : D_in a0 a1 a2 = some rz) (hQ : Q (.inl (some (.int rz))) μ) : z_K g d YX2_in [.int a0, .int a1, .int a2] μ Q := by
  unfold D_in at h
  refine z_K.of (by decide) rfl (Nat.le_of_ble_eq_true rfl) ?_
  refine zi_iload_n 0 dX2_in_0 rfl rfl ?_
  refine zi_iload_n 1 dX2_in_1 rfl rfl ?_
  refine zi_icmp_lt 14 dX2_in_2 (by decide) (fun c1 => ?_) (fun c1 => ?_)
  · replace h := x_iT h c1
    refine zi_iconst (v := 0) dX2_in_14 (by decide) ?_
    refine zi_ireturn rfl rfl dX2_in_15 ?_
    exact x_r1i h hQ
  · replace h := x_iF h c1
    refine zi_iload_n 0 dX2_in_5 rfl rfl ?_
    refine zi_iload_n 2 dX2_in_6 rfl rfl ?_
    refine zi_icmp_gt 14 dX2_in_7 (by decide) (fun c2 => ?_) (fun c2 => ?_)
    · replace h := x_iT h c2
      refine zi_iconst (v := 0) dX2_in_14 (by decide) ?_
      refine zi_ireturn rfl rfl dX2_in_15 ?_
      exact x_r1i h hQ
    · replace h := x_iF h c2
      refine zi_iconst (v := 1) dX2_in_10 (by decide) ?_
      refine zi_goto 15 dX2_in_11 (by decide) ?_
      refine zi_ireturn rfl rfl dX2_in_15 ?_
      exact x_r1i h hQ
noncomputable def D_see  (σ : t_S) : Option Int32 :=
  if (t_i σ 10) ≤ (t_i σ 9) then (some (-1 : Int32)) else
  x_ga (t_i σ 9) 2400 fun j2 =>
  some ((t_a σ 1 j2) &&& (255 : Int32))
theorem w_see  {rz : Int32} (h : D_see σ = some rz) (hQ : Q (.inl (some (.int rz))) (t_m b σ μ)) : z_K g d YX2_see [.ref b] (t_m b σ μ) Q := by
  unfold D_see at h
  refine z_K.of (by decide) rfl (Nat.le_of_ble_eq_true rfl) ?_
  refine zi_aload_n 0 dX2_see_0 rfl rfl ?_
  refine ti_getI 9 ⟨Nat.le_of_ble_eq_true rfl, rfl⟩ q2179 dX2_see_1 ?_
  refine zi_aload_n 0 dX2_see_4 rfl rfl ?_
  refine ti_getI 10 ⟨Nat.le_of_ble_eq_true rfl, rfl⟩ q2180 dX2_see_5 ?_
  refine zi_icmp_ge 27 dX2_see_8 (by decide) (fun c1 => ?_) (fun c1 => ?_)
  · replace h := x_iT h c1
    refine zi_iconst (v := -1) dX2_see_27 (by decide) ?_
    refine zi_ireturn rfl rfl dX2_see_28 ?_
    exact x_r1i h hQ
  · replace h := x_iF h c1
    refine zi_aload_n 0 dX2_see_11 rfl rfl ?_
    refine ti_getA 1 1 t_o1 q2171 dX2_see_12 ?_
    refine zi_aload_n 0 dX2_see_15 rfl rfl ?_
    refine ti_getI 9 ⟨Nat.le_of_ble_eq_true rfl, rfl⟩ q2179 dX2_see_16 ?_
    obtain ⟨j2, hj2, h⟩ := x_gaE h
    refine ti_bald 1 j2 2400 0 ⟨rfl, rfl⟩ hj2 dX2_see_19 ?_
    refine zi_sipush (v := 255) dX2_see_20 (by decide) ?_
    refine zi_iand dX2_see_23 ?_
    refine zi_goto 28 dX2_see_24 (by decide) ?_
    refine zi_ireturn rfl rfl dX2_see_28 ?_
    exact x_r1i h hQ
noncomputable def D_fails  (σ : t_S) : Option (Int32 × t_S) :=
  x_l (t_si σ 15 (t_i σ 11)) fun σ1 =>
  some ((0 : Int32), σ1)
theorem w_fails  {rz : Int32} (h : D_fails σ = some (rz, σz)) (hQ : Q (.inl (some (.int rz))) (t_m b σz μ)) : z_K g d YX2_fails [.ref b] (t_m b σ μ) Q := by
  unfold D_fails at h
  refine z_K.of (by decide) rfl (Nat.le_of_ble_eq_true rfl) ?_
  refine zi_aload_n 0 dX2_fails_0 rfl rfl ?_
  refine zi_aload_n 0 dX2_fails_1 rfl rfl ?_
  refine ti_getI 11 ⟨Nat.le_of_ble_eq_true rfl, rfl⟩ q2181 dX2_fails_2 ?_
  refine ti_putI 15 ⟨Nat.le_of_ble_eq_true rfl, rfl, rfl⟩ (tyX2_ok 15 (Nat.le_of_ble_eq_true rfl)) q2185 dX2_fails_5 ?_
  refine x_lI (fun σ1 => z_V g d YX2_fails 8 [(0, .ref b)] [] (t_m b σ1 μ) Q) h (fun σ1 h => ?_)
  refine zi_iconst (v := 0) dX2_fails_8 (by decide) ?_
  refine zi_ireturn rfl rfl dX2_fails_9 ?_
  exact x_r2i h hQ
noncomputable def D_addsFault (a1 : Int32) (a2 : Int32) (σ : t_S) : Option t_S :=
  x_l (x_l (t_si σ 16 a1) fun σ1 =>
  x_l (t_si σ1 17 a2) fun σ2 =>
  some σ2) fun J31 =>
  if (t_i σ 16) = 0 then (J31) else
  if a2 < (t_i σ 17) then (J31) else
  if a2 = (t_i σ 17) then (if (t_i σ 16) ≤ a1 then (some σ) else
  J31) else
  some σ
theorem w_addsFault {a1 : Int32} {a2 : Int32}  (h : D_addsFault a1 a2 σ = some σz) (hQ : Q (.inl none) (t_m b σz μ)) : z_K g d YX2_addsFault [.ref b, .int a1, .int a2] (t_m b σ μ) Q := by
  unfold D_addsFault at h
  refine z_K.of (by decide) rfl (Nat.le_of_ble_eq_true rfl) ?_
  refine zi_aload_n 0 dX2_addsFault_0 rfl rfl ?_
  refine ti_getI 16 ⟨Nat.le_of_ble_eq_true rfl, rfl⟩ q2186 dX2_addsFault_1 ?_
  refine x_jI (fun (J : Option t_S) => J = some σz → z_V g d YX2_addsFault 31 [(0, .ref b), (1, .int a1), (2, .int a2)] [] (t_m b σ μ) Q) h (fun  h => ?_) (fun J31 hJ31 h => ?_)
  · refine zi_aload_n 0 dX2_addsFault_31 rfl rfl ?_
    refine zi_iload_n 1 dX2_addsFault_32 rfl rfl ?_
    refine ti_putI 16 ⟨Nat.le_of_ble_eq_true rfl, rfl, rfl⟩ (tyX2_ok 16 (Nat.le_of_ble_eq_true rfl)) q2186 dX2_addsFault_33 ?_
    refine x_lI (fun σ1 => z_V g d YX2_addsFault 36 [(0, .ref b), (1, .int a1), (2, .int a2)] [] (t_m b σ1 μ) Q) h (fun σ1 h => ?_)
    refine zi_aload_n 0 dX2_addsFault_36 rfl rfl ?_
    refine zi_iload_n 2 dX2_addsFault_37 rfl rfl ?_
    refine ti_putI 17 ⟨Nat.le_of_ble_eq_true rfl, rfl, rfl⟩ (tyX2_ok 17 (Nat.le_of_ble_eq_true rfl)) q2187 dX2_addsFault_38 ?_
    refine x_lI (fun σ2 => z_V g d YX2_addsFault 41 [(0, .ref b), (1, .int a1), (2, .int a2)] [] (t_m b σ2 μ) Q) h (fun σ2 h => ?_)
    refine zi_return rfl dX2_addsFault_41 ?_
    exact x_r0 h hQ
  refine zi_if_eq 31 dX2_addsFault_4 (by decide) (fun c3 => ?_) (fun c3 => ?_)
  · replace h := x_iT h c3
    exact hJ31  h
  · replace h := x_iF h c3
    refine zi_iload_n 2 dX2_addsFault_7 rfl rfl ?_
    refine zi_aload_n 0 dX2_addsFault_8 rfl rfl ?_
    refine ti_getI 17 ⟨Nat.le_of_ble_eq_true rfl, rfl⟩ q2187 dX2_addsFault_9 ?_
    refine zi_icmp_lt 31 dX2_addsFault_12 (by decide) (fun c4 => ?_) (fun c4 => ?_)
    · replace h := x_iT h c4
      exact hJ31  h
    · replace h := x_iF h c4
      refine zi_iload_n 2 dX2_addsFault_15 rfl rfl ?_
      refine zi_aload_n 0 dX2_addsFault_16 rfl rfl ?_
      refine ti_getI 17 ⟨Nat.le_of_ble_eq_true rfl, rfl⟩ q2187 dX2_addsFault_17 ?_
      refine zi_icmp_ne 41 dX2_addsFault_20 (by decide) (fun c5 => ?_) (fun c5 => ?_)
      · replace h := x_iF h c5
        refine zi_return rfl dX2_addsFault_41 ?_
        exact x_r0 h hQ
      · replace h := x_iT h c5
        refine zi_iload_n 1 dX2_addsFault_23 rfl rfl ?_
        refine zi_aload_n 0 dX2_addsFault_24 rfl rfl ?_
        refine ti_getI 16 ⟨Nat.le_of_ble_eq_true rfl, rfl⟩ q2186 dX2_addsFault_25 ?_
        refine zi_icmp_ge 41 dX2_addsFault_28 (by decide) (fun c6 => ?_) (fun c6 => ?_)
        · replace h := x_iT h c6
          refine zi_return rfl dX2_addsFault_41 ?_
          exact x_r0 h hQ
        · replace h := x_iF h c6
          exact hJ31  h
noncomputable def D_greater (a0 : Int32) (a1 : Int32) : Option Int32 :=
  if a0 ≤ a1 then (some a1) else
  some a0
theorem w_greater {a0 : Int32} {a1 : Int32} {rz : Int32} (h : D_greater a0 a1 = some rz) (hQ : Q (.inl (some (.int rz))) μ) : z_K g d YX2_greater [.int a0, .int a1] μ Q := by
  unfold D_greater at h
  refine z_K.of (by decide) rfl (Nat.le_of_ble_eq_true rfl) ?_
  refine zi_iload_n 0 dX2_greater_0 rfl rfl ?_
  refine zi_iload_n 1 dX2_greater_1 rfl rfl ?_
  refine zi_icmp_le 9 dX2_greater_2 (by decide) (fun c1 => ?_) (fun c1 => ?_)
  · replace h := x_iT h c1
    refine zi_iload_n 1 dX2_greater_9 rfl rfl ?_
    refine zi_ireturn rfl rfl dX2_greater_10 ?_
    exact x_r1i h hQ
  · replace h := x_iF h c1
    refine zi_iload_n 0 dX2_greater_5 rfl rfl ?_
    refine zi_goto 10 dX2_greater_6 (by decide) ?_
    refine zi_ireturn rfl rfl dX2_greater_10 ?_
    exact x_r1i h hQ
noncomputable def D_isOf (a1 : Int32) (a2 : Int32) (σ : t_S) : Option Int32 :=
  x_ga (0 : Int32) 4 fun j1 =>
  x_l (x_ga (1 : Int32) 4 fun j2 =>
  if a1 = (t_a σ 19 j2) then (x_ga (0 : Int32) 4 fun j4 =>
  if a2 = (t_a σ 19 j4) then (some (1 : Int32)) else
  some (0 : Int32)) else
  some (0 : Int32)) fun J20 =>
  if a1 = (t_a σ 19 j1) then (x_ga (1 : Int32) 4 fun j7 =>
  if a2 = (t_a σ 19 j7) then (some (1 : Int32)) else
  J20) else
  J20
theorem w_isOf {a1 : Int32} {a2 : Int32} {rz : Int32} (h : D_isOf a1 a2 σ = some rz) (hQ : Q (.inl (some (.int rz))) (t_m b σ μ)) : z_K g d YX2_isOf [.ref b, .int a1, .int a2] (t_m b σ μ) Q := by
  unfold D_isOf at h
  refine z_K.of (by decide) rfl (Nat.le_of_ble_eq_true rfl) ?_
  refine zi_iload_n 1 dX2_isOf_0 rfl rfl ?_
  refine zi_aload_n 0 dX2_isOf_1 rfl rfl ?_
  refine ti_getA 19 10 t_o19 q2189 dX2_isOf_2 ?_
  refine zi_iconst (v := 0) dX2_isOf_5 (by decide) ?_
  obtain ⟨j1, hj1, h⟩ := x_gaE h
  refine ti_iald 19 j1 4 9 ⟨rfl, rfl⟩ hj1 dX2_isOf_6 ?_
  refine x_jI (fun (J : Option Int32) => J = some rz → z_V g d YX2_isOf 20 [(0, .ref b), (1, .int a1), (2, .int a2)] [] (t_m b σ μ) Q) h (fun  h => ?_) (fun J20 hJ20 h => ?_)
  · refine zi_iload_n 1 dX2_isOf_20 rfl rfl ?_
    refine zi_aload_n 0 dX2_isOf_21 rfl rfl ?_
    refine ti_getA 19 10 t_o19 q2189 dX2_isOf_22 ?_
    refine zi_iconst (v := 1) dX2_isOf_25 (by decide) ?_
    obtain ⟨j2, hj2, h⟩ := x_gaE h
    refine ti_iald 19 j2 4 9 ⟨rfl, rfl⟩ hj2 dX2_isOf_26 ?_
    refine zi_icmp_ne 44 dX2_isOf_27 (by decide) (fun c3 => ?_) (fun c3 => ?_)
    · replace h := x_iF h c3
      refine zi_iconst (v := 0) dX2_isOf_44 (by decide) ?_
      refine zi_ireturn rfl rfl dX2_isOf_45 ?_
      exact x_r1i h hQ
    · replace h := x_iT h c3
      refine zi_iload_n 2 dX2_isOf_30 rfl rfl ?_
      refine zi_aload_n 0 dX2_isOf_31 rfl rfl ?_
      refine ti_getA 19 10 t_o19 q2189 dX2_isOf_32 ?_
      refine zi_iconst (v := 0) dX2_isOf_35 (by decide) ?_
      obtain ⟨j4, hj4, h⟩ := x_gaE h
      refine ti_iald 19 j4 4 9 ⟨rfl, rfl⟩ hj4 dX2_isOf_36 ?_
      refine zi_icmp_ne 44 dX2_isOf_37 (by decide) (fun c5 => ?_) (fun c5 => ?_)
      · replace h := x_iF h c5
        refine zi_iconst (v := 0) dX2_isOf_44 (by decide) ?_
        refine zi_ireturn rfl rfl dX2_isOf_45 ?_
        exact x_r1i h hQ
      · replace h := x_iT h c5
        refine zi_iconst (v := 1) dX2_isOf_40 (by decide) ?_
        refine zi_goto 45 dX2_isOf_41 (by decide) ?_
        refine zi_ireturn rfl rfl dX2_isOf_45 ?_
        exact x_r1i h hQ
  refine zi_icmp_ne 20 dX2_isOf_7 (by decide) (fun c6 => ?_) (fun c6 => ?_)
  · replace h := x_iF h c6
    exact hJ20  h
  · replace h := x_iT h c6
    refine zi_iload_n 2 dX2_isOf_10 rfl rfl ?_
    refine zi_aload_n 0 dX2_isOf_11 rfl rfl ?_
    refine ti_getA 19 10 t_o19 q2189 dX2_isOf_12 ?_
    refine zi_iconst (v := 1) dX2_isOf_15 (by decide) ?_
    obtain ⟨j7, hj7, h⟩ := x_gaE h
    refine ti_iald 19 j7 4 9 ⟨rfl, rfl⟩ hj7 dX2_isOf_16 ?_
    refine zi_icmp_eq 40 dX2_isOf_17 (by decide) (fun c8 => ?_) (fun c8 => ?_)
    · replace h := x_iT h c8
      refine zi_iconst (v := 1) dX2_isOf_40 (by decide) ?_
      refine zi_goto 45 dX2_isOf_41 (by decide) ?_
      refine zi_ireturn rfl rfl dX2_isOf_45 ?_
      exact x_r1i h hQ
    · replace h := x_iF h c8
      exact hJ20  h
noncomputable def D_lesser (a0 : Int32) (a1 : Int32) : Option Int32 :=
  if a1 ≤ a0 then (some a1) else
  some a0
theorem w_lesser {a0 : Int32} {a1 : Int32} {rz : Int32} (h : D_lesser a0 a1 = some rz) (hQ : Q (.inl (some (.int rz))) μ) : z_K g d YX2_lesser [.int a0, .int a1] μ Q := by
  unfold D_lesser at h
  refine z_K.of (by decide) rfl (Nat.le_of_ble_eq_true rfl) ?_
  refine zi_iload_n 0 dX2_lesser_0 rfl rfl ?_
  refine zi_iload_n 1 dX2_lesser_1 rfl rfl ?_
  refine zi_icmp_ge 9 dX2_lesser_2 (by decide) (fun c1 => ?_) (fun c1 => ?_)
  · replace h := x_iT h c1
    refine zi_iload_n 1 dX2_lesser_9 rfl rfl ?_
    refine zi_ireturn rfl rfl dX2_lesser_10 ?_
    exact x_r1i h hQ
  · replace h := x_iF h c1
    refine zi_iload_n 0 dX2_lesser_5 rfl rfl ?_
    refine zi_goto 10 dX2_lesser_6 (by decide) ?_
    refine zi_ireturn rfl rfl dX2_lesser_10 ?_
    exact x_r1i h hQ
noncomputable def D_numberOf_5 (f0_1 : Int64) (k45 : Int32 → Option Int32) : Nat → Int32 → Int32 → Option Int32
  | 0, _, _ => none
  | f + 1, v2_2, v3_3 =>
    if v3_3 < 0 then (k45 v2_2) else
    x_l ((((f0_1 >>> ((v3_3).toInt64 &&& 63)) &&& (255 : Int64))).toInt32) fun v7 =>
    if v7 = 0 then (x_l (v3_3 + (-8 : Int32)) fun v11 =>
    D_numberOf_5 f0_1 k45 f v2_2 v11) else
    x_l ((((27 : Int32) * v2_2) + v7) - (96 : Int32)) fun v9 =>
    x_l (v3_3 + (-8 : Int32)) fun v10 =>
    D_numberOf_5 f0_1 k45 f v9 v10
theorem w_numberOf_5 {f0_1 : Int64} {rz : Int32} {k45 : Int32 → Option Int32} (hk45 : ∀ (v2_4 : Int32), k45 v2_4 = some rz → z_V g d YX2_numberOf 45 [(2, .int v2_4)] [] μ Q) (hQ : Q (.inl (some (.int rz))) μ) : ∀ (f : Nat) (v2_2 : Int32) (v3_3 : Int32), D_numberOf_5 f0_1 k45 f v2_2 v3_3 = some rz → z_V g d YX2_numberOf 5 [(0, .long f0_1), (2, .int v2_2), (3, .int v3_3)] [] μ Q := by
  intro f
  induction f with
  | zero =>
    intro v2_2 v3_3 h
    exact absurd h (x_n _)
  | succ f ih =>
    intro v2_2 v3_3 h
    refine zi_iload_n 2 dX2_numberOf_5 rfl rfl ?_
    refine zi_if_lt 45 dX2_numberOf_6 (by decide) (fun c6 => ?_) (fun c6 => ?_)
    · replace h := x_iT h c6
      refine zi_sub [1] rfl ?_
      exact hk45 _ h
    · replace h := x_iF h c6
      refine zi_lload_n 0 dX2_numberOf_9 rfl rfl ?_
      refine zi_iload_n 2 dX2_numberOf_10 rfl rfl ?_
      refine zi_lshr (v := (f0_1 >>> ((v3_3).toInt64 &&& 63))) dX2_numberOf_11 rfl ?_
      refine zi_ldc2 (v := 255) q2531 dX2_numberOf_12 ?_
      refine zi_land dX2_numberOf_15 ?_
      refine zi_l2i (v := (((f0_1 >>> ((v3_3).toInt64 &&& 63)) &&& (255 : Int64))).toInt32) dX2_numberOf_16 rfl ?_
      refine zi_istore (lc1 := [(4, _), (0, _), (2, _), (3, _)]) dX2_numberOf_17 (Nat.le_of_ble_eq_true rfl) rfl ?_
      refine x_lI (fun v7 => z_V g d YX2_numberOf 19 [(4, .int v7), (0, .long f0_1), (2, .int v2_2), (3, .int v3_3)] [] μ Q) h (fun v7 h => ?_)
      refine zi_iload 0 dX2_numberOf_19 rfl ?_
      refine zi_if_ne 28 dX2_numberOf_21 (by decide) (fun c8 => ?_) (fun c8 => ?_)
      · replace h := x_iF h c8
        refine zi_bipush (v := 27) dX2_numberOf_28 (by decide) ?_
        refine zi_iload_n 2 dX2_numberOf_30 rfl rfl ?_
        refine zi_imul dX2_numberOf_31 ?_
        refine zi_iload 0 dX2_numberOf_32 rfl ?_
        refine zi_iadd dX2_numberOf_34 ?_
        refine zi_bipush (v := 96) dX2_numberOf_35 (by decide) ?_
        refine zi_isub dX2_numberOf_37 ?_
        refine zi_istore_n (lc1 := [(2, _), (4, _), (0, _), (3, _)]) dX2_numberOf_38 rfl (Nat.le_of_ble_eq_true rfl) rfl ?_
        refine x_lI (fun v9 => z_V g d YX2_numberOf 39 [(2, .int v9), (4, .int v7), (0, .long f0_1), (3, .int v3_3)] [] μ Q) h (fun v9 h => ?_)
        refine zi_iinc (v := (v3_3 + (-8 : Int32))) (lc1 := [(3, _), (2, _), (4, _), (0, _)]) 3 dX2_numberOf_39 rfl rfl (Nat.le_of_ble_eq_true rfl) rfl ?_
        refine x_lI (fun v10 => z_V g d YX2_numberOf 42 [(3, .int v10), (2, .int v9), (4, .int v7), (0, .long f0_1)] [] μ Q) h (fun v10 h => ?_)
        refine zi_goto 5 dX2_numberOf_42 (by decide) ?_
        refine zi_sub [3, 1, 0] rfl ?_
        exact ih _ _ h
      · replace h := x_iT h c8
        refine zi_iload_n 2 dX2_numberOf_24 rfl rfl ?_
        refine zi_goto 38 dX2_numberOf_25 (by decide) ?_
        refine zi_istore_n (lc1 := [(2, _), (4, _), (0, _), (3, _)]) dX2_numberOf_38 rfl (Nat.le_of_ble_eq_true rfl) rfl ?_
        refine zi_iinc (v := (v3_3 + (-8 : Int32))) (lc1 := [(3, _), (2, _), (4, _), (0, _)]) 3 dX2_numberOf_39 rfl rfl (Nat.le_of_ble_eq_true rfl) rfl ?_
        refine x_lI (fun v11 => z_V g d YX2_numberOf 42 [(3, .int v11), (2, .int v2_2), (4, .int v7), (0, .long f0_1)] [] μ Q) h (fun v11 h => ?_)
        refine zi_goto 5 dX2_numberOf_42 (by decide) ?_
        refine zi_sub [3, 1, 0] rfl ?_
        exact ih _ _ h
noncomputable def D_numberOf (a0 : Int64) : Option Int32 :=
  D_numberOf_5 a0
    (fun (v2_12 : Int32) => some v2_12)
    x_F (0 : Int32) (24 : Int32)
theorem w_numberOf {a0 : Int64} {rz : Int32} (h : D_numberOf a0 = some rz) (hQ : Q (.inl (some (.int rz))) μ) : z_K g d YX2_numberOf [.long a0] μ Q := by
  unfold D_numberOf at h
  refine z_K.of (by decide) rfl (Nat.le_of_ble_eq_true rfl) ?_
  refine zi_iconst (v := 0) dX2_numberOf_0 (by decide) ?_
  refine zi_istore_n (lc1 := [(2, _), (0, _)]) dX2_numberOf_1 rfl (Nat.le_of_ble_eq_true rfl) rfl ?_
  refine zi_bipush (v := 24) dX2_numberOf_2 (by decide) ?_
  refine zi_istore_n (lc1 := [(3, _), (2, _), (0, _)]) dX2_numberOf_4 rfl (Nat.le_of_ble_eq_true rfl) rfl ?_
  refine zi_sub [2, 1, 0] rfl ?_
  refine w_numberOf_5 (fun v2_12 h => ?_) hQ _ _ _ h
  · refine zi_iload_n 0 dX2_numberOf_45 rfl rfl ?_
    refine zi_ireturn rfl rfl dX2_numberOf_46 ?_
    exact x_r1i h hQ
noncomputable def D_deedBy (a1 : Int64) : Option Int32 :=
  if (lg_cmp a1 (6386539 : Int64)) = 0 then (some (0 : Int32)) else
  if (lg_cmp a1 (440005915496 : Int64)) = 0 then (some (1 : Int32)) else
  if (lg_cmp a1 (2002872692 : Int64)) = 0 then (some (2 : Int32)) else
  if (lg_cmp a1 (6518132 : Int64)) = 0 then (some (3 : Int32)) else
  if (lg_cmp a1 (1835363940 : Int64)) = 0 then (some (4 : Int32)) else
  some (-1 : Int32)
theorem w_deedBy {a1 : Int64} {rz : Int32} (h : D_deedBy a1 = some rz) (hQ : Q (.inl (some (.int rz))) μ) : z_K g d YX2_deedBy [.ref b, .long a1] μ Q := by
  unfold D_deedBy at h
  refine z_K.of (by decide) rfl (Nat.le_of_ble_eq_true rfl) ?_
  refine zi_lload_n 1 dX2_deedBy_0 rfl rfl ?_
  refine zi_ldc2 (v := 6386539) q2540 dX2_deedBy_1 ?_
  refine zi_lcmp dX2_deedBy_4 ?_
  refine zi_if_ne 12 dX2_deedBy_5 (by decide) (fun c1 => ?_) (fun c1 => ?_)
  · replace h := x_iF h c1
    refine zi_lload_n 1 dX2_deedBy_12 rfl rfl ?_
    refine zi_ldc2 (v := 440005915496) q2541 dX2_deedBy_13 ?_
    refine zi_lcmp dX2_deedBy_16 ?_
    refine zi_if_ne 24 dX2_deedBy_17 (by decide) (fun c2 => ?_) (fun c2 => ?_)
    · replace h := x_iF h c2
      refine zi_lload_n 1 dX2_deedBy_24 rfl rfl ?_
      refine zi_ldc2 (v := 2002872692) q2542 dX2_deedBy_25 ?_
      refine zi_lcmp dX2_deedBy_28 ?_
      refine zi_if_ne 36 dX2_deedBy_29 (by decide) (fun c3 => ?_) (fun c3 => ?_)
      · replace h := x_iF h c3
        refine zi_lload_n 1 dX2_deedBy_36 rfl rfl ?_
        refine zi_ldc2 (v := 6518132) q2543 dX2_deedBy_37 ?_
        refine zi_lcmp dX2_deedBy_40 ?_
        refine zi_if_ne 48 dX2_deedBy_41 (by decide) (fun c4 => ?_) (fun c4 => ?_)
        · replace h := x_iF h c4
          refine zi_lload_n 1 dX2_deedBy_48 rfl rfl ?_
          refine zi_ldc2 (v := 1835363940) q2544 dX2_deedBy_49 ?_
          refine zi_lcmp dX2_deedBy_52 ?_
          refine zi_if_ne 60 dX2_deedBy_53 (by decide) (fun c5 => ?_) (fun c5 => ?_)
          · replace h := x_iF h c5
            refine zi_iconst (v := -1) dX2_deedBy_60 (by decide) ?_
            refine zi_ireturn rfl rfl dX2_deedBy_61 ?_
            exact x_r1i h hQ
          · replace h := x_iT h c5
            refine zi_iconst (v := 4) dX2_deedBy_56 (by decide) ?_
            refine zi_goto 61 dX2_deedBy_57 (by decide) ?_
            refine zi_ireturn rfl rfl dX2_deedBy_61 ?_
            exact x_r1i h hQ
        · replace h := x_iT h c4
          refine zi_iconst (v := 3) dX2_deedBy_44 (by decide) ?_
          refine zi_goto 61 dX2_deedBy_45 (by decide) ?_
          refine zi_ireturn rfl rfl dX2_deedBy_61 ?_
          exact x_r1i h hQ
      · replace h := x_iT h c3
        refine zi_iconst (v := 2) dX2_deedBy_32 (by decide) ?_
        refine zi_goto 61 dX2_deedBy_33 (by decide) ?_
        refine zi_ireturn rfl rfl dX2_deedBy_61 ?_
        exact x_r1i h hQ
    · replace h := x_iT h c2
      refine zi_iconst (v := 1) dX2_deedBy_20 (by decide) ?_
      refine zi_goto 61 dX2_deedBy_21 (by decide) ?_
      refine zi_ireturn rfl rfl dX2_deedBy_61 ?_
      exact x_r1i h hQ
  · replace h := x_iT h c1
    refine zi_iconst (v := 0) dX2_deedBy_8 (by decide) ?_
    refine zi_goto 61 dX2_deedBy_9 (by decide) ?_
    refine zi_ireturn rfl rfl dX2_deedBy_61 ?_
    exact x_r1i h hQ
noncomputable def D_keep_3 (ka na : Nat) (f2_1 : Int32) (f3_2 : Int32) (k30 : t_S → Option t_S) : Nat → Int32 → t_S → Option t_S
  | 0, _, _ => none
  | f + 1, v4_3, σ4 =>
    if f2_1 ≤ v4_3 then (k30 σ4) else
    x_ga v4_3 122 fun j7 =>
    x_ga ((f2_1 * f3_2) + v4_3) na fun j8 =>
    x_l (t_sa σ4 ka j8 (t_a σ4 18 j7)) fun σ9 =>
    x_l (v4_3 + (1 : Int32)) fun v10 =>
    D_keep_3 ka na f2_1 f3_2 k30 f v10 σ9
theorem w_keep_3 {ka na : Nat} (aj : Nat) (ha : t_arrs[aj]? = some (ka, na) ∧ t_k ka = 2) {f2_1 : Int32} {f3_2 : Int32}  {k30 : t_S → Option t_S} (hk30 : ∀ (σ5 : t_S), k30 σ5 = some σz → z_V g d YX2_keep 30 [] [] (t_m b σ5 μ) Q) (hQ : Q (.inl none) (t_m b σz μ)) : ∀ (f : Nat) (v4_3 : Int32) (σ4 : t_S), D_keep_3 ka na f2_1 f3_2 k30 f v4_3 σ4 = some σz → z_V g d YX2_keep 3 [(0, .ref b), (1, .ref (b + (aj + 1))), (2, .int f2_1), (3, .int f3_2), (4, .int v4_3)] [] (t_m b σ4 μ) Q := by
  intro f
  induction f with
  | zero =>
    intro v4_3 σ4 h
    exact absurd h (x_n _)
  | succ f ih =>
    intro v4_3 σ4 h
    refine zi_iload 4 dX2_keep_3 rfl ?_
    refine zi_iload_n 2 dX2_keep_5 rfl rfl ?_
    refine zi_icmp_ge 30 dX2_keep_6 (by decide) (fun c6 => ?_) (fun c6 => ?_)
    · replace h := x_iT h c6
      refine zi_sub [] rfl ?_
      exact hk30 _ h
    · replace h := x_iF h c6
      refine zi_aload_n 1 dX2_keep_9 rfl rfl ?_
      refine zi_iload_n 2 dX2_keep_10 rfl rfl ?_
      refine zi_iload_n 3 dX2_keep_11 rfl rfl ?_
      refine zi_imul dX2_keep_12 ?_
      refine zi_iload 4 dX2_keep_13 rfl ?_
      refine zi_iadd dX2_keep_15 ?_
      refine zi_aload_n 0 dX2_keep_16 rfl rfl ?_
      refine ti_getA 18 9 t_o18 q2188 dX2_keep_17 ?_
      refine zi_iload 4 dX2_keep_20 rfl ?_
      obtain ⟨j7, hj7, h⟩ := x_gaE h
      refine ti_iald 18 j7 122 8 ⟨rfl, rfl⟩ hj7 dX2_keep_22 ?_
      obtain ⟨j8, hj8, h⟩ := x_gaE h
      refine ti_iast ka j8 na aj ha hj8 dX2_keep_23 ?_
      refine x_lI (fun σ9 => z_V g d YX2_keep 24 [(0, .ref b), (1, .ref (b + (aj + 1))), (2, .int f2_1), (3, .int f3_2), (4, .int v4_3)] [] (t_m b σ9 μ) Q) h (fun σ9 h => ?_)
      refine zi_iinc (v := (v4_3 + (1 : Int32))) (lc1 := [(4, _), (0, _), (1, _), (2, _), (3, _)]) 4 dX2_keep_24 rfl rfl (Nat.le_of_ble_eq_true rfl) rfl ?_
      refine x_lI (fun v10 => z_V g d YX2_keep 27 [(4, .int v10), (0, .ref b), (1, .ref (b + (aj + 1))), (2, .int f2_1), (3, .int f3_2)] [] (t_m b σ9 μ) Q) h (fun v10 h => ?_)
      refine zi_goto 3 dX2_keep_27 (by decide) ?_
      refine zi_sub [1, 2, 3, 4, 0] rfl ?_
      exact ih _ _ h
noncomputable def D_keep (ka na : Nat) (a2 : Int32) (a3 : Int32) (σ : t_S) : Option t_S :=
  D_keep_3 ka na a2 a3
    (fun (σ11 : t_S) => some σ11)
    x_F (0 : Int32) σ
theorem w_keep {ka na : Nat} (aj : Nat) (ha : t_arrs[aj]? = some (ka, na) ∧ t_k ka = 2) {a2 : Int32} {a3 : Int32}  (h : D_keep ka na a2 a3 σ = some σz) (hQ : Q (.inl none) (t_m b σz μ)) : z_K g d YX2_keep [.ref b, .ref (b + (aj + 1)), .int a2, .int a3] (t_m b σ μ) Q := by
  unfold D_keep at h
  refine z_K.of (by decide) rfl (Nat.le_of_ble_eq_true rfl) ?_
  refine zi_iconst (v := 0) dX2_keep_0 (by decide) ?_
  refine zi_istore (lc1 := [(4, _), (0, _), (1, _), (2, _), (3, _)]) dX2_keep_1 (Nat.le_of_ble_eq_true rfl) rfl ?_
  refine zi_sub [1, 2, 3, 4, 0] rfl ?_
  refine w_keep_3 aj ha (fun σ11 h => ?_) hQ _ _ _ h
  · refine zi_return rfl dX2_keep_30 ?_
    exact x_r0 h hQ
noncomputable def D_fault (a1 : Int32) (σ : t_S) : Option (Int32 × t_S) :=
  x_l (t_si σ 0 (0 : Int32)) fun σ1 =>
  if a1 = 0 then (x_ga (0 : Int32) 4 fun j5 =>
  some ((t_a σ1 3 j5), σ1)) else
  if a1 = (1 : Int32) then (x_ga (0 : Int32) 4 fun j4 =>
  some ((t_a σ1 4 j4), σ1)) else
  some ((-1 : Int32), σ1)
theorem w_fault {a1 : Int32} {rz : Int32} (h : D_fault a1 σ = some (rz, σz)) (hQ : Q (.inl (some (.int rz))) (t_m b σz μ)) : z_K g d YX2_fault [.ref b, .int a1] (t_m b σ μ) Q := by
  unfold D_fault at h
  refine z_K.of (by decide) rfl (Nat.le_of_ble_eq_true rfl) ?_
  refine zi_aload_n 0 dX2_fault_0 rfl rfl ?_
  refine zi_iconst (v := 0) dX2_fault_1 (by decide) ?_
  refine ti_putI 0 ⟨Nat.le_of_ble_eq_true rfl, rfl, rfl⟩ (tyX2_ok 0 (Nat.le_of_ble_eq_true rfl)) q2170 dX2_fault_2 ?_
  refine x_lI (fun σ1 => z_V g d YX2_fault 5 [(0, .ref b), (1, .int a1)] [] (t_m b σ1 μ) Q) h (fun σ1 h => ?_)
  refine zi_iload_n 1 dX2_fault_5 rfl rfl ?_
  refine zi_if_ne 18 dX2_fault_6 (by decide) (fun c2 => ?_) (fun c2 => ?_)
  · replace h := x_iF h c2
    refine zi_iload_n 1 dX2_fault_18 rfl rfl ?_
    refine zi_iconst (v := 1) dX2_fault_19 (by decide) ?_
    refine zi_icmp_ne 32 dX2_fault_20 (by decide) (fun c3 => ?_) (fun c3 => ?_)
    · replace h := x_iF h c3
      refine zi_iconst (v := -1) dX2_fault_32 (by decide) ?_
      refine zi_ireturn rfl rfl dX2_fault_33 ?_
      exact x_r2i h hQ
    · replace h := x_iT h c3
      refine zi_aload_n 0 dX2_fault_23 rfl rfl ?_
      refine ti_getA 4 4 t_o4 q2174 dX2_fault_24 ?_
      refine zi_iconst (v := 0) dX2_fault_27 (by decide) ?_
      obtain ⟨j4, hj4, h⟩ := x_gaE h
      refine ti_iald 4 j4 4 3 ⟨rfl, rfl⟩ hj4 dX2_fault_28 ?_
      refine zi_goto 33 dX2_fault_29 (by decide) ?_
      refine zi_ireturn rfl rfl dX2_fault_33 ?_
      exact x_r2i h hQ
  · replace h := x_iT h c2
    refine zi_aload_n 0 dX2_fault_9 rfl rfl ?_
    refine ti_getA 3 3 t_o3 q2173 dX2_fault_10 ?_
    refine zi_iconst (v := 0) dX2_fault_13 (by decide) ?_
    obtain ⟨j5, hj5, h⟩ := x_gaE h
    refine ti_iald 3 j5 4 2 ⟨rfl, rfl⟩ hj5 dX2_fault_14 ?_
    refine zi_goto 33 dX2_fault_15 (by decide) ?_
    refine zi_ireturn rfl rfl dX2_fault_33 ?_
    exact x_r2i h hQ
noncomputable def D_ofNet (a1 : Int32) (σ : t_S) : Option Int32 :=
  x_ga (((122 : Int32) * (t_i σ 22)) + a1) 976 fun j1 =>
  some (t_a σ 6 j1)
theorem w_ofNet {a1 : Int32} {rz : Int32} (h : D_ofNet a1 σ = some rz) (hQ : Q (.inl (some (.int rz))) (t_m b σ μ)) : z_K g d YX2_ofNet [.ref b, .int a1] (t_m b σ μ) Q := by
  unfold D_ofNet at h
  refine z_K.of (by decide) rfl (Nat.le_of_ble_eq_true rfl) ?_
  refine zi_aload_n 0 dX2_ofNet_0 rfl rfl ?_
  refine ti_getA 6 6 t_o6 q2176 dX2_ofNet_1 ?_
  refine zi_bipush (v := 122) dX2_ofNet_4 (by decide) ?_
  refine zi_aload_n 0 dX2_ofNet_6 rfl rfl ?_
  refine ti_getI 22 ⟨Nat.le_of_ble_eq_true rfl, rfl⟩ q2192 dX2_ofNet_7 ?_
  refine zi_imul dX2_ofNet_10 ?_
  refine zi_iload_n 1 dX2_ofNet_11 rfl rfl ?_
  refine zi_iadd dX2_ofNet_12 ?_
  obtain ⟨j1, hj1, h⟩ := x_gaE h
  refine ti_iald 6 j1 976 5 ⟨rfl, rfl⟩ hj1 dX2_ofNet_13 ?_
  refine zi_ireturn rfl rfl dX2_ofNet_14 ?_
  exact x_r1i h hQ
noncomputable def D_deeds  (σ : t_S) : Option Int32 :=
  x_ga ((121 : Int32) * (t_i σ 75)) 968 fun j1 =>
  some (t_a σ 7 j1)
theorem w_deeds  {rz : Int32} (h : D_deeds σ = some rz) (hQ : Q (.inl (some (.int rz))) (t_m b σ μ)) : z_K g d YX2_deeds [.ref b] (t_m b σ μ) Q := by
  unfold D_deeds at h
  refine z_K.of (by decide) rfl (Nat.le_of_ble_eq_true rfl) ?_
  refine zi_aload_n 0 dX2_deeds_0 rfl rfl ?_
  refine ti_getA 7 7 t_o7 q2177 dX2_deeds_1 ?_
  refine zi_bipush (v := 121) dX2_deeds_4 (by decide) ?_
  refine zi_aload_n 0 dX2_deeds_6 rfl rfl ?_
  refine ti_getI 75 ⟨Nat.le_of_ble_eq_true rfl, rfl⟩ q2245 dX2_deeds_7 ?_
  refine zi_imul dX2_deeds_10 ?_
  obtain ⟨j1, hj1, h⟩ := x_gaE h
  refine ti_iald 7 j1 968 6 ⟨rfl, rfl⟩ hj1 dX2_deeds_11 ?_
  refine zi_ireturn rfl rfl dX2_deeds_12 ?_
  exact x_r1i h hQ
noncomputable def D_deedOf (a1 : Int32) (a2 : Int32) (σ : t_S) : Option Int32 :=
  x_ga (((((121 : Int32) * (t_i σ 75)) + (1 : Int32)) + ((3 : Int32) * a1)) + a2) 968 fun j1 =>
  some (t_a σ 7 j1)
theorem w_deedOf {a1 : Int32} {a2 : Int32} {rz : Int32} (h : D_deedOf a1 a2 σ = some rz) (hQ : Q (.inl (some (.int rz))) (t_m b σ μ)) : z_K g d YX2_deedOf [.ref b, .int a1, .int a2] (t_m b σ μ) Q := by
  unfold D_deedOf at h
  refine z_K.of (by decide) rfl (Nat.le_of_ble_eq_true rfl) ?_
  refine zi_aload_n 0 dX2_deedOf_0 rfl rfl ?_
  refine ti_getA 7 7 t_o7 q2177 dX2_deedOf_1 ?_
  refine zi_bipush (v := 121) dX2_deedOf_4 (by decide) ?_
  refine zi_aload_n 0 dX2_deedOf_6 rfl rfl ?_
  refine ti_getI 75 ⟨Nat.le_of_ble_eq_true rfl, rfl⟩ q2245 dX2_deedOf_7 ?_
  refine zi_imul dX2_deedOf_10 ?_
  refine zi_iconst (v := 1) dX2_deedOf_11 (by decide) ?_
  refine zi_iadd dX2_deedOf_12 ?_
  refine zi_iconst (v := 3) dX2_deedOf_13 (by decide) ?_
  refine zi_iload_n 1 dX2_deedOf_14 rfl rfl ?_
  refine zi_imul dX2_deedOf_15 ?_
  refine zi_iadd dX2_deedOf_16 ?_
  refine zi_iload_n 2 dX2_deedOf_17 rfl rfl ?_
  refine zi_iadd dX2_deedOf_18 ?_
  obtain ⟨j1, hj1, h⟩ := x_gaE h
  refine ti_iald 7 j1 968 6 ⟨rfl, rfl⟩ hj1 dX2_deedOf_19 ?_
  refine zi_ireturn rfl rfl dX2_deedOf_20 ?_
  exact x_r1i h hQ
noncomputable def D_entryOf_3 (f1_1 : Int32) (f2_2 : Int32) (f3_3 : Int32) (σ : t_S) (k60 : Option Int32) : Nat → Int32 → Option Int32
  | 0, _ => none
  | f + 1, v4_4 =>
    x_ga f1_1 6 fun j6 =>
    if (t_a σ 34 j6) ≤ v4_4 then (k60) else
    x_ga (((64 : Int32) * f1_1) + v4_4) 384 fun j8 =>
    if (t_a σ 35 j8) = f2_2 then (x_ga (((64 : Int32) * f1_1) + v4_4) 384 fun j11 =>
    if (t_a σ 36 j11) = f3_3 then (some (((64 : Int32) * f1_1) + v4_4)) else
    x_l (v4_4 + (1 : Int32)) fun v13 =>
    D_entryOf_3 f1_1 f2_2 f3_3 σ k60 f v13) else
    x_l (v4_4 + (1 : Int32)) fun v10 =>
    D_entryOf_3 f1_1 f2_2 f3_3 σ k60 f v10
theorem w_entryOf_3 {f1_1 : Int32} {f2_2 : Int32} {f3_3 : Int32} {σ : t_S} {rz : Int32} {k60 : Option Int32} (hk60 : k60 = some rz → z_V g d YX2_entryOf 60 [] [] (t_m b σ μ) Q) (hQ : Q (.inl (some (.int rz))) (t_m b σ μ)) : ∀ (f : Nat) (v4_4 : Int32), D_entryOf_3 f1_1 f2_2 f3_3 σ k60 f v4_4 = some rz → z_V g d YX2_entryOf 3 [(0, .ref b), (1, .int f1_1), (2, .int f2_2), (3, .int f3_3), (4, .int v4_4)] [] (t_m b σ μ) Q := by
  intro f
  induction f with
  | zero =>
    intro v4_4 h
    exact absurd h (x_n _)
  | succ f ih =>
    intro v4_4 h
    refine zi_iload 4 dX2_entryOf_3 rfl ?_
    refine zi_aload_n 0 dX2_entryOf_5 rfl rfl ?_
    refine ti_getA 34 18 t_o34 q2204 dX2_entryOf_6 ?_
    refine zi_iload_n 1 dX2_entryOf_9 rfl rfl ?_
    obtain ⟨j6, hj6, h⟩ := x_gaE h
    refine ti_iald 34 j6 6 17 ⟨rfl, rfl⟩ hj6 dX2_entryOf_10 ?_
    refine zi_icmp_ge 60 dX2_entryOf_11 (by decide) (fun c7 => ?_) (fun c7 => ?_)
    · replace h := x_iT h c7
      refine zi_sub [] rfl ?_
      exact hk60  h
    · replace h := x_iF h c7
      refine zi_aload_n 0 dX2_entryOf_14 rfl rfl ?_
      refine ti_getA 35 19 t_o35 q2205 dX2_entryOf_15 ?_
      refine zi_bipush (v := 64) dX2_entryOf_18 (by decide) ?_
      refine zi_iload_n 1 dX2_entryOf_20 rfl rfl ?_
      refine zi_imul dX2_entryOf_21 ?_
      refine zi_iload 4 dX2_entryOf_22 rfl ?_
      refine zi_iadd dX2_entryOf_24 ?_
      obtain ⟨j8, hj8, h⟩ := x_gaE h
      refine ti_iald 35 j8 384 18 ⟨rfl, rfl⟩ hj8 dX2_entryOf_25 ?_
      refine zi_iload_n 2 dX2_entryOf_26 rfl rfl ?_
      refine zi_icmp_ne 54 dX2_entryOf_27 (by decide) (fun c9 => ?_) (fun c9 => ?_)
      · replace h := x_iF h c9
        refine zi_iinc (v := (v4_4 + (1 : Int32))) (lc1 := [(4, _), (0, _), (1, _), (2, _), (3, _)]) 4 dX2_entryOf_54 rfl rfl (Nat.le_of_ble_eq_true rfl) rfl ?_
        refine x_lI (fun v10 => z_V g d YX2_entryOf 57 [(4, .int v10), (0, .ref b), (1, .int f1_1), (2, .int f2_2), (3, .int f3_3)] [] (t_m b σ μ) Q) h (fun v10 h => ?_)
        refine zi_goto 3 dX2_entryOf_57 (by decide) ?_
        refine zi_sub [1, 2, 3, 4, 0] rfl ?_
        exact ih _ h
      · replace h := x_iT h c9
        refine zi_aload_n 0 dX2_entryOf_30 rfl rfl ?_
        refine ti_getA 36 20 t_o36 q2206 dX2_entryOf_31 ?_
        refine zi_bipush (v := 64) dX2_entryOf_34 (by decide) ?_
        refine zi_iload_n 1 dX2_entryOf_36 rfl rfl ?_
        refine zi_imul dX2_entryOf_37 ?_
        refine zi_iload 4 dX2_entryOf_38 rfl ?_
        refine zi_iadd dX2_entryOf_40 ?_
        obtain ⟨j11, hj11, h⟩ := x_gaE h
        refine ti_iald 36 j11 384 19 ⟨rfl, rfl⟩ hj11 dX2_entryOf_41 ?_
        refine zi_iload_n 3 dX2_entryOf_42 rfl rfl ?_
        refine zi_icmp_ne 54 dX2_entryOf_43 (by decide) (fun c12 => ?_) (fun c12 => ?_)
        · replace h := x_iF h c12
          refine zi_iinc (v := (v4_4 + (1 : Int32))) (lc1 := [(4, _), (0, _), (1, _), (2, _), (3, _)]) 4 dX2_entryOf_54 rfl rfl (Nat.le_of_ble_eq_true rfl) rfl ?_
          refine x_lI (fun v13 => z_V g d YX2_entryOf 57 [(4, .int v13), (0, .ref b), (1, .int f1_1), (2, .int f2_2), (3, .int f3_3)] [] (t_m b σ μ) Q) h (fun v13 h => ?_)
          refine zi_goto 3 dX2_entryOf_57 (by decide) ?_
          refine zi_sub [1, 2, 3, 4, 0] rfl ?_
          exact ih _ h
        · replace h := x_iT h c12
          refine zi_bipush (v := 64) dX2_entryOf_46 (by decide) ?_
          refine zi_iload_n 1 dX2_entryOf_48 rfl rfl ?_
          refine zi_imul dX2_entryOf_49 ?_
          refine zi_iload 4 dX2_entryOf_50 rfl ?_
          refine zi_iadd dX2_entryOf_52 ?_
          refine zi_ireturn rfl rfl dX2_entryOf_53 ?_
          exact x_r1i h hQ
noncomputable def D_entryOf (a1 : Int32) (a2 : Int32) (a3 : Int32) (σ : t_S) : Option Int32 :=
  D_entryOf_3 a1 a2 a3 σ
    (some (-1 : Int32))
    x_F (0 : Int32)
theorem w_entryOf {a1 : Int32} {a2 : Int32} {a3 : Int32} {rz : Int32} (h : D_entryOf a1 a2 a3 σ = some rz) (hQ : Q (.inl (some (.int rz))) (t_m b σ μ)) : z_K g d YX2_entryOf [.ref b, .int a1, .int a2, .int a3] (t_m b σ μ) Q := by
  unfold D_entryOf at h
  refine z_K.of (by decide) rfl (Nat.le_of_ble_eq_true rfl) ?_
  refine zi_iconst (v := 0) dX2_entryOf_0 (by decide) ?_
  refine zi_istore (lc1 := [(4, _), (0, _), (1, _), (2, _), (3, _)]) dX2_entryOf_1 (Nat.le_of_ble_eq_true rfl) rfl ?_
  refine zi_sub [1, 2, 3, 4, 0] rfl ?_
  refine w_entryOf_3 (fun  h => ?_) hQ _ _ h
  · refine zi_iconst (v := -1) dX2_entryOf_60 (by decide) ?_
    refine zi_ireturn rfl rfl dX2_entryOf_61 ?_
    exact x_r1i h hQ
noncomputable def D_storedAt_2 (f1_1 : Int32) (f2_2 : Int32) (σ : t_S) (k35 : Option Int32) : Nat → Int32 → Option Int32
  | 0, _ => none
  | f + 1, v3_3 =>
    x_ga f1_1 6 fun j5 =>
    if (t_a σ 30 j5) ≤ v3_3 then (k35) else
    x_ga (((6 : Int32) * f1_1) + v3_3) 36 fun j7 =>
    if (t_a σ 31 j7) = f2_2 then (some v3_3) else
    x_l (v3_3 + (1 : Int32)) fun v9 =>
    D_storedAt_2 f1_1 f2_2 σ k35 f v9
theorem w_storedAt_2 {f1_1 : Int32} {f2_2 : Int32} {σ : t_S} {rz : Int32} {k35 : Option Int32} (hk35 : k35 = some rz → z_V g d YX2_storedAt 35 [] [] (t_m b σ μ) Q) (hQ : Q (.inl (some (.int rz))) (t_m b σ μ)) : ∀ (f : Nat) (v3_3 : Int32), D_storedAt_2 f1_1 f2_2 σ k35 f v3_3 = some rz → z_V g d YX2_storedAt 2 [(0, .ref b), (1, .int f1_1), (2, .int f2_2), (3, .int v3_3)] [] (t_m b σ μ) Q := by
  intro f
  induction f with
  | zero =>
    intro v3_3 h
    exact absurd h (x_n _)
  | succ f ih =>
    intro v3_3 h
    refine zi_iload_n 3 dX2_storedAt_2 rfl rfl ?_
    refine zi_aload_n 0 dX2_storedAt_3 rfl rfl ?_
    refine ti_getA 30 14 t_o30 q2200 dX2_storedAt_4 ?_
    refine zi_iload_n 1 dX2_storedAt_7 rfl rfl ?_
    obtain ⟨j5, hj5, h⟩ := x_gaE h
    refine ti_iald 30 j5 6 13 ⟨rfl, rfl⟩ hj5 dX2_storedAt_8 ?_
    refine zi_icmp_ge 35 dX2_storedAt_9 (by decide) (fun c6 => ?_) (fun c6 => ?_)
    · replace h := x_iT h c6
      refine zi_sub [] rfl ?_
      exact hk35  h
    · replace h := x_iF h c6
      refine zi_aload_n 0 dX2_storedAt_12 rfl rfl ?_
      refine ti_getA 31 15 t_o31 q2201 dX2_storedAt_13 ?_
      refine zi_bipush (v := 6) dX2_storedAt_16 (by decide) ?_
      refine zi_iload_n 1 dX2_storedAt_18 rfl rfl ?_
      refine zi_imul dX2_storedAt_19 ?_
      refine zi_iload_n 3 dX2_storedAt_20 rfl rfl ?_
      refine zi_iadd dX2_storedAt_21 ?_
      obtain ⟨j7, hj7, h⟩ := x_gaE h
      refine ti_iald 31 j7 36 14 ⟨rfl, rfl⟩ hj7 dX2_storedAt_22 ?_
      refine zi_iload_n 2 dX2_storedAt_23 rfl rfl ?_
      refine zi_icmp_ne 29 dX2_storedAt_24 (by decide) (fun c8 => ?_) (fun c8 => ?_)
      · replace h := x_iF h c8
        refine zi_iinc (v := (v3_3 + (1 : Int32))) (lc1 := [(3, _), (0, _), (1, _), (2, _)]) 3 dX2_storedAt_29 rfl rfl (Nat.le_of_ble_eq_true rfl) rfl ?_
        refine x_lI (fun v9 => z_V g d YX2_storedAt 32 [(3, .int v9), (0, .ref b), (1, .int f1_1), (2, .int f2_2)] [] (t_m b σ μ) Q) h (fun v9 h => ?_)
        refine zi_goto 2 dX2_storedAt_32 (by decide) ?_
        refine zi_sub [1, 2, 3, 0] rfl ?_
        exact ih _ h
      · replace h := x_iT h c8
        refine zi_iload_n 3 dX2_storedAt_27 rfl rfl ?_
        refine zi_ireturn rfl rfl dX2_storedAt_28 ?_
        exact x_r1i h hQ
noncomputable def D_storedAt (a1 : Int32) (a2 : Int32) (σ : t_S) : Option Int32 :=
  D_storedAt_2 a1 a2 σ
    (some (-1 : Int32))
    x_F (0 : Int32)
theorem w_storedAt {a1 : Int32} {a2 : Int32} {rz : Int32} (h : D_storedAt a1 a2 σ = some rz) (hQ : Q (.inl (some (.int rz))) (t_m b σ μ)) : z_K g d YX2_storedAt [.ref b, .int a1, .int a2] (t_m b σ μ) Q := by
  unfold D_storedAt at h
  refine z_K.of (by decide) rfl (Nat.le_of_ble_eq_true rfl) ?_
  refine zi_iconst (v := 0) dX2_storedAt_0 (by decide) ?_
  refine zi_istore_n (lc1 := [(3, _), (0, _), (1, _), (2, _)]) dX2_storedAt_1 rfl (Nat.le_of_ble_eq_true rfl) rfl ?_
  refine zi_sub [1, 2, 3, 0] rfl ?_
  refine w_storedAt_2 (fun  h => ?_) hQ _ _ h
  · refine zi_iconst (v := -1) dX2_storedAt_35 (by decide) ?_
    refine zi_ireturn rfl rfl dX2_storedAt_36 ?_
    exact x_r1i h hQ
noncomputable def D_hasL (a0 : Int64) (a2 : Int32) : Option Int32 :=
  if (lg_cmp ((a0 >>> ((a2).toInt64 &&& 63)) &&& (1 : Int64)) (1 : Int64)) = 0 then (some (1 : Int32)) else
  some (0 : Int32)
theorem w_hasL {a0 : Int64} {a2 : Int32} {rz : Int32} (h : D_hasL a0 a2 = some rz) (hQ : Q (.inl (some (.int rz))) μ) : z_K g d YX2_hasL [.long a0, .int a2] μ Q := by
  unfold D_hasL at h
  refine z_K.of (by decide) rfl (Nat.le_of_ble_eq_true rfl) ?_
  refine zi_lload_n 0 dX2_hasL_0 rfl rfl ?_
  refine zi_iload_n 1 dX2_hasL_1 rfl rfl ?_
  refine zi_lshr (v := (a0 >>> ((a2).toInt64 &&& 63))) dX2_hasL_2 rfl ?_
  refine zi_lconst (v := 1) dX2_hasL_3 (by decide) ?_
  refine zi_land dX2_hasL_4 ?_
  refine zi_lconst (v := 1) dX2_hasL_5 (by decide) ?_
  refine zi_lcmp dX2_hasL_6 ?_
  refine zi_if_ne 14 dX2_hasL_7 (by decide) (fun c1 => ?_) (fun c1 => ?_)
  · replace h := x_iF h c1
    refine zi_iconst (v := 0) dX2_hasL_14 (by decide) ?_
    refine zi_ireturn rfl rfl dX2_hasL_15 ?_
    exact x_r1i h hQ
  · replace h := x_iT h c1
    refine zi_iconst (v := 1) dX2_hasL_10 (by decide) ?_
    refine zi_goto 15 dX2_hasL_11 (by decide) ?_
    refine zi_ireturn rfl rfl dX2_hasL_15 ?_
    exact x_r1i h hQ
noncomputable def D_refused (a1 : Int32) (σ : t_S) : Option t_S :=
  x_ga a1 64 fun j1 =>
  x_l (t_sa σ 57 j1 (2 : Int32)) fun σ2 =>
  x_ga a1 64 fun j3 =>
  x_l (t_sa σ2 58 j3 (t_i σ2 27)) fun σ4 =>
  x_ga a1 64 fun j5 =>
  x_l (t_sa σ4 62 j5 (t_i σ4 71)) fun σ6 =>
  x_ga a1 64 fun j7 =>
  x_l (t_sa σ6 63 j7 (t_i σ6 72)) fun σ8 =>
  x_ga a1 64 fun j9 =>
  x_l (t_sa σ8 64 j9 (t_i σ8 73)) fun σ10 =>
  some σ10
theorem w_refused {a1 : Int32}  (h : D_refused a1 σ = some σz) (hQ : Q (.inl none) (t_m b σz μ)) : z_K g d YX2_refused [.ref b, .int a1] (t_m b σ μ) Q := by
  unfold D_refused at h
  refine z_K.of (by decide) rfl (Nat.le_of_ble_eq_true rfl) ?_
  refine zi_aload_n 0 dX2_refused_0 rfl rfl ?_
  refine ti_getA 57 40 t_o57 q2227 dX2_refused_1 ?_
  refine zi_iload_n 1 dX2_refused_4 rfl rfl ?_
  refine zi_iconst (v := 2) dX2_refused_5 (by decide) ?_
  obtain ⟨j1, hj1, h⟩ := x_gaE h
  refine ti_iast 57 j1 64 39 ⟨rfl, rfl⟩ hj1 dX2_refused_6 ?_
  refine x_lI (fun σ2 => z_V g d YX2_refused 7 [(0, .ref b), (1, .int a1)] [] (t_m b σ2 μ) Q) h (fun σ2 h => ?_)
  refine zi_aload_n 0 dX2_refused_7 rfl rfl ?_
  refine ti_getA 58 41 t_o58 q2228 dX2_refused_8 ?_
  refine zi_iload_n 1 dX2_refused_11 rfl rfl ?_
  refine zi_aload_n 0 dX2_refused_12 rfl rfl ?_
  refine ti_getI 27 ⟨Nat.le_of_ble_eq_true rfl, rfl⟩ q2197 dX2_refused_13 ?_
  obtain ⟨j3, hj3, h⟩ := x_gaE h
  refine ti_iast 58 j3 64 40 ⟨rfl, rfl⟩ hj3 dX2_refused_16 ?_
  refine x_lI (fun σ4 => z_V g d YX2_refused 17 [(0, .ref b), (1, .int a1)] [] (t_m b σ4 μ) Q) h (fun σ4 h => ?_)
  refine zi_aload_n 0 dX2_refused_17 rfl rfl ?_
  refine ti_getA 62 45 t_o62 q2232 dX2_refused_18 ?_
  refine zi_iload_n 1 dX2_refused_21 rfl rfl ?_
  refine zi_aload_n 0 dX2_refused_22 rfl rfl ?_
  refine ti_getI 71 ⟨Nat.le_of_ble_eq_true rfl, rfl⟩ q2241 dX2_refused_23 ?_
  obtain ⟨j5, hj5, h⟩ := x_gaE h
  refine ti_iast 62 j5 64 44 ⟨rfl, rfl⟩ hj5 dX2_refused_26 ?_
  refine x_lI (fun σ6 => z_V g d YX2_refused 27 [(0, .ref b), (1, .int a1)] [] (t_m b σ6 μ) Q) h (fun σ6 h => ?_)
  refine zi_aload_n 0 dX2_refused_27 rfl rfl ?_
  refine ti_getA 63 46 t_o63 q2233 dX2_refused_28 ?_
  refine zi_iload_n 1 dX2_refused_31 rfl rfl ?_
  refine zi_aload_n 0 dX2_refused_32 rfl rfl ?_
  refine ti_getI 72 ⟨Nat.le_of_ble_eq_true rfl, rfl⟩ q2242 dX2_refused_33 ?_
  obtain ⟨j7, hj7, h⟩ := x_gaE h
  refine ti_iast 63 j7 64 45 ⟨rfl, rfl⟩ hj7 dX2_refused_36 ?_
  refine x_lI (fun σ8 => z_V g d YX2_refused 37 [(0, .ref b), (1, .int a1)] [] (t_m b σ8 μ) Q) h (fun σ8 h => ?_)
  refine zi_aload_n 0 dX2_refused_37 rfl rfl ?_
  refine ti_getA 64 47 t_o64 q2234 dX2_refused_38 ?_
  refine zi_iload_n 1 dX2_refused_41 rfl rfl ?_
  refine zi_aload_n 0 dX2_refused_42 rfl rfl ?_
  refine ti_getI 73 ⟨Nat.le_of_ble_eq_true rfl, rfl⟩ q2243 dX2_refused_43 ?_
  obtain ⟨j9, hj9, h⟩ := x_gaE h
  refine ti_iast 64 j9 64 46 ⟨rfl, rfl⟩ hj9 dX2_refused_46 ?_
  refine x_lI (fun σ10 => z_V g d YX2_refused 47 [(0, .ref b), (1, .int a1)] [] (t_m b σ10 μ) Q) h (fun σ10 h => ?_)
  refine zi_return rfl dX2_refused_47 ?_
  exact x_r0 h hQ
noncomputable def D_has (a0 : Int32) (a1 : Int32) : Option Int32 :=
  if ((a0 >>> (a1 &&& 31)) &&& (1 : Int32)) = (1 : Int32) then (some (1 : Int32)) else
  some (0 : Int32)
theorem w_has {a0 : Int32} {a1 : Int32} {rz : Int32} (h : D_has a0 a1 = some rz) (hQ : Q (.inl (some (.int rz))) μ) : z_K g d YX2_has [.int a0, .int a1] μ Q := by
  unfold D_has at h
  refine z_K.of (by decide) rfl (Nat.le_of_ble_eq_true rfl) ?_
  refine zi_iload_n 0 dX2_has_0 rfl rfl ?_
  refine zi_iload_n 1 dX2_has_1 rfl rfl ?_
  refine zi_ishr dX2_has_2 ?_
  refine zi_iconst (v := 1) dX2_has_3 (by decide) ?_
  refine zi_iand dX2_has_4 ?_
  refine zi_iconst (v := 1) dX2_has_5 (by decide) ?_
  refine zi_icmp_ne 13 dX2_has_6 (by decide) (fun c1 => ?_) (fun c1 => ?_)
  · replace h := x_iF h c1
    refine zi_iconst (v := 0) dX2_has_13 (by decide) ?_
    refine zi_ireturn rfl rfl dX2_has_14 ?_
    exact x_r1i h hQ
  · replace h := x_iT h c1
    refine zi_iconst (v := 1) dX2_has_9 (by decide) ?_
    refine zi_goto 14 dX2_has_10 (by decide) ?_
    refine zi_ireturn rfl rfl dX2_has_14 ?_
    exact x_r1i h hQ
noncomputable def D_takesOut_12 (f1_4 : Int32) (k100 : t_S → Option t_S) : Nat → Int32 → t_S → Option t_S
  | 0, _, _ => none
  | f + 1, v3_5, σ6 =>
    x_ga f1_4 6 fun j8 =>
    if (t_a σ6 30 j8) ≤ v3_5 then (k100 σ6) else
    x_ga ((((6 : Int32) * f1_4) + v3_5) + (1 : Int32)) 36 fun j10 =>
    x_ga (((6 : Int32) * f1_4) + v3_5) 36 fun j11 =>
    x_l (t_sa σ6 31 j11 (t_a σ6 31 j10)) fun σ12 =>
    x_ga ((((6 : Int32) * f1_4) + v3_5) + (1 : Int32)) 36 fun j13 =>
    x_ga (((6 : Int32) * f1_4) + v3_5) 36 fun j14 =>
    x_l (t_sa σ12 32 j14 (t_a σ12 32 j13)) fun σ15 =>
    x_ga ((((6 : Int32) * f1_4) + v3_5) + (1 : Int32)) 36 fun j16 =>
    x_ga (((6 : Int32) * f1_4) + v3_5) 36 fun j17 =>
    x_l (t_sa σ15 33 j17 (t_a σ15 33 j16)) fun σ18 =>
    x_l (v3_5 + (1 : Int32)) fun v19 =>
    D_takesOut_12 f1_4 k100 f v19 σ18
theorem w_takesOut_12 {f1_4 : Int32}  {k100 : t_S → Option t_S} (hk100 : ∀ (σ7 : t_S), k100 σ7 = some σz → z_V g d YX2_takesOut 100 [] [] (t_m b σ7 μ) Q) (hQ : Q (.inl none) (t_m b σz μ)) : ∀ (f : Nat) (v3_5 : Int32) (σ6 : t_S), D_takesOut_12 f1_4 k100 f v3_5 σ6 = some σz → z_V g d YX2_takesOut 12 [(0, .ref b), (1, .int f1_4), (3, .int v3_5)] [] (t_m b σ6 μ) Q := by
  intro f
  induction f with
  | zero =>
    intro v3_5 σ6 h
    exact absurd h (x_n _)
  | succ f ih =>
    intro v3_5 σ6 h
    refine zi_iload_n 2 dX2_takesOut_12 rfl rfl ?_
    refine zi_aload_n 0 dX2_takesOut_13 rfl rfl ?_
    refine ti_getA 30 14 t_o30 q2200 dX2_takesOut_14 ?_
    refine zi_iload_n 1 dX2_takesOut_17 rfl rfl ?_
    obtain ⟨j8, hj8, h⟩ := x_gaE h
    refine ti_iald 30 j8 6 13 ⟨rfl, rfl⟩ hj8 dX2_takesOut_18 ?_
    refine zi_icmp_ge 100 dX2_takesOut_19 (by decide) (fun c9 => ?_) (fun c9 => ?_)
    · replace h := x_iT h c9
      refine zi_sub [] rfl ?_
      exact hk100 _ h
    · replace h := x_iF h c9
      refine zi_aload_n 0 dX2_takesOut_22 rfl rfl ?_
      refine ti_getA 31 15 t_o31 q2201 dX2_takesOut_23 ?_
      refine zi_bipush (v := 6) dX2_takesOut_26 (by decide) ?_
      refine zi_iload_n 1 dX2_takesOut_28 rfl rfl ?_
      refine zi_imul dX2_takesOut_29 ?_
      refine zi_iload_n 2 dX2_takesOut_30 rfl rfl ?_
      refine zi_iadd dX2_takesOut_31 ?_
      refine zi_aload_n 0 dX2_takesOut_32 rfl rfl ?_
      refine ti_getA 31 15 t_o31 q2201 dX2_takesOut_33 ?_
      refine zi_bipush (v := 6) dX2_takesOut_36 (by decide) ?_
      refine zi_iload_n 1 dX2_takesOut_38 rfl rfl ?_
      refine zi_imul dX2_takesOut_39 ?_
      refine zi_iload_n 2 dX2_takesOut_40 rfl rfl ?_
      refine zi_iadd dX2_takesOut_41 ?_
      refine zi_iconst (v := 1) dX2_takesOut_42 (by decide) ?_
      refine zi_iadd dX2_takesOut_43 ?_
      obtain ⟨j10, hj10, h⟩ := x_gaE h
      refine ti_iald 31 j10 36 14 ⟨rfl, rfl⟩ hj10 dX2_takesOut_44 ?_
      obtain ⟨j11, hj11, h⟩ := x_gaE h
      refine ti_iast 31 j11 36 14 ⟨rfl, rfl⟩ hj11 dX2_takesOut_45 ?_
      refine x_lI (fun σ12 => z_V g d YX2_takesOut 46 [(0, .ref b), (1, .int f1_4), (3, .int v3_5)] [] (t_m b σ12 μ) Q) h (fun σ12 h => ?_)
      refine zi_aload_n 0 dX2_takesOut_46 rfl rfl ?_
      refine ti_getA 32 16 t_o32 q2202 dX2_takesOut_47 ?_
      refine zi_bipush (v := 6) dX2_takesOut_50 (by decide) ?_
      refine zi_iload_n 1 dX2_takesOut_52 rfl rfl ?_
      refine zi_imul dX2_takesOut_53 ?_
      refine zi_iload_n 2 dX2_takesOut_54 rfl rfl ?_
      refine zi_iadd dX2_takesOut_55 ?_
      refine zi_aload_n 0 dX2_takesOut_56 rfl rfl ?_
      refine ti_getA 32 16 t_o32 q2202 dX2_takesOut_57 ?_
      refine zi_bipush (v := 6) dX2_takesOut_60 (by decide) ?_
      refine zi_iload_n 1 dX2_takesOut_62 rfl rfl ?_
      refine zi_imul dX2_takesOut_63 ?_
      refine zi_iload_n 2 dX2_takesOut_64 rfl rfl ?_
      refine zi_iadd dX2_takesOut_65 ?_
      refine zi_iconst (v := 1) dX2_takesOut_66 (by decide) ?_
      refine zi_iadd dX2_takesOut_67 ?_
      obtain ⟨j13, hj13, h⟩ := x_gaE h
      refine ti_iald 32 j13 36 15 ⟨rfl, rfl⟩ hj13 dX2_takesOut_68 ?_
      obtain ⟨j14, hj14, h⟩ := x_gaE h
      refine ti_iast 32 j14 36 15 ⟨rfl, rfl⟩ hj14 dX2_takesOut_69 ?_
      refine x_lI (fun σ15 => z_V g d YX2_takesOut 70 [(0, .ref b), (1, .int f1_4), (3, .int v3_5)] [] (t_m b σ15 μ) Q) h (fun σ15 h => ?_)
      refine zi_aload_n 0 dX2_takesOut_70 rfl rfl ?_
      refine ti_getA 33 17 t_o33 q2203 dX2_takesOut_71 ?_
      refine zi_bipush (v := 6) dX2_takesOut_74 (by decide) ?_
      refine zi_iload_n 1 dX2_takesOut_76 rfl rfl ?_
      refine zi_imul dX2_takesOut_77 ?_
      refine zi_iload_n 2 dX2_takesOut_78 rfl rfl ?_
      refine zi_iadd dX2_takesOut_79 ?_
      refine zi_aload_n 0 dX2_takesOut_80 rfl rfl ?_
      refine ti_getA 33 17 t_o33 q2203 dX2_takesOut_81 ?_
      refine zi_bipush (v := 6) dX2_takesOut_84 (by decide) ?_
      refine zi_iload_n 1 dX2_takesOut_86 rfl rfl ?_
      refine zi_imul dX2_takesOut_87 ?_
      refine zi_iload_n 2 dX2_takesOut_88 rfl rfl ?_
      refine zi_iadd dX2_takesOut_89 ?_
      refine zi_iconst (v := 1) dX2_takesOut_90 (by decide) ?_
      refine zi_iadd dX2_takesOut_91 ?_
      obtain ⟨j16, hj16, h⟩ := x_gaE h
      refine ti_iald 33 j16 36 16 ⟨rfl, rfl⟩ hj16 dX2_takesOut_92 ?_
      obtain ⟨j17, hj17, h⟩ := x_gaE h
      refine ti_iast 33 j17 36 16 ⟨rfl, rfl⟩ hj17 dX2_takesOut_93 ?_
      refine x_lI (fun σ18 => z_V g d YX2_takesOut 94 [(0, .ref b), (1, .int f1_4), (3, .int v3_5)] [] (t_m b σ18 μ) Q) h (fun σ18 h => ?_)
      refine zi_iinc (v := (v3_5 + (1 : Int32))) (lc1 := [(3, _), (0, _), (1, _)]) 2 dX2_takesOut_94 rfl rfl (Nat.le_of_ble_eq_true rfl) rfl ?_
      refine x_lI (fun v19 => z_V g d YX2_takesOut 97 [(3, .int v19), (0, .ref b), (1, .int f1_4)] [] (t_m b σ18 μ) Q) h (fun v19 h => ?_)
      refine zi_goto 12 dX2_takesOut_97 (by decide) ?_
      refine zi_sub [1, 2, 0] rfl ?_
      exact ih _ _ h
noncomputable def D_takesOut (a1 : Int32) (a2 : Int32) (σ : t_S) : Option t_S :=
  x_ga a1 6 fun j1 =>
  x_ga a1 6 fun j2 =>
  x_l (t_sa σ 30 j2 ((t_a σ 30 j1) - (1 : Int32))) fun σ3 =>
  D_takesOut_12 a1
    (fun (σ20 : t_S) => some σ20)
    x_F a2 σ3
theorem w_takesOut {a1 : Int32} {a2 : Int32}  (h : D_takesOut a1 a2 σ = some σz) (hQ : Q (.inl none) (t_m b σz μ)) : z_K g d YX2_takesOut [.ref b, .int a1, .int a2] (t_m b σ μ) Q := by
  unfold D_takesOut at h
  refine z_K.of (by decide) rfl (Nat.le_of_ble_eq_true rfl) ?_
  refine zi_aload_n 0 dX2_takesOut_0 rfl rfl ?_
  refine ti_getA 30 14 t_o30 q2200 dX2_takesOut_1 ?_
  refine zi_iload_n 1 dX2_takesOut_4 rfl rfl ?_
  refine zi_dup2_11 dX2_takesOut_5 rfl rfl ?_
  obtain ⟨j1, hj1, h⟩ := x_gaE h
  refine ti_iald 30 j1 6 13 ⟨rfl, rfl⟩ hj1 dX2_takesOut_6 ?_
  refine zi_iconst (v := 1) dX2_takesOut_7 (by decide) ?_
  refine zi_isub dX2_takesOut_8 ?_
  obtain ⟨j2, hj2, h⟩ := x_gaE h
  refine ti_iast 30 j2 6 13 ⟨rfl, rfl⟩ hj2 dX2_takesOut_9 ?_
  refine x_lI (fun σ3 => z_V g d YX2_takesOut 10 [(0, .ref b), (1, .int a1), (2, .int a2)] [] (t_m b σ3 μ) Q) h (fun σ3 h => ?_)
  refine zi_iload_n 2 dX2_takesOut_10 rfl rfl ?_
  refine zi_istore_n (lc1 := [(3, _), (0, _), (1, _), (2, _)]) dX2_takesOut_11 rfl (Nat.le_of_ble_eq_true rfl) rfl ?_
  refine zi_sub [1, 2, 0] rfl ?_
  refine w_takesOut_12 (fun σ20 h => ?_) hQ _ _ _ h
  · refine zi_return rfl dX2_takesOut_100 ?_
    exact x_r0 h hQ
noncomputable def D_gets (a1 : Int32) (σ : t_S) : Option t_S :=
  x_ga a1 64 fun j1 =>
  x_l (t_sa σ 57 j1 (1 : Int32)) fun σ2 =>
  x_ga a1 64 fun j3 =>
  x_l (t_sa σ2 58 j3 (t_i σ2 27)) fun σ4 =>
  x_ga a1 64 fun j5 =>
  x_l (t_sa σ4 60 j5 (t_i σ4 73)) fun σ6 =>
  x_ga a1 64 fun j7 =>
  x_l (t_sa σ6 61 j7 (t_i σ6 74)) fun σ8 =>
  some σ8
theorem w_gets {a1 : Int32}  (h : D_gets a1 σ = some σz) (hQ : Q (.inl none) (t_m b σz μ)) : z_K g d YX2_gets [.ref b, .int a1] (t_m b σ μ) Q := by
  unfold D_gets at h
  refine z_K.of (by decide) rfl (Nat.le_of_ble_eq_true rfl) ?_
  refine zi_aload_n 0 dX2_gets_0 rfl rfl ?_
  refine ti_getA 57 40 t_o57 q2227 dX2_gets_1 ?_
  refine zi_iload_n 1 dX2_gets_4 rfl rfl ?_
  refine zi_iconst (v := 1) dX2_gets_5 (by decide) ?_
  obtain ⟨j1, hj1, h⟩ := x_gaE h
  refine ti_iast 57 j1 64 39 ⟨rfl, rfl⟩ hj1 dX2_gets_6 ?_
  refine x_lI (fun σ2 => z_V g d YX2_gets 7 [(0, .ref b), (1, .int a1)] [] (t_m b σ2 μ) Q) h (fun σ2 h => ?_)
  refine zi_aload_n 0 dX2_gets_7 rfl rfl ?_
  refine ti_getA 58 41 t_o58 q2228 dX2_gets_8 ?_
  refine zi_iload_n 1 dX2_gets_11 rfl rfl ?_
  refine zi_aload_n 0 dX2_gets_12 rfl rfl ?_
  refine ti_getI 27 ⟨Nat.le_of_ble_eq_true rfl, rfl⟩ q2197 dX2_gets_13 ?_
  obtain ⟨j3, hj3, h⟩ := x_gaE h
  refine ti_iast 58 j3 64 40 ⟨rfl, rfl⟩ hj3 dX2_gets_16 ?_
  refine x_lI (fun σ4 => z_V g d YX2_gets 17 [(0, .ref b), (1, .int a1)] [] (t_m b σ4 μ) Q) h (fun σ4 h => ?_)
  refine zi_aload_n 0 dX2_gets_17 rfl rfl ?_
  refine ti_getA 60 43 t_o60 q2230 dX2_gets_18 ?_
  refine zi_iload_n 1 dX2_gets_21 rfl rfl ?_
  refine zi_aload_n 0 dX2_gets_22 rfl rfl ?_
  refine ti_getI 73 ⟨Nat.le_of_ble_eq_true rfl, rfl⟩ q2243 dX2_gets_23 ?_
  obtain ⟨j5, hj5, h⟩ := x_gaE h
  refine ti_iast 60 j5 64 42 ⟨rfl, rfl⟩ hj5 dX2_gets_26 ?_
  refine x_lI (fun σ6 => z_V g d YX2_gets 27 [(0, .ref b), (1, .int a1)] [] (t_m b σ6 μ) Q) h (fun σ6 h => ?_)
  refine zi_aload_n 0 dX2_gets_27 rfl rfl ?_
  refine ti_getA 61 44 t_o61 q2231 dX2_gets_28 ?_
  refine zi_iload_n 1 dX2_gets_31 rfl rfl ?_
  refine zi_aload_n 0 dX2_gets_32 rfl rfl ?_
  refine ti_getI 74 ⟨Nat.le_of_ble_eq_true rfl, rfl⟩ q2244 dX2_gets_33 ?_
  obtain ⟨j7, hj7, h⟩ := x_gaE h
  refine ti_iast 61 j7 64 43 ⟨rfl, rfl⟩ hj7 dX2_gets_36 ?_
  refine x_lI (fun σ8 => z_V g d YX2_gets 37 [(0, .ref b), (1, .int a1)] [] (t_m b σ8 μ) Q) h (fun σ8 h => ?_)
  refine zi_return rfl dX2_gets_37 ?_
  exact x_r0 h hQ
noncomputable def D_lettersOf_4  (k19 : Int32 → Option Int32) : Nat → Int32 → Int32 → Option Int32
  | 0, _, _ => none
  | f + 1, v1_1, v2_2 =>
    if v2_2 ≤ 0 then (k19 v1_1) else
    x_l (v1_1 + (1 : Int32)) fun v6 =>
    x_l (v2_2 / (27 : Int32)) fun v7 =>
    D_lettersOf_4 k19 f v6 v7
theorem w_lettersOf_4  {rz : Int32} {k19 : Int32 → Option Int32} (hk19 : ∀ (v1_3 : Int32), k19 v1_3 = some rz → z_V g d YX2_lettersOf 19 [(1, .int v1_3)] [] μ Q) (hQ : Q (.inl (some (.int rz))) μ) : ∀ (f : Nat) (v1_1 : Int32) (v2_2 : Int32), D_lettersOf_4 k19 f v1_1 v2_2 = some rz → z_V g d YX2_lettersOf 4 [(1, .int v1_1), (2, .int v2_2)] [] μ Q := by
  intro f
  induction f with
  | zero =>
    intro v1_1 v2_2 h
    exact absurd h (x_n _)
  | succ f ih =>
    intro v1_1 v2_2 h
    refine zi_iload_n 1 dX2_lettersOf_4 rfl rfl ?_
    refine zi_if_le 19 dX2_lettersOf_5 (by decide) (fun c5 => ?_) (fun c5 => ?_)
    · replace h := x_iT h c5
      refine zi_sub [0] rfl ?_
      exact hk19 _ h
    · replace h := x_iF h c5
      refine zi_iinc (v := (v1_1 + (1 : Int32))) (lc1 := [(1, _), (2, _)]) 0 dX2_lettersOf_8 rfl rfl (Nat.le_of_ble_eq_true rfl) rfl ?_
      refine x_lI (fun v6 => z_V g d YX2_lettersOf 11 [(1, .int v6), (2, .int v2_2)] [] μ Q) h (fun v6 h => ?_)
      refine zi_iload_n 1 dX2_lettersOf_11 rfl rfl ?_
      refine zi_bipush (v := 27) dX2_lettersOf_12 (by decide) ?_
      refine zi_idiv dX2_lettersOf_14 (by decide) ?_
      refine zi_istore_n (lc1 := [(2, _), (1, _)]) dX2_lettersOf_15 rfl (Nat.le_of_ble_eq_true rfl) rfl ?_
      refine x_lI (fun v7 => z_V g d YX2_lettersOf 16 [(2, .int v7), (1, .int v6)] [] μ Q) h (fun v7 h => ?_)
      refine zi_goto 4 dX2_lettersOf_16 (by decide) ?_
      refine zi_sub [1, 0] rfl ?_
      exact ih _ _ h
noncomputable def D_lettersOf (a0 : Int32) : Option Int32 :=
  D_lettersOf_4
    (fun (v1_8 : Int32) => some v1_8)
    x_F (0 : Int32) a0
theorem w_lettersOf {a0 : Int32} {rz : Int32} (h : D_lettersOf a0 = some rz) (hQ : Q (.inl (some (.int rz))) μ) : z_K g d YX2_lettersOf [.int a0] μ Q := by
  unfold D_lettersOf at h
  refine z_K.of (by decide) rfl (Nat.le_of_ble_eq_true rfl) ?_
  refine zi_iconst (v := 0) dX2_lettersOf_0 (by decide) ?_
  refine zi_istore_n (lc1 := [(1, _), (0, _)]) dX2_lettersOf_1 rfl (Nat.le_of_ble_eq_true rfl) rfl ?_
  refine zi_iload_n 1 dX2_lettersOf_2 rfl rfl ?_
  refine zi_istore_n (lc1 := [(2, _), (1, _), (0, _)]) dX2_lettersOf_3 rfl (Nat.le_of_ble_eq_true rfl) rfl ?_
  refine zi_sub [1, 0] rfl ?_
  refine w_lettersOf_4 (fun v1_8 h => ?_) hQ _ _ _ h
  · refine zi_iload_n 0 dX2_lettersOf_19 rfl rfl ?_
    refine zi_ireturn rfl rfl dX2_lettersOf_20 ?_
    exact x_r1i h hQ
noncomputable def D_joins (a1 : Int32) (a2 : Int32) (a3 : Int32) (σ : t_S) : Option t_S :=
  x_l (fun (σ1 : t_S) => x_ga a1 384 fun j2 =>
  x_ga a1 384 fun j3 =>
  x_l (t_sl σ1 39 j3 ((t_l σ1 39 j2) ||| ((1 : Int64) <<< ((a3).toInt64 &&& 63)))) fun σ4 =>
  some σ4) fun J36 =>
  if a2 < (100 : Int32) then (x_ga a1 384 fun j6 =>
  x_ga a1 384 fun j7 =>
  x_l (t_sa σ 37 j7 ((t_a σ 37 j6) ||| ((1 : Int32) <<< (a2 &&& 31)))) fun σ8 =>
  J36 σ8) else
  x_ga a1 384 fun j9 =>
  x_ga a1 384 fun j10 =>
  x_l (t_sl σ 38 j10 ((t_l σ 38 j9) ||| ((1 : Int64) <<< (((a2 - (100 : Int32))).toInt64 &&& 63)))) fun σ11 =>
  J36 σ11
theorem w_joins {a1 : Int32} {a2 : Int32} {a3 : Int32}  (h : D_joins a1 a2 a3 σ = some σz) (hQ : Q (.inl none) (t_m b σz μ)) : z_K g d YX2_joins [.ref b, .int a1, .int a2, .int a3] (t_m b σ μ) Q := by
  unfold D_joins at h
  refine z_K.of (by decide) rfl (Nat.le_of_ble_eq_true rfl) ?_
  refine zi_iload_n 2 dX2_joins_0 rfl rfl ?_
  refine zi_bipush (v := 100) dX2_joins_1 (by decide) ?_
  refine x_jI (fun (J : t_S → Option t_S) => ∀ (σ1 : t_S), J σ1 = some σz → z_V g d YX2_joins 36 [(0, .ref b), (1, .int a1), (3, .int a3)] [] (t_m b σ1 μ) Q) h (fun σ1 h => ?_) (fun J36 hJ36 h => ?_)
  · refine zi_aload_n 0 dX2_joins_36 rfl rfl ?_
    refine ti_getA 39 23 t_o39 q2209 dX2_joins_37 ?_
    refine zi_iload_n 1 dX2_joins_40 rfl rfl ?_
    refine zi_dup2_11 dX2_joins_41 rfl rfl ?_
    obtain ⟨j2, hj2, h⟩ := x_gaE h
    refine ti_lald 39 j2 384 22 ⟨rfl, rfl⟩ hj2 dX2_joins_42 ?_
    refine zi_lconst (v := 1) dX2_joins_43 (by decide) ?_
    refine zi_iload_n 2 dX2_joins_44 rfl rfl ?_
    refine zi_lshl (v := ((1 : Int64) <<< ((a3).toInt64 &&& 63))) dX2_joins_45 rfl ?_
    refine zi_lor dX2_joins_46 ?_
    obtain ⟨j3, hj3, h⟩ := x_gaE h
    refine ti_last 39 j3 384 22 ⟨rfl, rfl⟩ hj3 dX2_joins_47 ?_
    refine x_lI (fun σ4 => z_V g d YX2_joins 48 [(0, .ref b), (1, .int a1), (3, .int a3)] [] (t_m b σ4 μ) Q) h (fun σ4 h => ?_)
    refine zi_return rfl dX2_joins_48 ?_
    exact x_r0 h hQ
  refine zi_icmp_lt 24 dX2_joins_3 (by decide) (fun c5 => ?_) (fun c5 => ?_)
  · replace h := x_iT h c5
    refine zi_aload_n 0 dX2_joins_24 rfl rfl ?_
    refine ti_getA 37 21 t_o37 q2207 dX2_joins_25 ?_
    refine zi_iload_n 1 dX2_joins_28 rfl rfl ?_
    refine zi_dup2_11 dX2_joins_29 rfl rfl ?_
    obtain ⟨j6, hj6, h⟩ := x_gaE h
    refine ti_iald 37 j6 384 20 ⟨rfl, rfl⟩ hj6 dX2_joins_30 ?_
    refine zi_iconst (v := 1) dX2_joins_31 (by decide) ?_
    refine zi_iload_n 2 dX2_joins_32 rfl rfl ?_
    refine zi_ishl dX2_joins_33 ?_
    refine zi_ior dX2_joins_34 ?_
    obtain ⟨j7, hj7, h⟩ := x_gaE h
    refine ti_iast 37 j7 384 20 ⟨rfl, rfl⟩ hj7 dX2_joins_35 ?_
    refine x_lI (fun σ8 => z_V g d YX2_joins 36 [(0, .ref b), (1, .int a1), (2, .int a2), (3, .int a3)] [] (t_m b σ8 μ) Q) h (fun σ8 h => ?_)
    refine zi_sub [0, 1, 3] rfl ?_
    exact hJ36 _ h
  · replace h := x_iF h c5
    refine zi_aload_n 0 dX2_joins_6 rfl rfl ?_
    refine ti_getA 38 22 t_o38 q2208 dX2_joins_7 ?_
    refine zi_iload_n 1 dX2_joins_10 rfl rfl ?_
    refine zi_dup2_11 dX2_joins_11 rfl rfl ?_
    obtain ⟨j9, hj9, h⟩ := x_gaE h
    refine ti_lald 38 j9 384 21 ⟨rfl, rfl⟩ hj9 dX2_joins_12 ?_
    refine zi_lconst (v := 1) dX2_joins_13 (by decide) ?_
    refine zi_iload_n 2 dX2_joins_14 rfl rfl ?_
    refine zi_bipush (v := 100) dX2_joins_15 (by decide) ?_
    refine zi_isub dX2_joins_17 ?_
    refine zi_lshl (v := ((1 : Int64) <<< (((a2 - (100 : Int32))).toInt64 &&& 63))) dX2_joins_18 rfl ?_
    refine zi_lor dX2_joins_19 ?_
    obtain ⟨j10, hj10, h⟩ := x_gaE h
    refine ti_last 38 j10 384 21 ⟨rfl, rfl⟩ hj10 dX2_joins_20 ?_
    refine x_lI (fun σ11 => z_V g d YX2_joins 21 [(0, .ref b), (1, .int a1), (2, .int a2), (3, .int a3)] [] (t_m b σ11 μ) Q) h (fun σ11 h => ?_)
    refine zi_goto 36 dX2_joins_21 (by decide) ?_
    refine zi_sub [0, 1, 3] rfl ?_
    exact hJ36 _ h
noncomputable def D_removes_12 (f1_4 : Int32) (k173 : t_S → Option t_S) : Nat → Int32 → t_S → Option t_S
  | 0, _, _ => none
  | f + 1, v3_5, σ6 =>
    x_ga f1_4 6 fun j8 =>
    if (((64 : Int32) * f1_4) + (t_a σ6 34 j8)) ≤ v3_5 then (k173 σ6) else
    x_ga (v3_5 + (1 : Int32)) 384 fun j10 =>
    x_ga v3_5 384 fun j11 =>
    x_l (t_sa σ6 35 j11 (t_a σ6 35 j10)) fun σ12 =>
    x_ga (v3_5 + (1 : Int32)) 384 fun j13 =>
    x_ga v3_5 384 fun j14 =>
    x_l (t_sa σ12 36 j14 (t_a σ12 36 j13)) fun σ15 =>
    x_ga (v3_5 + (1 : Int32)) 384 fun j16 =>
    x_ga v3_5 384 fun j17 =>
    x_l (t_sa σ15 37 j17 (t_a σ15 37 j16)) fun σ18 =>
    x_ga (v3_5 + (1 : Int32)) 384 fun j19 =>
    x_ga v3_5 384 fun j20 =>
    x_l (t_sl σ18 38 j20 (t_l σ18 38 j19)) fun σ21 =>
    x_ga (v3_5 + (1 : Int32)) 384 fun j22 =>
    x_ga v3_5 384 fun j23 =>
    x_l (t_sl σ21 39 j23 (t_l σ21 39 j22)) fun σ24 =>
    x_ga (v3_5 + (1 : Int32)) 384 fun j25 =>
    x_ga v3_5 384 fun j26 =>
    x_l (t_sa σ24 40 j26 (t_a σ24 40 j25)) fun σ27 =>
    x_ga (v3_5 + (1 : Int32)) 384 fun j28 =>
    x_ga v3_5 384 fun j29 =>
    x_l (t_sa σ27 41 j29 (t_a σ27 41 j28)) fun σ30 =>
    x_ga (v3_5 + (1 : Int32)) 384 fun j31 =>
    x_ga v3_5 384 fun j32 =>
    x_l (t_sa σ30 42 j32 (t_a σ30 42 j31)) fun σ33 =>
    x_ga (v3_5 + (1 : Int32)) 384 fun j34 =>
    x_ga v3_5 384 fun j35 =>
    x_l (t_sa σ33 43 j35 (t_a σ33 43 j34)) fun σ36 =>
    x_ga (v3_5 + (1 : Int32)) 384 fun j37 =>
    x_ga v3_5 384 fun j38 =>
    x_l (t_sa σ36 44 j38 (t_a σ36 44 j37)) fun σ39 =>
    x_l (v3_5 + (1 : Int32)) fun v40 =>
    D_removes_12 f1_4 k173 f v40 σ39
theorem w_removes_12 {f1_4 : Int32}  {k173 : t_S → Option t_S} (hk173 : ∀ (σ7 : t_S), k173 σ7 = some σz → z_V g d YX2_removes 173 [] [] (t_m b σ7 μ) Q) (hQ : Q (.inl none) (t_m b σz μ)) : ∀ (f : Nat) (v3_5 : Int32) (σ6 : t_S), D_removes_12 f1_4 k173 f v3_5 σ6 = some σz → z_V g d YX2_removes 12 [(0, .ref b), (1, .int f1_4), (3, .int v3_5)] [] (t_m b σ6 μ) Q := by
  intro f
  induction f with
  | zero =>
    intro v3_5 σ6 h
    exact absurd h (x_n _)
  | succ f ih =>
    intro v3_5 σ6 h
    refine zi_iload_n 2 dX2_removes_12 rfl rfl ?_
    refine zi_bipush (v := 64) dX2_removes_13 (by decide) ?_
    refine zi_iload_n 1 dX2_removes_15 rfl rfl ?_
    refine zi_imul dX2_removes_16 ?_
    refine zi_aload_n 0 dX2_removes_17 rfl rfl ?_
    refine ti_getA 34 18 t_o34 q2204 dX2_removes_18 ?_
    refine zi_iload_n 1 dX2_removes_21 rfl rfl ?_
    obtain ⟨j8, hj8, h⟩ := x_gaE h
    refine ti_iald 34 j8 6 17 ⟨rfl, rfl⟩ hj8 dX2_removes_22 ?_
    refine zi_iadd dX2_removes_23 ?_
    refine zi_icmp_ge 173 dX2_removes_24 (by decide) (fun c9 => ?_) (fun c9 => ?_)
    · replace h := x_iT h c9
      refine zi_sub [] rfl ?_
      exact hk173 _ h
    · replace h := x_iF h c9
      refine zi_aload_n 0 dX2_removes_27 rfl rfl ?_
      refine ti_getA 35 19 t_o35 q2205 dX2_removes_28 ?_
      refine zi_iload_n 2 dX2_removes_31 rfl rfl ?_
      refine zi_aload_n 0 dX2_removes_32 rfl rfl ?_
      refine ti_getA 35 19 t_o35 q2205 dX2_removes_33 ?_
      refine zi_iload_n 2 dX2_removes_36 rfl rfl ?_
      refine zi_iconst (v := 1) dX2_removes_37 (by decide) ?_
      refine zi_iadd dX2_removes_38 ?_
      obtain ⟨j10, hj10, h⟩ := x_gaE h
      refine ti_iald 35 j10 384 18 ⟨rfl, rfl⟩ hj10 dX2_removes_39 ?_
      obtain ⟨j11, hj11, h⟩ := x_gaE h
      refine ti_iast 35 j11 384 18 ⟨rfl, rfl⟩ hj11 dX2_removes_40 ?_
      refine x_lI (fun σ12 => z_V g d YX2_removes 41 [(0, .ref b), (1, .int f1_4), (3, .int v3_5)] [] (t_m b σ12 μ) Q) h (fun σ12 h => ?_)
      refine zi_aload_n 0 dX2_removes_41 rfl rfl ?_
      refine ti_getA 36 20 t_o36 q2206 dX2_removes_42 ?_
      refine zi_iload_n 2 dX2_removes_45 rfl rfl ?_
      refine zi_aload_n 0 dX2_removes_46 rfl rfl ?_
      refine ti_getA 36 20 t_o36 q2206 dX2_removes_47 ?_
      refine zi_iload_n 2 dX2_removes_50 rfl rfl ?_
      refine zi_iconst (v := 1) dX2_removes_51 (by decide) ?_
      refine zi_iadd dX2_removes_52 ?_
      obtain ⟨j13, hj13, h⟩ := x_gaE h
      refine ti_iald 36 j13 384 19 ⟨rfl, rfl⟩ hj13 dX2_removes_53 ?_
      obtain ⟨j14, hj14, h⟩ := x_gaE h
      refine ti_iast 36 j14 384 19 ⟨rfl, rfl⟩ hj14 dX2_removes_54 ?_
      refine x_lI (fun σ15 => z_V g d YX2_removes 55 [(0, .ref b), (1, .int f1_4), (3, .int v3_5)] [] (t_m b σ15 μ) Q) h (fun σ15 h => ?_)
      refine zi_aload_n 0 dX2_removes_55 rfl rfl ?_
      refine ti_getA 37 21 t_o37 q2207 dX2_removes_56 ?_
      refine zi_iload_n 2 dX2_removes_59 rfl rfl ?_
      refine zi_aload_n 0 dX2_removes_60 rfl rfl ?_
      refine ti_getA 37 21 t_o37 q2207 dX2_removes_61 ?_
      refine zi_iload_n 2 dX2_removes_64 rfl rfl ?_
      refine zi_iconst (v := 1) dX2_removes_65 (by decide) ?_
      refine zi_iadd dX2_removes_66 ?_
      obtain ⟨j16, hj16, h⟩ := x_gaE h
      refine ti_iald 37 j16 384 20 ⟨rfl, rfl⟩ hj16 dX2_removes_67 ?_
      obtain ⟨j17, hj17, h⟩ := x_gaE h
      refine ti_iast 37 j17 384 20 ⟨rfl, rfl⟩ hj17 dX2_removes_68 ?_
      refine x_lI (fun σ18 => z_V g d YX2_removes 69 [(0, .ref b), (1, .int f1_4), (3, .int v3_5)] [] (t_m b σ18 μ) Q) h (fun σ18 h => ?_)
      refine zi_aload_n 0 dX2_removes_69 rfl rfl ?_
      refine ti_getA 38 22 t_o38 q2208 dX2_removes_70 ?_
      refine zi_iload_n 2 dX2_removes_73 rfl rfl ?_
      refine zi_aload_n 0 dX2_removes_74 rfl rfl ?_
      refine ti_getA 38 22 t_o38 q2208 dX2_removes_75 ?_
      refine zi_iload_n 2 dX2_removes_78 rfl rfl ?_
      refine zi_iconst (v := 1) dX2_removes_79 (by decide) ?_
      refine zi_iadd dX2_removes_80 ?_
      obtain ⟨j19, hj19, h⟩ := x_gaE h
      refine ti_lald 38 j19 384 21 ⟨rfl, rfl⟩ hj19 dX2_removes_81 ?_
      obtain ⟨j20, hj20, h⟩ := x_gaE h
      refine ti_last 38 j20 384 21 ⟨rfl, rfl⟩ hj20 dX2_removes_82 ?_
      refine x_lI (fun σ21 => z_V g d YX2_removes 83 [(0, .ref b), (1, .int f1_4), (3, .int v3_5)] [] (t_m b σ21 μ) Q) h (fun σ21 h => ?_)
      refine zi_aload_n 0 dX2_removes_83 rfl rfl ?_
      refine ti_getA 39 23 t_o39 q2209 dX2_removes_84 ?_
      refine zi_iload_n 2 dX2_removes_87 rfl rfl ?_
      refine zi_aload_n 0 dX2_removes_88 rfl rfl ?_
      refine ti_getA 39 23 t_o39 q2209 dX2_removes_89 ?_
      refine zi_iload_n 2 dX2_removes_92 rfl rfl ?_
      refine zi_iconst (v := 1) dX2_removes_93 (by decide) ?_
      refine zi_iadd dX2_removes_94 ?_
      obtain ⟨j22, hj22, h⟩ := x_gaE h
      refine ti_lald 39 j22 384 22 ⟨rfl, rfl⟩ hj22 dX2_removes_95 ?_
      obtain ⟨j23, hj23, h⟩ := x_gaE h
      refine ti_last 39 j23 384 22 ⟨rfl, rfl⟩ hj23 dX2_removes_96 ?_
      refine x_lI (fun σ24 => z_V g d YX2_removes 97 [(0, .ref b), (1, .int f1_4), (3, .int v3_5)] [] (t_m b σ24 μ) Q) h (fun σ24 h => ?_)
      refine zi_aload_n 0 dX2_removes_97 rfl rfl ?_
      refine ti_getA 40 24 t_o40 q2210 dX2_removes_98 ?_
      refine zi_iload_n 2 dX2_removes_101 rfl rfl ?_
      refine zi_aload_n 0 dX2_removes_102 rfl rfl ?_
      refine ti_getA 40 24 t_o40 q2210 dX2_removes_103 ?_
      refine zi_iload_n 2 dX2_removes_106 rfl rfl ?_
      refine zi_iconst (v := 1) dX2_removes_107 (by decide) ?_
      refine zi_iadd dX2_removes_108 ?_
      obtain ⟨j25, hj25, h⟩ := x_gaE h
      refine ti_iald 40 j25 384 23 ⟨rfl, rfl⟩ hj25 dX2_removes_109 ?_
      obtain ⟨j26, hj26, h⟩ := x_gaE h
      refine ti_iast 40 j26 384 23 ⟨rfl, rfl⟩ hj26 dX2_removes_110 ?_
      refine x_lI (fun σ27 => z_V g d YX2_removes 111 [(0, .ref b), (1, .int f1_4), (3, .int v3_5)] [] (t_m b σ27 μ) Q) h (fun σ27 h => ?_)
      refine zi_aload_n 0 dX2_removes_111 rfl rfl ?_
      refine ti_getA 41 25 t_o41 q2211 dX2_removes_112 ?_
      refine zi_iload_n 2 dX2_removes_115 rfl rfl ?_
      refine zi_aload_n 0 dX2_removes_116 rfl rfl ?_
      refine ti_getA 41 25 t_o41 q2211 dX2_removes_117 ?_
      refine zi_iload_n 2 dX2_removes_120 rfl rfl ?_
      refine zi_iconst (v := 1) dX2_removes_121 (by decide) ?_
      refine zi_iadd dX2_removes_122 ?_
      obtain ⟨j28, hj28, h⟩ := x_gaE h
      refine ti_iald 41 j28 384 24 ⟨rfl, rfl⟩ hj28 dX2_removes_123 ?_
      obtain ⟨j29, hj29, h⟩ := x_gaE h
      refine ti_iast 41 j29 384 24 ⟨rfl, rfl⟩ hj29 dX2_removes_124 ?_
      refine x_lI (fun σ30 => z_V g d YX2_removes 125 [(0, .ref b), (1, .int f1_4), (3, .int v3_5)] [] (t_m b σ30 μ) Q) h (fun σ30 h => ?_)
      refine zi_aload_n 0 dX2_removes_125 rfl rfl ?_
      refine ti_getA 42 26 t_o42 q2212 dX2_removes_126 ?_
      refine zi_iload_n 2 dX2_removes_129 rfl rfl ?_
      refine zi_aload_n 0 dX2_removes_130 rfl rfl ?_
      refine ti_getA 42 26 t_o42 q2212 dX2_removes_131 ?_
      refine zi_iload_n 2 dX2_removes_134 rfl rfl ?_
      refine zi_iconst (v := 1) dX2_removes_135 (by decide) ?_
      refine zi_iadd dX2_removes_136 ?_
      obtain ⟨j31, hj31, h⟩ := x_gaE h
      refine ti_iald 42 j31 384 25 ⟨rfl, rfl⟩ hj31 dX2_removes_137 ?_
      obtain ⟨j32, hj32, h⟩ := x_gaE h
      refine ti_iast 42 j32 384 25 ⟨rfl, rfl⟩ hj32 dX2_removes_138 ?_
      refine x_lI (fun σ33 => z_V g d YX2_removes 139 [(0, .ref b), (1, .int f1_4), (3, .int v3_5)] [] (t_m b σ33 μ) Q) h (fun σ33 h => ?_)
      refine zi_aload_n 0 dX2_removes_139 rfl rfl ?_
      refine ti_getA 43 27 t_o43 q2213 dX2_removes_140 ?_
      refine zi_iload_n 2 dX2_removes_143 rfl rfl ?_
      refine zi_aload_n 0 dX2_removes_144 rfl rfl ?_
      refine ti_getA 43 27 t_o43 q2213 dX2_removes_145 ?_
      refine zi_iload_n 2 dX2_removes_148 rfl rfl ?_
      refine zi_iconst (v := 1) dX2_removes_149 (by decide) ?_
      refine zi_iadd dX2_removes_150 ?_
      obtain ⟨j34, hj34, h⟩ := x_gaE h
      refine ti_iald 43 j34 384 26 ⟨rfl, rfl⟩ hj34 dX2_removes_151 ?_
      obtain ⟨j35, hj35, h⟩ := x_gaE h
      refine ti_iast 43 j35 384 26 ⟨rfl, rfl⟩ hj35 dX2_removes_152 ?_
      refine x_lI (fun σ36 => z_V g d YX2_removes 153 [(0, .ref b), (1, .int f1_4), (3, .int v3_5)] [] (t_m b σ36 μ) Q) h (fun σ36 h => ?_)
      refine zi_aload_n 0 dX2_removes_153 rfl rfl ?_
      refine ti_getA 44 28 t_o44 q2214 dX2_removes_154 ?_
      refine zi_iload_n 2 dX2_removes_157 rfl rfl ?_
      refine zi_aload_n 0 dX2_removes_158 rfl rfl ?_
      refine ti_getA 44 28 t_o44 q2214 dX2_removes_159 ?_
      refine zi_iload_n 2 dX2_removes_162 rfl rfl ?_
      refine zi_iconst (v := 1) dX2_removes_163 (by decide) ?_
      refine zi_iadd dX2_removes_164 ?_
      obtain ⟨j37, hj37, h⟩ := x_gaE h
      refine ti_iald 44 j37 384 27 ⟨rfl, rfl⟩ hj37 dX2_removes_165 ?_
      obtain ⟨j38, hj38, h⟩ := x_gaE h
      refine ti_iast 44 j38 384 27 ⟨rfl, rfl⟩ hj38 dX2_removes_166 ?_
      refine x_lI (fun σ39 => z_V g d YX2_removes 167 [(0, .ref b), (1, .int f1_4), (3, .int v3_5)] [] (t_m b σ39 μ) Q) h (fun σ39 h => ?_)
      refine zi_iinc (v := (v3_5 + (1 : Int32))) (lc1 := [(3, _), (0, _), (1, _)]) 2 dX2_removes_167 rfl rfl (Nat.le_of_ble_eq_true rfl) rfl ?_
      refine x_lI (fun v40 => z_V g d YX2_removes 170 [(3, .int v40), (0, .ref b), (1, .int f1_4)] [] (t_m b σ39 μ) Q) h (fun v40 h => ?_)
      refine zi_goto 12 dX2_removes_170 (by decide) ?_
      refine zi_sub [1, 2, 0] rfl ?_
      exact ih _ _ h
noncomputable def D_removes (a1 : Int32) (a2 : Int32) (σ : t_S) : Option t_S :=
  x_ga a1 6 fun j1 =>
  x_ga a1 6 fun j2 =>
  x_l (t_sa σ 34 j2 ((t_a σ 34 j1) - (1 : Int32))) fun σ3 =>
  D_removes_12 a1
    (fun (σ41 : t_S) => some σ41)
    x_F a2 σ3
theorem w_removes {a1 : Int32} {a2 : Int32}  (h : D_removes a1 a2 σ = some σz) (hQ : Q (.inl none) (t_m b σz μ)) : z_K g d YX2_removes [.ref b, .int a1, .int a2] (t_m b σ μ) Q := by
  unfold D_removes at h
  refine z_K.of (by decide) rfl (Nat.le_of_ble_eq_true rfl) ?_
  refine zi_aload_n 0 dX2_removes_0 rfl rfl ?_
  refine ti_getA 34 18 t_o34 q2204 dX2_removes_1 ?_
  refine zi_iload_n 1 dX2_removes_4 rfl rfl ?_
  refine zi_dup2_11 dX2_removes_5 rfl rfl ?_
  obtain ⟨j1, hj1, h⟩ := x_gaE h
  refine ti_iald 34 j1 6 17 ⟨rfl, rfl⟩ hj1 dX2_removes_6 ?_
  refine zi_iconst (v := 1) dX2_removes_7 (by decide) ?_
  refine zi_isub dX2_removes_8 ?_
  obtain ⟨j2, hj2, h⟩ := x_gaE h
  refine ti_iast 34 j2 6 17 ⟨rfl, rfl⟩ hj2 dX2_removes_9 ?_
  refine x_lI (fun σ3 => z_V g d YX2_removes 10 [(0, .ref b), (1, .int a1), (2, .int a2)] [] (t_m b σ3 μ) Q) h (fun σ3 h => ?_)
  refine zi_iload_n 2 dX2_removes_10 rfl rfl ?_
  refine zi_istore_n (lc1 := [(3, _), (0, _), (1, _), (2, _)]) dX2_removes_11 rfl (Nat.le_of_ble_eq_true rfl) rfl ?_
  refine zi_sub [1, 2, 0] rfl ?_
  refine w_removes_12 (fun σ41 h => ?_) hQ _ _ _ h
  · refine zi_return rfl dX2_removes_173 ?_
    exact x_r0 h hQ
noncomputable def D_firstFor_3 (f1_1 : Int32) (f2_2 : Int32) (f3_3 : Int32) (σ : t_S) (k63 : Option Int32) : Nat → Int32 → Option Int32
  | 0, _ => none
  | f + 1, v4_4 =>
    x_ga f1_1 6 fun j6 =>
    if (t_a σ 34 j6) ≤ v4_4 then (k63) else
    x_ga (((64 : Int32) * f1_1) + v4_4) 384 fun j8 =>
    if (t_a σ 35 j8) = f2_2 then (x_ga (((64 : Int32) * f1_1) + v4_4) 384 fun j11 =>
    x_l (some (((64 : Int32) * f1_1) + v4_4)) fun J49 =>
    if (t_a σ 36 j11) = 0 then (J49) else
    if f3_3 = 0 then (x_l (v4_4 + (1 : Int32)) fun v14 =>
    D_firstFor_3 f1_1 f2_2 f3_3 σ k63 f v14) else
    J49) else
    x_l (v4_4 + (1 : Int32)) fun v10 =>
    D_firstFor_3 f1_1 f2_2 f3_3 σ k63 f v10
theorem w_firstFor_3 {f1_1 : Int32} {f2_2 : Int32} {f3_3 : Int32} {σ : t_S} {rz : Int32} {k63 : Option Int32} (hk63 : k63 = some rz → z_V g d YX2_firstFor 63 [] [] (t_m b σ μ) Q) (hQ : Q (.inl (some (.int rz))) (t_m b σ μ)) : ∀ (f : Nat) (v4_4 : Int32), D_firstFor_3 f1_1 f2_2 f3_3 σ k63 f v4_4 = some rz → z_V g d YX2_firstFor 3 [(0, .ref b), (1, .int f1_1), (2, .int f2_2), (3, .int f3_3), (4, .int v4_4)] [] (t_m b σ μ) Q := by
  intro f
  induction f with
  | zero =>
    intro v4_4 h
    exact absurd h (x_n _)
  | succ f ih =>
    intro v4_4 h
    refine zi_iload 4 dX2_firstFor_3 rfl ?_
    refine zi_aload_n 0 dX2_firstFor_5 rfl rfl ?_
    refine ti_getA 34 18 t_o34 q2204 dX2_firstFor_6 ?_
    refine zi_iload_n 1 dX2_firstFor_9 rfl rfl ?_
    obtain ⟨j6, hj6, h⟩ := x_gaE h
    refine ti_iald 34 j6 6 17 ⟨rfl, rfl⟩ hj6 dX2_firstFor_10 ?_
    refine zi_icmp_ge 63 dX2_firstFor_11 (by decide) (fun c7 => ?_) (fun c7 => ?_)
    · replace h := x_iT h c7
      refine zi_sub [] rfl ?_
      exact hk63  h
    · replace h := x_iF h c7
      refine zi_aload_n 0 dX2_firstFor_14 rfl rfl ?_
      refine ti_getA 35 19 t_o35 q2205 dX2_firstFor_15 ?_
      refine zi_bipush (v := 64) dX2_firstFor_18 (by decide) ?_
      refine zi_iload_n 1 dX2_firstFor_20 rfl rfl ?_
      refine zi_imul dX2_firstFor_21 ?_
      refine zi_iload 4 dX2_firstFor_22 rfl ?_
      refine zi_iadd dX2_firstFor_24 ?_
      obtain ⟨j8, hj8, h⟩ := x_gaE h
      refine ti_iald 35 j8 384 18 ⟨rfl, rfl⟩ hj8 dX2_firstFor_25 ?_
      refine zi_iload_n 2 dX2_firstFor_26 rfl rfl ?_
      refine zi_icmp_ne 57 dX2_firstFor_27 (by decide) (fun c9 => ?_) (fun c9 => ?_)
      · replace h := x_iF h c9
        refine zi_iinc (v := (v4_4 + (1 : Int32))) (lc1 := [(4, _), (0, _), (1, _), (2, _), (3, _)]) 4 dX2_firstFor_57 rfl rfl (Nat.le_of_ble_eq_true rfl) rfl ?_
        refine x_lI (fun v10 => z_V g d YX2_firstFor 60 [(4, .int v10), (0, .ref b), (1, .int f1_1), (2, .int f2_2), (3, .int f3_3)] [] (t_m b σ μ) Q) h (fun v10 h => ?_)
        refine zi_goto 3 dX2_firstFor_60 (by decide) ?_
        refine zi_sub [1, 2, 3, 4, 0] rfl ?_
        exact ih _ h
      · replace h := x_iT h c9
        refine zi_aload_n 0 dX2_firstFor_30 rfl rfl ?_
        refine ti_getA 36 20 t_o36 q2206 dX2_firstFor_31 ?_
        refine zi_bipush (v := 64) dX2_firstFor_34 (by decide) ?_
        refine zi_iload_n 1 dX2_firstFor_36 rfl rfl ?_
        refine zi_imul dX2_firstFor_37 ?_
        refine zi_iload 4 dX2_firstFor_38 rfl ?_
        refine zi_iadd dX2_firstFor_40 ?_
        obtain ⟨j11, hj11, h⟩ := x_gaE h
        refine ti_iald 36 j11 384 19 ⟨rfl, rfl⟩ hj11 dX2_firstFor_41 ?_
        refine x_jI (fun (J : Option Int32) => J = some rz → z_V g d YX2_firstFor 49 [(1, .int f1_1), (4, .int v4_4)] [] (t_m b σ μ) Q) h (fun  h => ?_) (fun J49 hJ49 h => ?_)
        · refine zi_bipush (v := 64) dX2_firstFor_49 (by decide) ?_
          refine zi_iload_n 0 dX2_firstFor_51 rfl rfl ?_
          refine zi_imul dX2_firstFor_52 ?_
          refine zi_iload 1 dX2_firstFor_53 rfl ?_
          refine zi_iadd dX2_firstFor_55 ?_
          refine zi_ireturn rfl rfl dX2_firstFor_56 ?_
          exact x_r1i h hQ
        refine zi_if_eq 49 dX2_firstFor_42 (by decide) (fun c12 => ?_) (fun c12 => ?_)
        · replace h := x_iT h c12
          refine zi_sub [1, 4] rfl ?_
          exact hJ49  h
        · replace h := x_iF h c12
          refine zi_iload_n 3 dX2_firstFor_45 rfl rfl ?_
          refine zi_if_eq 57 dX2_firstFor_46 (by decide) (fun c13 => ?_) (fun c13 => ?_)
          · replace h := x_iT h c13
            refine zi_iinc (v := (v4_4 + (1 : Int32))) (lc1 := [(4, _), (0, _), (1, _), (2, _), (3, _)]) 4 dX2_firstFor_57 rfl rfl (Nat.le_of_ble_eq_true rfl) rfl ?_
            refine x_lI (fun v14 => z_V g d YX2_firstFor 60 [(4, .int v14), (0, .ref b), (1, .int f1_1), (2, .int f2_2), (3, .int f3_3)] [] (t_m b σ μ) Q) h (fun v14 h => ?_)
            refine zi_goto 3 dX2_firstFor_60 (by decide) ?_
            refine zi_sub [1, 2, 3, 4, 0] rfl ?_
            exact ih _ h
          · replace h := x_iF h c13
            refine zi_sub [1, 4] rfl ?_
            exact hJ49  h
noncomputable def D_firstFor (a1 : Int32) (a2 : Int32) (a3 : Int32) (σ : t_S) : Option Int32 :=
  D_firstFor_3 a1 a2 a3 σ
    (some (-1 : Int32))
    x_F (0 : Int32)
theorem w_firstFor {a1 : Int32} {a2 : Int32} {a3 : Int32} {rz : Int32} (h : D_firstFor a1 a2 a3 σ = some rz) (hQ : Q (.inl (some (.int rz))) (t_m b σ μ)) : z_K g d YX2_firstFor [.ref b, .int a1, .int a2, .int a3] (t_m b σ μ) Q := by
  unfold D_firstFor at h
  refine z_K.of (by decide) rfl (Nat.le_of_ble_eq_true rfl) ?_
  refine zi_iconst (v := 0) dX2_firstFor_0 (by decide) ?_
  refine zi_istore (lc1 := [(4, _), (0, _), (1, _), (2, _), (3, _)]) dX2_firstFor_1 (Nat.le_of_ble_eq_true rfl) rfl ?_
  refine zi_sub [1, 2, 3, 4, 0] rfl ?_
  refine w_firstFor_3 (fun  h => ?_) hQ _ _ h
  · refine zi_iconst (v := -1) dX2_firstFor_63 (by decide) ?_
    refine zi_ireturn rfl rfl dX2_firstFor_64 ?_
    exact x_r1i h hQ
noncomputable def D_moves (a1 : Int32) (a2 : Int32) (σ : t_S) : Option t_S :=
  x_ga a1 4096 fun j1 =>
  x_ga a2 4096 fun j2 =>
  x_l (t_sa σ 46 j2 (t_a σ 46 j1)) fun σ3 =>
  x_ga a1 4096 fun j4 =>
  x_ga a2 4096 fun j5 =>
  x_l (t_sa σ3 47 j5 (t_a σ3 47 j4)) fun σ6 =>
  x_ga a1 4096 fun j7 =>
  x_ga a2 4096 fun j8 =>
  x_l (t_sa σ6 48 j8 (t_a σ6 48 j7)) fun σ9 =>
  x_ga a1 4096 fun j10 =>
  x_ga a2 4096 fun j11 =>
  x_l (t_sa σ9 49 j11 (t_a σ9 49 j10)) fun σ12 =>
  x_ga a1 4096 fun j13 =>
  x_ga a2 4096 fun j14 =>
  x_l (t_sa σ12 50 j14 (t_a σ12 50 j13)) fun σ15 =>
  x_ga a1 4096 fun j16 =>
  x_ga a2 4096 fun j17 =>
  x_l (t_sa σ15 51 j17 (t_a σ15 51 j16)) fun σ18 =>
  x_ga a1 4096 fun j19 =>
  x_ga a2 4096 fun j20 =>
  x_l (t_sa σ18 52 j20 (t_a σ18 52 j19)) fun σ21 =>
  x_ga a1 4096 fun j22 =>
  x_ga a2 4096 fun j23 =>
  x_l (t_sa σ21 53 j23 (t_a σ21 53 j22)) fun σ24 =>
  x_ga a1 4096 fun j25 =>
  x_ga a2 4096 fun j26 =>
  x_l (t_sa σ24 54 j26 (t_a σ24 54 j25)) fun σ27 =>
  x_ga a1 4096 fun j28 =>
  x_ga a2 4096 fun j29 =>
  x_l (t_sa σ27 55 j29 (t_a σ27 55 j28)) fun σ30 =>
  x_ga a1 4096 fun j31 =>
  x_ga a2 4096 fun j32 =>
  x_l (t_sa σ30 56 j32 (t_a σ30 56 j31)) fun σ33 =>
  some σ33
theorem w_moves {a1 : Int32} {a2 : Int32}  (h : D_moves a1 a2 σ = some σz) (hQ : Q (.inl none) (t_m b σz μ)) : z_K g d YX2_moves [.ref b, .int a1, .int a2] (t_m b σ μ) Q := by
  unfold D_moves at h
  refine z_K.of (by decide) rfl (Nat.le_of_ble_eq_true rfl) ?_
  refine zi_aload_n 0 dX2_moves_0 rfl rfl ?_
  refine ti_getA 46 29 t_o46 q2216 dX2_moves_1 ?_
  refine zi_iload_n 2 dX2_moves_4 rfl rfl ?_
  refine zi_aload_n 0 dX2_moves_5 rfl rfl ?_
  refine ti_getA 46 29 t_o46 q2216 dX2_moves_6 ?_
  refine zi_iload_n 1 dX2_moves_9 rfl rfl ?_
  obtain ⟨j1, hj1, h⟩ := x_gaE h
  refine ti_iald 46 j1 4096 28 ⟨rfl, rfl⟩ hj1 dX2_moves_10 ?_
  obtain ⟨j2, hj2, h⟩ := x_gaE h
  refine ti_iast 46 j2 4096 28 ⟨rfl, rfl⟩ hj2 dX2_moves_11 ?_
  refine x_lI (fun σ3 => z_V g d YX2_moves 12 [(0, .ref b), (1, .int a1), (2, .int a2)] [] (t_m b σ3 μ) Q) h (fun σ3 h => ?_)
  refine zi_aload_n 0 dX2_moves_12 rfl rfl ?_
  refine ti_getA 47 30 t_o47 q2217 dX2_moves_13 ?_
  refine zi_iload_n 2 dX2_moves_16 rfl rfl ?_
  refine zi_aload_n 0 dX2_moves_17 rfl rfl ?_
  refine ti_getA 47 30 t_o47 q2217 dX2_moves_18 ?_
  refine zi_iload_n 1 dX2_moves_21 rfl rfl ?_
  obtain ⟨j4, hj4, h⟩ := x_gaE h
  refine ti_iald 47 j4 4096 29 ⟨rfl, rfl⟩ hj4 dX2_moves_22 ?_
  obtain ⟨j5, hj5, h⟩ := x_gaE h
  refine ti_iast 47 j5 4096 29 ⟨rfl, rfl⟩ hj5 dX2_moves_23 ?_
  refine x_lI (fun σ6 => z_V g d YX2_moves 24 [(0, .ref b), (1, .int a1), (2, .int a2)] [] (t_m b σ6 μ) Q) h (fun σ6 h => ?_)
  refine zi_aload_n 0 dX2_moves_24 rfl rfl ?_
  refine ti_getA 48 31 t_o48 q2218 dX2_moves_25 ?_
  refine zi_iload_n 2 dX2_moves_28 rfl rfl ?_
  refine zi_aload_n 0 dX2_moves_29 rfl rfl ?_
  refine ti_getA 48 31 t_o48 q2218 dX2_moves_30 ?_
  refine zi_iload_n 1 dX2_moves_33 rfl rfl ?_
  obtain ⟨j7, hj7, h⟩ := x_gaE h
  refine ti_iald 48 j7 4096 30 ⟨rfl, rfl⟩ hj7 dX2_moves_34 ?_
  obtain ⟨j8, hj8, h⟩ := x_gaE h
  refine ti_iast 48 j8 4096 30 ⟨rfl, rfl⟩ hj8 dX2_moves_35 ?_
  refine x_lI (fun σ9 => z_V g d YX2_moves 36 [(0, .ref b), (1, .int a1), (2, .int a2)] [] (t_m b σ9 μ) Q) h (fun σ9 h => ?_)
  refine zi_aload_n 0 dX2_moves_36 rfl rfl ?_
  refine ti_getA 49 32 t_o49 q2219 dX2_moves_37 ?_
  refine zi_iload_n 2 dX2_moves_40 rfl rfl ?_
  refine zi_aload_n 0 dX2_moves_41 rfl rfl ?_
  refine ti_getA 49 32 t_o49 q2219 dX2_moves_42 ?_
  refine zi_iload_n 1 dX2_moves_45 rfl rfl ?_
  obtain ⟨j10, hj10, h⟩ := x_gaE h
  refine ti_iald 49 j10 4096 31 ⟨rfl, rfl⟩ hj10 dX2_moves_46 ?_
  obtain ⟨j11, hj11, h⟩ := x_gaE h
  refine ti_iast 49 j11 4096 31 ⟨rfl, rfl⟩ hj11 dX2_moves_47 ?_
  refine x_lI (fun σ12 => z_V g d YX2_moves 48 [(0, .ref b), (1, .int a1), (2, .int a2)] [] (t_m b σ12 μ) Q) h (fun σ12 h => ?_)
  refine zi_aload_n 0 dX2_moves_48 rfl rfl ?_
  refine ti_getA 50 33 t_o50 q2220 dX2_moves_49 ?_
  refine zi_iload_n 2 dX2_moves_52 rfl rfl ?_
  refine zi_aload_n 0 dX2_moves_53 rfl rfl ?_
  refine ti_getA 50 33 t_o50 q2220 dX2_moves_54 ?_
  refine zi_iload_n 1 dX2_moves_57 rfl rfl ?_
  obtain ⟨j13, hj13, h⟩ := x_gaE h
  refine ti_iald 50 j13 4096 32 ⟨rfl, rfl⟩ hj13 dX2_moves_58 ?_
  obtain ⟨j14, hj14, h⟩ := x_gaE h
  refine ti_iast 50 j14 4096 32 ⟨rfl, rfl⟩ hj14 dX2_moves_59 ?_
  refine x_lI (fun σ15 => z_V g d YX2_moves 60 [(0, .ref b), (1, .int a1), (2, .int a2)] [] (t_m b σ15 μ) Q) h (fun σ15 h => ?_)
  refine zi_aload_n 0 dX2_moves_60 rfl rfl ?_
  refine ti_getA 51 34 t_o51 q2221 dX2_moves_61 ?_
  refine zi_iload_n 2 dX2_moves_64 rfl rfl ?_
  refine zi_aload_n 0 dX2_moves_65 rfl rfl ?_
  refine ti_getA 51 34 t_o51 q2221 dX2_moves_66 ?_
  refine zi_iload_n 1 dX2_moves_69 rfl rfl ?_
  obtain ⟨j16, hj16, h⟩ := x_gaE h
  refine ti_iald 51 j16 4096 33 ⟨rfl, rfl⟩ hj16 dX2_moves_70 ?_
  obtain ⟨j17, hj17, h⟩ := x_gaE h
  refine ti_iast 51 j17 4096 33 ⟨rfl, rfl⟩ hj17 dX2_moves_71 ?_
  refine x_lI (fun σ18 => z_V g d YX2_moves 72 [(0, .ref b), (1, .int a1), (2, .int a2)] [] (t_m b σ18 μ) Q) h (fun σ18 h => ?_)
  refine zi_aload_n 0 dX2_moves_72 rfl rfl ?_
  refine ti_getA 52 35 t_o52 q2222 dX2_moves_73 ?_
  refine zi_iload_n 2 dX2_moves_76 rfl rfl ?_
  refine zi_aload_n 0 dX2_moves_77 rfl rfl ?_
  refine ti_getA 52 35 t_o52 q2222 dX2_moves_78 ?_
  refine zi_iload_n 1 dX2_moves_81 rfl rfl ?_
  obtain ⟨j19, hj19, h⟩ := x_gaE h
  refine ti_iald 52 j19 4096 34 ⟨rfl, rfl⟩ hj19 dX2_moves_82 ?_
  obtain ⟨j20, hj20, h⟩ := x_gaE h
  refine ti_iast 52 j20 4096 34 ⟨rfl, rfl⟩ hj20 dX2_moves_83 ?_
  refine x_lI (fun σ21 => z_V g d YX2_moves 84 [(0, .ref b), (1, .int a1), (2, .int a2)] [] (t_m b σ21 μ) Q) h (fun σ21 h => ?_)
  refine zi_aload_n 0 dX2_moves_84 rfl rfl ?_
  refine ti_getA 53 36 t_o53 q2223 dX2_moves_85 ?_
  refine zi_iload_n 2 dX2_moves_88 rfl rfl ?_
  refine zi_aload_n 0 dX2_moves_89 rfl rfl ?_
  refine ti_getA 53 36 t_o53 q2223 dX2_moves_90 ?_
  refine zi_iload_n 1 dX2_moves_93 rfl rfl ?_
  obtain ⟨j22, hj22, h⟩ := x_gaE h
  refine ti_iald 53 j22 4096 35 ⟨rfl, rfl⟩ hj22 dX2_moves_94 ?_
  obtain ⟨j23, hj23, h⟩ := x_gaE h
  refine ti_iast 53 j23 4096 35 ⟨rfl, rfl⟩ hj23 dX2_moves_95 ?_
  refine x_lI (fun σ24 => z_V g d YX2_moves 96 [(0, .ref b), (1, .int a1), (2, .int a2)] [] (t_m b σ24 μ) Q) h (fun σ24 h => ?_)
  refine zi_aload_n 0 dX2_moves_96 rfl rfl ?_
  refine ti_getA 54 37 t_o54 q2224 dX2_moves_97 ?_
  refine zi_iload_n 2 dX2_moves_100 rfl rfl ?_
  refine zi_aload_n 0 dX2_moves_101 rfl rfl ?_
  refine ti_getA 54 37 t_o54 q2224 dX2_moves_102 ?_
  refine zi_iload_n 1 dX2_moves_105 rfl rfl ?_
  obtain ⟨j25, hj25, h⟩ := x_gaE h
  refine ti_iald 54 j25 4096 36 ⟨rfl, rfl⟩ hj25 dX2_moves_106 ?_
  obtain ⟨j26, hj26, h⟩ := x_gaE h
  refine ti_iast 54 j26 4096 36 ⟨rfl, rfl⟩ hj26 dX2_moves_107 ?_
  refine x_lI (fun σ27 => z_V g d YX2_moves 108 [(0, .ref b), (1, .int a1), (2, .int a2)] [] (t_m b σ27 μ) Q) h (fun σ27 h => ?_)
  refine zi_aload_n 0 dX2_moves_108 rfl rfl ?_
  refine ti_getA 55 38 t_o55 q2225 dX2_moves_109 ?_
  refine zi_iload_n 2 dX2_moves_112 rfl rfl ?_
  refine zi_aload_n 0 dX2_moves_113 rfl rfl ?_
  refine ti_getA 55 38 t_o55 q2225 dX2_moves_114 ?_
  refine zi_iload_n 1 dX2_moves_117 rfl rfl ?_
  obtain ⟨j28, hj28, h⟩ := x_gaE h
  refine ti_iald 55 j28 4096 37 ⟨rfl, rfl⟩ hj28 dX2_moves_118 ?_
  obtain ⟨j29, hj29, h⟩ := x_gaE h
  refine ti_iast 55 j29 4096 37 ⟨rfl, rfl⟩ hj29 dX2_moves_119 ?_
  refine x_lI (fun σ30 => z_V g d YX2_moves 120 [(0, .ref b), (1, .int a1), (2, .int a2)] [] (t_m b σ30 μ) Q) h (fun σ30 h => ?_)
  refine zi_aload_n 0 dX2_moves_120 rfl rfl ?_
  refine ti_getA 56 39 t_o56 q2226 dX2_moves_121 ?_
  refine zi_iload_n 2 dX2_moves_124 rfl rfl ?_
  refine zi_aload_n 0 dX2_moves_125 rfl rfl ?_
  refine ti_getA 56 39 t_o56 q2226 dX2_moves_126 ?_
  refine zi_iload_n 1 dX2_moves_129 rfl rfl ?_
  obtain ⟨j31, hj31, h⟩ := x_gaE h
  refine ti_iald 56 j31 4096 38 ⟨rfl, rfl⟩ hj31 dX2_moves_130 ?_
  obtain ⟨j32, hj32, h⟩ := x_gaE h
  refine ti_iast 56 j32 4096 38 ⟨rfl, rfl⟩ hj32 dX2_moves_131 ?_
  refine x_lI (fun σ33 => z_V g d YX2_moves 132 [(0, .ref b), (1, .int a1), (2, .int a2)] [] (t_m b σ33 μ) Q) h (fun σ33 h => ?_)
  refine zi_return rfl dX2_moves_132 ?_
  exact x_r0 h hQ
noncomputable def D_entriesAll_4  (σ : t_S) (k27 : Int32 → Option Int32) : Nat → Int32 → Int32 → Option Int32
  | 0, _, _ => none
  | f + 1, v1_1, v2_2 =>
    if (t_i σ 23) ≤ v2_2 then (k27 v1_1) else
    x_ga v2_2 6 fun j6 =>
    x_l (v1_1 + (t_a σ 34 j6)) fun v7 =>
    x_l (v2_2 + (1 : Int32)) fun v8 =>
    D_entriesAll_4 σ k27 f v7 v8
theorem w_entriesAll_4  {σ : t_S} {rz : Int32} {k27 : Int32 → Option Int32} (hk27 : ∀ (v1_3 : Int32), k27 v1_3 = some rz → z_V g d YX2_entriesAll 27 [(1, .int v1_3)] [] (t_m b σ μ) Q) (hQ : Q (.inl (some (.int rz))) (t_m b σ μ)) : ∀ (f : Nat) (v1_1 : Int32) (v2_2 : Int32), D_entriesAll_4 σ k27 f v1_1 v2_2 = some rz → z_V g d YX2_entriesAll 4 [(0, .ref b), (1, .int v1_1), (2, .int v2_2)] [] (t_m b σ μ) Q := by
  intro f
  induction f with
  | zero =>
    intro v1_1 v2_2 h
    exact absurd h (x_n _)
  | succ f ih =>
    intro v1_1 v2_2 h
    refine zi_iload_n 2 dX2_entriesAll_4 rfl rfl ?_
    refine zi_aload_n 0 dX2_entriesAll_5 rfl rfl ?_
    refine ti_getI 23 ⟨Nat.le_of_ble_eq_true rfl, rfl⟩ q2193 dX2_entriesAll_6 ?_
    refine zi_icmp_ge 27 dX2_entriesAll_9 (by decide) (fun c5 => ?_) (fun c5 => ?_)
    · replace h := x_iT h c5
      refine zi_sub [1] rfl ?_
      exact hk27 _ h
    · replace h := x_iF h c5
      refine zi_iload_n 1 dX2_entriesAll_12 rfl rfl ?_
      refine zi_aload_n 0 dX2_entriesAll_13 rfl rfl ?_
      refine ti_getA 34 18 t_o34 q2204 dX2_entriesAll_14 ?_
      refine zi_iload_n 2 dX2_entriesAll_17 rfl rfl ?_
      obtain ⟨j6, hj6, h⟩ := x_gaE h
      refine ti_iald 34 j6 6 17 ⟨rfl, rfl⟩ hj6 dX2_entriesAll_18 ?_
      refine zi_iadd dX2_entriesAll_19 ?_
      refine zi_istore_n (lc1 := [(1, _), (0, _), (2, _)]) dX2_entriesAll_20 rfl (Nat.le_of_ble_eq_true rfl) rfl ?_
      refine x_lI (fun v7 => z_V g d YX2_entriesAll 21 [(1, .int v7), (0, .ref b), (2, .int v2_2)] [] (t_m b σ μ) Q) h (fun v7 h => ?_)
      refine zi_iinc (v := (v2_2 + (1 : Int32))) (lc1 := [(2, _), (1, _), (0, _)]) 2 dX2_entriesAll_21 rfl rfl (Nat.le_of_ble_eq_true rfl) rfl ?_
      refine x_lI (fun v8 => z_V g d YX2_entriesAll 24 [(2, .int v8), (1, .int v7), (0, .ref b)] [] (t_m b σ μ) Q) h (fun v8 h => ?_)
      refine zi_goto 4 dX2_entriesAll_24 (by decide) ?_
      refine zi_sub [2, 1, 0] rfl ?_
      exact ih _ _ h
noncomputable def D_entriesAll  (σ : t_S) : Option Int32 :=
  D_entriesAll_4 σ
    (fun (v1_9 : Int32) => some v1_9)
    x_F (0 : Int32) (0 : Int32)
theorem w_entriesAll  {rz : Int32} (h : D_entriesAll σ = some rz) (hQ : Q (.inl (some (.int rz))) (t_m b σ μ)) : z_K g d YX2_entriesAll [.ref b] (t_m b σ μ) Q := by
  unfold D_entriesAll at h
  refine z_K.of (by decide) rfl (Nat.le_of_ble_eq_true rfl) ?_
  refine zi_iconst (v := 0) dX2_entriesAll_0 (by decide) ?_
  refine zi_istore_n (lc1 := [(1, _), (0, _)]) dX2_entriesAll_1 rfl (Nat.le_of_ble_eq_true rfl) rfl ?_
  refine zi_iconst (v := 0) dX2_entriesAll_2 (by decide) ?_
  refine zi_istore_n (lc1 := [(2, _), (1, _), (0, _)]) dX2_entriesAll_3 rfl (Nat.le_of_ble_eq_true rfl) rfl ?_
  refine zi_sub [2, 1, 0] rfl ?_
  refine w_entriesAll_4 (fun v1_9 h => ?_) hQ _ _ _ h
  · refine zi_iload_n 0 dX2_entriesAll_27 rfl rfl ?_
    refine zi_ireturn rfl rfl dX2_entriesAll_28 ?_
    exact x_r1i h hQ
noncomputable def D_ofAsk (a1 : Int32) (a2 : Int32) (σ : t_S) : Option Int32 :=
  x_ga a1 64 fun j1 =>
  x_l (t_a σ 57 j1) fun v2 =>
  if a2 = 0 then (some v2) else
  if a2 = 1 then (if v2 = 0 then (some (-1 : Int32)) else
  x_ga a1 64 fun j6 =>
  some (t_a σ 58 j6)) else
  if a2 = 2 then (if v2 = (1 : Int32) then (x_ga a1 64 fun j9 =>
  some (t_a σ 60 j9)) else
  some (-1 : Int32)) else
  if a2 = 3 then (if v2 = (1 : Int32) then (x_ga a1 64 fun j12 =>
  some (t_a σ 61 j12)) else
  some (-1 : Int32)) else
  if a2 = 4 then (if v2 = (2 : Int32) then (x_ga a1 64 fun j15 =>
  some (t_a σ 62 j15)) else
  some (-1 : Int32)) else
  if a2 = 5 then (if v2 = (2 : Int32) then (x_ga a1 64 fun j18 =>
  some (t_a σ 63 j18)) else
  some (-1 : Int32)) else
  if a2 = 6 then (if v2 = (2 : Int32) then (x_ga a1 64 fun j21 =>
  some (t_a σ 64 j21)) else
  some (-1 : Int32)) else
  some (-2 : Int32)
theorem w_ofAsk {a1 : Int32} {a2 : Int32} {rz : Int32} (h : D_ofAsk a1 a2 σ = some rz) (hQ : Q (.inl (some (.int rz))) (t_m b σ μ)) : z_K g d YX2_ofAsk [.ref b, .int a1, .int a2] (t_m b σ μ) Q := by
  unfold D_ofAsk at h
  refine z_K.of (by decide) rfl (Nat.le_of_ble_eq_true rfl) ?_
  refine zi_aload_n 0 dX2_ofAsk_0 rfl rfl ?_
  refine ti_getA 57 40 t_o57 q2227 dX2_ofAsk_1 ?_
  refine zi_iload_n 1 dX2_ofAsk_4 rfl rfl ?_
  obtain ⟨j1, hj1, h⟩ := x_gaE h
  refine ti_iald 57 j1 64 39 ⟨rfl, rfl⟩ hj1 dX2_ofAsk_5 ?_
  refine zi_istore_n (lc1 := [(3, _), (0, _), (1, _), (2, _)]) dX2_ofAsk_6 rfl (Nat.le_of_ble_eq_true rfl) rfl ?_
  refine x_lI (fun v2 => z_V g d YX2_ofAsk 7 [(3, .int v2), (0, .ref b), (1, .int a1), (2, .int a2)] [] (t_m b σ μ) Q) h (fun v2 h => ?_)
  refine zi_iload_n 3 dX2_ofAsk_7 rfl rfl ?_
  rcases Decidable.em (a2 = (0 : Int32)) with c3 | c3
  · replace h := x_iT h c3
    refine zi_tableIn 52 dX2_ofAsk_8 (by rw [c3]; decide) (by rw [c3]; decide) (by rw [c3] <;> rfl) (by decide) ?_
    refine zi_iload_n 0 dX2_ofAsk_52 rfl rfl ?_
    refine zi_ireturn rfl rfl dX2_ofAsk_53 ?_
    exact x_r1i h hQ
  replace h := x_iF h c3
  rcases Decidable.em (a2 = (1 : Int32)) with c4 | c4
  · replace h := x_iT h c4
    refine zi_tableIn 54 dX2_ofAsk_8 (by rw [c4]; decide) (by rw [c4]; decide) (by rw [c4] <;> rfl) (by decide) ?_
    refine zi_iload_n 0 dX2_ofAsk_54 rfl rfl ?_
    refine zi_if_ne 62 dX2_ofAsk_55 (by decide) (fun c5 => ?_) (fun c5 => ?_)
    · replace h := x_iF h c5
      refine zi_aload_n 1 dX2_ofAsk_62 rfl rfl ?_
      refine ti_getA 58 41 t_o58 q2228 dX2_ofAsk_63 ?_
      refine zi_iload_n 2 dX2_ofAsk_66 rfl rfl ?_
      obtain ⟨j6, hj6, h⟩ := x_gaE h
      refine ti_iald 58 j6 64 40 ⟨rfl, rfl⟩ hj6 dX2_ofAsk_67 ?_
      refine zi_ireturn rfl rfl dX2_ofAsk_68 ?_
      exact x_r1i h hQ
    · replace h := x_iT h c5
      refine zi_iconst (v := -1) dX2_ofAsk_58 (by decide) ?_
      refine zi_goto 68 dX2_ofAsk_59 (by decide) ?_
      refine zi_ireturn rfl rfl dX2_ofAsk_68 ?_
      exact x_r1i h hQ
  replace h := x_iF h c4
  rcases Decidable.em (a2 = (2 : Int32)) with c7 | c7
  · replace h := x_iT h c7
    refine zi_tableIn 69 dX2_ofAsk_8 (by rw [c7]; decide) (by rw [c7]; decide) (by rw [c7] <;> rfl) (by decide) ?_
    refine zi_iload_n 0 dX2_ofAsk_69 rfl rfl ?_
    refine zi_iconst (v := 1) dX2_ofAsk_70 (by decide) ?_
    refine zi_icmp_ne 83 dX2_ofAsk_71 (by decide) (fun c8 => ?_) (fun c8 => ?_)
    · replace h := x_iF h c8
      refine zi_iconst (v := -1) dX2_ofAsk_83 (by decide) ?_
      refine zi_ireturn rfl rfl dX2_ofAsk_84 ?_
      exact x_r1i h hQ
    · replace h := x_iT h c8
      refine zi_aload_n 1 dX2_ofAsk_74 rfl rfl ?_
      refine ti_getA 60 43 t_o60 q2230 dX2_ofAsk_75 ?_
      refine zi_iload_n 2 dX2_ofAsk_78 rfl rfl ?_
      obtain ⟨j9, hj9, h⟩ := x_gaE h
      refine ti_iald 60 j9 64 42 ⟨rfl, rfl⟩ hj9 dX2_ofAsk_79 ?_
      refine zi_goto 84 dX2_ofAsk_80 (by decide) ?_
      refine zi_ireturn rfl rfl dX2_ofAsk_84 ?_
      exact x_r1i h hQ
  replace h := x_iF h c7
  rcases Decidable.em (a2 = (3 : Int32)) with c10 | c10
  · replace h := x_iT h c10
    refine zi_tableIn 85 dX2_ofAsk_8 (by rw [c10]; decide) (by rw [c10]; decide) (by rw [c10] <;> rfl) (by decide) ?_
    refine zi_iload_n 0 dX2_ofAsk_85 rfl rfl ?_
    refine zi_iconst (v := 1) dX2_ofAsk_86 (by decide) ?_
    refine zi_icmp_ne 99 dX2_ofAsk_87 (by decide) (fun c11 => ?_) (fun c11 => ?_)
    · replace h := x_iF h c11
      refine zi_iconst (v := -1) dX2_ofAsk_99 (by decide) ?_
      refine zi_ireturn rfl rfl dX2_ofAsk_100 ?_
      exact x_r1i h hQ
    · replace h := x_iT h c11
      refine zi_aload_n 1 dX2_ofAsk_90 rfl rfl ?_
      refine ti_getA 61 44 t_o61 q2231 dX2_ofAsk_91 ?_
      refine zi_iload_n 2 dX2_ofAsk_94 rfl rfl ?_
      obtain ⟨j12, hj12, h⟩ := x_gaE h
      refine ti_iald 61 j12 64 43 ⟨rfl, rfl⟩ hj12 dX2_ofAsk_95 ?_
      refine zi_goto 100 dX2_ofAsk_96 (by decide) ?_
      refine zi_ireturn rfl rfl dX2_ofAsk_100 ?_
      exact x_r1i h hQ
  replace h := x_iF h c10
  rcases Decidable.em (a2 = (4 : Int32)) with c13 | c13
  · replace h := x_iT h c13
    refine zi_tableIn 101 dX2_ofAsk_8 (by rw [c13]; decide) (by rw [c13]; decide) (by rw [c13] <;> rfl) (by decide) ?_
    refine zi_iload_n 0 dX2_ofAsk_101 rfl rfl ?_
    refine zi_iconst (v := 2) dX2_ofAsk_102 (by decide) ?_
    refine zi_icmp_ne 115 dX2_ofAsk_103 (by decide) (fun c14 => ?_) (fun c14 => ?_)
    · replace h := x_iF h c14
      refine zi_iconst (v := -1) dX2_ofAsk_115 (by decide) ?_
      refine zi_ireturn rfl rfl dX2_ofAsk_116 ?_
      exact x_r1i h hQ
    · replace h := x_iT h c14
      refine zi_aload_n 1 dX2_ofAsk_106 rfl rfl ?_
      refine ti_getA 62 45 t_o62 q2232 dX2_ofAsk_107 ?_
      refine zi_iload_n 2 dX2_ofAsk_110 rfl rfl ?_
      obtain ⟨j15, hj15, h⟩ := x_gaE h
      refine ti_iald 62 j15 64 44 ⟨rfl, rfl⟩ hj15 dX2_ofAsk_111 ?_
      refine zi_goto 116 dX2_ofAsk_112 (by decide) ?_
      refine zi_ireturn rfl rfl dX2_ofAsk_116 ?_
      exact x_r1i h hQ
  replace h := x_iF h c13
  rcases Decidable.em (a2 = (5 : Int32)) with c16 | c16
  · replace h := x_iT h c16
    refine zi_tableIn 117 dX2_ofAsk_8 (by rw [c16]; decide) (by rw [c16]; decide) (by rw [c16] <;> rfl) (by decide) ?_
    refine zi_iload_n 0 dX2_ofAsk_117 rfl rfl ?_
    refine zi_iconst (v := 2) dX2_ofAsk_118 (by decide) ?_
    refine zi_icmp_ne 131 dX2_ofAsk_119 (by decide) (fun c17 => ?_) (fun c17 => ?_)
    · replace h := x_iF h c17
      refine zi_iconst (v := -1) dX2_ofAsk_131 (by decide) ?_
      refine zi_ireturn rfl rfl dX2_ofAsk_132 ?_
      exact x_r1i h hQ
    · replace h := x_iT h c17
      refine zi_aload_n 1 dX2_ofAsk_122 rfl rfl ?_
      refine ti_getA 63 46 t_o63 q2233 dX2_ofAsk_123 ?_
      refine zi_iload_n 2 dX2_ofAsk_126 rfl rfl ?_
      obtain ⟨j18, hj18, h⟩ := x_gaE h
      refine ti_iald 63 j18 64 45 ⟨rfl, rfl⟩ hj18 dX2_ofAsk_127 ?_
      refine zi_goto 132 dX2_ofAsk_128 (by decide) ?_
      refine zi_ireturn rfl rfl dX2_ofAsk_132 ?_
      exact x_r1i h hQ
  replace h := x_iF h c16
  rcases Decidable.em (a2 = (6 : Int32)) with c19 | c19
  · replace h := x_iT h c19
    refine zi_tableIn 133 dX2_ofAsk_8 (by rw [c19]; decide) (by rw [c19]; decide) (by rw [c19] <;> rfl) (by decide) ?_
    refine zi_iload_n 0 dX2_ofAsk_133 rfl rfl ?_
    refine zi_iconst (v := 2) dX2_ofAsk_134 (by decide) ?_
    refine zi_icmp_ne 147 dX2_ofAsk_135 (by decide) (fun c20 => ?_) (fun c20 => ?_)
    · replace h := x_iF h c20
      refine zi_iconst (v := -1) dX2_ofAsk_147 (by decide) ?_
      refine zi_ireturn rfl rfl dX2_ofAsk_148 ?_
      exact x_r1i h hQ
    · replace h := x_iT h c20
      refine zi_aload_n 1 dX2_ofAsk_138 rfl rfl ?_
      refine ti_getA 64 47 t_o64 q2234 dX2_ofAsk_139 ?_
      refine zi_iload_n 2 dX2_ofAsk_142 rfl rfl ?_
      obtain ⟨j21, hj21, h⟩ := x_gaE h
      refine ti_iald 64 j21 64 46 ⟨rfl, rfl⟩ hj21 dX2_ofAsk_143 ?_
      refine zi_goto 148 dX2_ofAsk_144 (by decide) ?_
      refine zi_ireturn rfl rfl dX2_ofAsk_148 ?_
      exact x_r1i h hQ
  replace h := x_iF h c19
  have hO := x_swO (v := a2) (0) (6) (fun i h1 h2 => by
    rcases (show i = 0 ∨ i = 1 ∨ i = 2 ∨ i = 3 ∨ i = 4 ∨ i = 5 ∨ i = 6 by omega) with rfl | rfl | rfl | rfl | rfl | rfl | rfl
    · exact c3
    · exact c4
    · exact c7
    · exact c10
    · exact c13
    · exact c16
    · exact c19)
  refine zi_tableOut 149 dX2_ofAsk_8 hO (by decide) ?_
  refine zi_bipush (v := -2) dX2_ofAsk_149 (by decide) ?_
  refine zi_ireturn rfl rfl dX2_ofAsk_151 ?_
  exact x_r1i h hQ
noncomputable def D_facts  (σ : t_S) : Option Int32 :=
  x_ga ((17 : Int32) * (t_i σ 81)) 136 fun j1 =>
  some (t_a σ 8 j1)
theorem w_facts  {rz : Int32} (h : D_facts σ = some rz) (hQ : Q (.inl (some (.int rz))) (t_m b σ μ)) : z_K g d YX2_facts [.ref b] (t_m b σ μ) Q := by
  unfold D_facts at h
  refine z_K.of (by decide) rfl (Nat.le_of_ble_eq_true rfl) ?_
  refine zi_aload_n 0 dX2_facts_0 rfl rfl ?_
  refine ti_getA 8 8 t_o8 q2178 dX2_facts_1 ?_
  refine zi_bipush (v := 17) dX2_facts_4 (by decide) ?_
  refine zi_aload_n 0 dX2_facts_6 rfl rfl ?_
  refine ti_getI 81 ⟨Nat.le_of_ble_eq_true rfl, rfl⟩ q2251 dX2_facts_7 ?_
  refine zi_imul dX2_facts_10 ?_
  obtain ⟨j1, hj1, h⟩ := x_gaE h
  refine ti_iald 8 j1 136 7 ⟨rfl, rfl⟩ hj1 dX2_facts_11 ?_
  refine zi_ireturn rfl rfl dX2_facts_12 ?_
  exact x_r1i h hQ
noncomputable def D_factOf (a1 : Int32) (a2 : Int32) (σ : t_S) : Option Int32 :=
  x_ga (((((17 : Int32) * (t_i σ 81)) + (1 : Int32)) + ((2 : Int32) * a1)) + a2) 136 fun j1 =>
  some (t_a σ 8 j1)
theorem w_factOf {a1 : Int32} {a2 : Int32} {rz : Int32} (h : D_factOf a1 a2 σ = some rz) (hQ : Q (.inl (some (.int rz))) (t_m b σ μ)) : z_K g d YX2_factOf [.ref b, .int a1, .int a2] (t_m b σ μ) Q := by
  unfold D_factOf at h
  refine z_K.of (by decide) rfl (Nat.le_of_ble_eq_true rfl) ?_
  refine zi_aload_n 0 dX2_factOf_0 rfl rfl ?_
  refine ti_getA 8 8 t_o8 q2178 dX2_factOf_1 ?_
  refine zi_bipush (v := 17) dX2_factOf_4 (by decide) ?_
  refine zi_aload_n 0 dX2_factOf_6 rfl rfl ?_
  refine ti_getI 81 ⟨Nat.le_of_ble_eq_true rfl, rfl⟩ q2251 dX2_factOf_7 ?_
  refine zi_imul dX2_factOf_10 ?_
  refine zi_iconst (v := 1) dX2_factOf_11 (by decide) ?_
  refine zi_iadd dX2_factOf_12 ?_
  refine zi_iconst (v := 2) dX2_factOf_13 (by decide) ?_
  refine zi_iload_n 1 dX2_factOf_14 rfl rfl ?_
  refine zi_imul dX2_factOf_15 ?_
  refine zi_iadd dX2_factOf_16 ?_
  refine zi_iload_n 2 dX2_factOf_17 rfl rfl ?_
  refine zi_iadd dX2_factOf_18 ?_
  obtain ⟨j1, hj1, h⟩ := x_gaE h
  refine ti_iald 8 j1 136 7 ⟨rfl, rfl⟩ hj1 dX2_factOf_19 ?_
  refine zi_ireturn rfl rfl dX2_factOf_20 ?_
  exact x_r1i h hQ
noncomputable def D_noteFit_32  (k68 : t_S → Option t_S) : Nat → Int32 → t_S → Option t_S
  | 0, _, _ => none
  | f + 1, v3_4, σ5 =>
    if (40 : Int32) ≤ v3_4 then (k68 σ5) else
    x_ga v3_4 40 fun j8 =>
    x_ga v3_4 64 fun j9 =>
    if (t_a σ5 57 j9) = (1 : Int32) then (x_ga v3_4 40 fun j14 =>
    x_l (t_sa σ5 84 j14 ((t_a σ5 84 j8) + (1 : Int32))) fun σ15 =>
    x_l (v3_4 + (1 : Int32)) fun v16 =>
    D_noteFit_32 k68 f v16 σ15) else
    x_ga v3_4 40 fun j11 =>
    x_l (t_sa σ5 84 j11 ((t_a σ5 84 j8) + (0 : Int32))) fun σ12 =>
    x_l (v3_4 + (1 : Int32)) fun v13 =>
    D_noteFit_32 k68 f v13 σ12
theorem w_noteFit_32   {k68 : t_S → Option t_S} (hk68 : ∀ (σ6 : t_S), k68 σ6 = some σz → z_V g d YX2_noteFit 68 [] [] (t_m b σ6 μ) Q) (hQ : Q (.inl none) (t_m b σz μ)) : ∀ (f : Nat) (v3_4 : Int32) (σ5 : t_S), D_noteFit_32 k68 f v3_4 σ5 = some σz → z_V g d YX2_noteFit 32 [(0, .ref b), (3, .int v3_4)] [] (t_m b σ5 μ) Q := by
  intro f
  induction f with
  | zero =>
    intro v3_4 σ5 h
    exact absurd h (x_n _)
  | succ f ih =>
    intro v3_4 σ5 h
    refine zi_iload_n 1 dX2_noteFit_32 rfl rfl ?_
    refine zi_bipush (v := 40) dX2_noteFit_33 (by decide) ?_
    refine zi_icmp_ge 68 dX2_noteFit_35 (by decide) (fun c7 => ?_) (fun c7 => ?_)
    · replace h := x_iT h c7
      refine zi_sub [] rfl ?_
      exact hk68 _ h
    · replace h := x_iF h c7
      refine zi_aload_n 0 dX2_noteFit_38 rfl rfl ?_
      refine ti_getA 84 51 t_o84 q2254 dX2_noteFit_39 ?_
      refine zi_iload_n 1 dX2_noteFit_42 rfl rfl ?_
      refine zi_dup2_11 dX2_noteFit_43 rfl rfl ?_
      obtain ⟨j8, hj8, h⟩ := x_gaE h
      refine ti_iald 84 j8 40 50 ⟨rfl, rfl⟩ hj8 dX2_noteFit_44 ?_
      refine zi_aload_n 0 dX2_noteFit_45 rfl rfl ?_
      refine ti_getA 57 40 t_o57 q2227 dX2_noteFit_46 ?_
      refine zi_iload_n 1 dX2_noteFit_49 rfl rfl ?_
      obtain ⟨j9, hj9, h⟩ := x_gaE h
      refine ti_iald 57 j9 64 39 ⟨rfl, rfl⟩ hj9 dX2_noteFit_50 ?_
      refine zi_iconst (v := 1) dX2_noteFit_51 (by decide) ?_
      refine zi_icmp_ne 59 dX2_noteFit_52 (by decide) (fun c10 => ?_) (fun c10 => ?_)
      · replace h := x_iF h c10
        refine zi_iconst (v := 0) dX2_noteFit_59 (by decide) ?_
        refine zi_iadd dX2_noteFit_60 ?_
        obtain ⟨j11, hj11, h⟩ := x_gaE h
        refine ti_iast 84 j11 40 50 ⟨rfl, rfl⟩ hj11 dX2_noteFit_61 ?_
        refine x_lI (fun σ12 => z_V g d YX2_noteFit 62 [(0, .ref b), (3, .int v3_4)] [] (t_m b σ12 μ) Q) h (fun σ12 h => ?_)
        refine zi_iinc (v := (v3_4 + (1 : Int32))) (lc1 := [(3, _), (0, _)]) 1 dX2_noteFit_62 rfl rfl (Nat.le_of_ble_eq_true rfl) rfl ?_
        refine x_lI (fun v13 => z_V g d YX2_noteFit 65 [(3, .int v13), (0, .ref b)] [] (t_m b σ12 μ) Q) h (fun v13 h => ?_)
        refine zi_goto 32 dX2_noteFit_65 (by decide) ?_
        refine zi_sub [1, 0] rfl ?_
        exact ih _ _ h
      · replace h := x_iT h c10
        refine zi_iconst (v := 1) dX2_noteFit_55 (by decide) ?_
        refine zi_goto 60 dX2_noteFit_56 (by decide) ?_
        refine zi_iadd dX2_noteFit_60 ?_
        obtain ⟨j14, hj14, h⟩ := x_gaE h
        refine ti_iast 84 j14 40 50 ⟨rfl, rfl⟩ hj14 dX2_noteFit_61 ?_
        refine x_lI (fun σ15 => z_V g d YX2_noteFit 62 [(0, .ref b), (3, .int v3_4)] [] (t_m b σ15 μ) Q) h (fun σ15 h => ?_)
        refine zi_iinc (v := (v3_4 + (1 : Int32))) (lc1 := [(3, _), (0, _)]) 1 dX2_noteFit_62 rfl rfl (Nat.le_of_ble_eq_true rfl) rfl ?_
        refine x_lI (fun v16 => z_V g d YX2_noteFit 65 [(3, .int v16), (0, .ref b)] [] (t_m b σ15 μ) Q) h (fun v16 h => ?_)
        refine zi_goto 32 dX2_noteFit_65 (by decide) ?_
        refine zi_sub [1, 0] rfl ?_
        exact ih _ _ h
noncomputable def D_noteFit (a1 : Int32) (a2 : Int32) (σ : t_S) : Option t_S :=
  x_l (fun (s1 : Int32) => x_l (t_si σ 83 s1) fun σ2 =>
  x_l (t_si σ2 82 ((t_i σ2 82) + (1 : Int32))) fun σ3 =>
  D_noteFit_32
    (fun (σ17 : t_S) => some σ17)
    x_F (0 : Int32) σ3) fun J17 =>
  if (t_i σ 82) = a2 then (J17 a1) else
  J17 (t_i σ 83)
theorem w_noteFit {a1 : Int32} {a2 : Int32}  (h : D_noteFit a1 a2 σ = some σz) (hQ : Q (.inl none) (t_m b σz μ)) : z_K g d YX2_noteFit [.ref b, .int a1, .int a2] (t_m b σ μ) Q := by
  unfold D_noteFit at h
  refine z_K.of (by decide) rfl (Nat.le_of_ble_eq_true rfl) ?_
  refine zi_aload_n 0 dX2_noteFit_0 rfl rfl ?_
  refine zi_aload_n 0 dX2_noteFit_1 rfl rfl ?_
  refine ti_getI 82 ⟨Nat.le_of_ble_eq_true rfl, rfl⟩ q2252 dX2_noteFit_2 ?_
  refine zi_iload_n 2 dX2_noteFit_5 rfl rfl ?_
  refine x_jI (fun (J : Int32 → Option t_S) => ∀ (s1 : Int32), J s1 = some σz → z_V g d YX2_noteFit 17 [(0, .ref b)] [.int s1, .ref b] (t_m b σ μ) Q) h (fun s1 h => ?_) (fun J17 hJ17 h => ?_)
  · refine ti_putI 83 ⟨Nat.le_of_ble_eq_true rfl, rfl, rfl⟩ (tyX2_ok 83 (Nat.le_of_ble_eq_true rfl)) q2253 dX2_noteFit_17 ?_
    refine x_lI (fun σ2 => z_V g d YX2_noteFit 20 [(0, .ref b)] [] (t_m b σ2 μ) Q) h (fun σ2 h => ?_)
    refine zi_aload_n 0 dX2_noteFit_20 rfl rfl ?_
    refine zi_dup dX2_noteFit_21 rfl ?_
    refine ti_getI 82 ⟨Nat.le_of_ble_eq_true rfl, rfl⟩ q2252 dX2_noteFit_22 ?_
    refine zi_iconst (v := 1) dX2_noteFit_25 (by decide) ?_
    refine zi_iadd dX2_noteFit_26 ?_
    refine ti_putI 82 ⟨Nat.le_of_ble_eq_true rfl, rfl, rfl⟩ (tyX2_ok 82 (Nat.le_of_ble_eq_true rfl)) q2252 dX2_noteFit_27 ?_
    refine x_lI (fun σ3 => z_V g d YX2_noteFit 30 [(0, .ref b)] [] (t_m b σ3 μ) Q) h (fun σ3 h => ?_)
    refine zi_iconst (v := 0) dX2_noteFit_30 (by decide) ?_
    refine zi_istore_n (lc1 := [(3, _), (0, _)]) dX2_noteFit_31 rfl (Nat.le_of_ble_eq_true rfl) rfl ?_
    refine zi_sub [1, 0] rfl ?_
    refine w_noteFit_32 (fun σ17 h => ?_) hQ _ _ _ h
    · refine zi_return rfl dX2_noteFit_68 ?_
      exact x_r0 h hQ
  refine zi_icmp_ne 13 dX2_noteFit_6 (by decide) (fun c18 => ?_) (fun c18 => ?_)
  · replace h := x_iF h c18
    refine zi_aload_n 0 dX2_noteFit_13 rfl rfl ?_
    refine ti_getI 83 ⟨Nat.le_of_ble_eq_true rfl, rfl⟩ q2253 dX2_noteFit_14 ?_
    refine zi_sub [0] rfl ?_
    exact hJ17 _ h
  · replace h := x_iT h c18
    refine zi_iload_n 1 dX2_noteFit_9 rfl rfl ?_
    refine zi_goto 17 dX2_noteFit_10 (by decide) ?_
    refine zi_sub [0] rfl ?_
    exact hJ17 _ h
noncomputable def D_draw (a1 : Int32) (σ : t_S) : Option (Int32 × t_S) :=
  x_l (t_si σ 85 (((t_i σ 85) * (1103515245 : Int32)) + (12345 : Int32))) fun σ1 =>
  x_g (¬ a1 = 0) <|
  some ((((((t_i σ1 85)).toUInt32 >>> (((16 : Int32)).toUInt32 &&& Int32.toUInt32 31)).toInt32) - ((((t_i σ1 85)).toUInt32 >>> (((16 : Int32)).toUInt32 &&& Int32.toUInt32 31)).toInt32) / a1 * a1), σ1)
theorem w_draw {a1 : Int32} {rz : Int32} (h : D_draw a1 σ = some (rz, σz)) (hQ : Q (.inl (some (.int rz))) (t_m b σz μ)) : z_K g d YX2_draw [.ref b, .int a1] (t_m b σ μ) Q := by
  unfold D_draw at h
  refine z_K.of (by decide) rfl (Nat.le_of_ble_eq_true rfl) ?_
  refine zi_aload_n 0 dX2_draw_0 rfl rfl ?_
  refine zi_aload_n 0 dX2_draw_1 rfl rfl ?_
  refine ti_getI 85 ⟨Nat.le_of_ble_eq_true rfl, rfl⟩ q2255 dX2_draw_2 ?_
  refine zi_ldcw (v := 1103515245) q2901 dX2_draw_5 ?_
  refine zi_imul dX2_draw_8 ?_
  refine zi_sipush (v := 12345) dX2_draw_9 (by decide) ?_
  refine zi_iadd dX2_draw_12 ?_
  refine ti_putI 85 ⟨Nat.le_of_ble_eq_true rfl, rfl, rfl⟩ (tyX2_ok 85 (Nat.le_of_ble_eq_true rfl)) q2255 dX2_draw_13 ?_
  refine x_lI (fun σ1 => z_V g d YX2_draw 16 [(0, .ref b), (1, .int a1)] [] (t_m b σ1 μ) Q) h (fun σ1 h => ?_)
  refine zi_aload_n 0 dX2_draw_16 rfl rfl ?_
  refine ti_getI 85 ⟨Nat.le_of_ble_eq_true rfl, rfl⟩ q2255 dX2_draw_17 ?_
  refine zi_bipush (v := 16) dX2_draw_20 (by decide) ?_
  refine zi_iushr (v := ((((t_i σ1 85)).toUInt32 >>> (((16 : Int32)).toUInt32 &&& Int32.toUInt32 31)).toInt32)) dX2_draw_22 rfl ?_
  refine zi_iload_n 1 dX2_draw_23 rfl rfl ?_
  obtain ⟨hy2, h⟩ := x_gE h
  refine zi_irem dX2_draw_24 hy2 ?_
  refine zi_ireturn rfl rfl dX2_draw_25 ?_
  exact x_r2i h hQ
noncomputable def D_common_4  (k21 : Int32 → Option Int32) : Nat → Int32 → Int32 → Option Int32
  | 0, _, _ => none
  | f + 1, v2_1, v3_2 =>
    if v3_2 = 0 then (k21 v2_1) else
    x_g (¬ v3_2 = 0) <|
    x_l (v2_1 - v2_1 / v3_2 * v3_2) fun v7 =>
    D_common_4 k21 f v3_2 v7
theorem w_common_4  {rz : Int32} {k21 : Int32 → Option Int32} (hk21 : ∀ (v2_3 : Int32), k21 v2_3 = some rz → z_V g d YX2_common 21 [(2, .int v2_3)] [] μ Q) (hQ : Q (.inl (some (.int rz))) μ) : ∀ (f : Nat) (v2_1 : Int32) (v3_2 : Int32), D_common_4 k21 f v2_1 v3_2 = some rz → z_V g d YX2_common 4 [(2, .int v2_1), (3, .int v3_2)] [] μ Q := by
  intro f
  induction f with
  | zero =>
    intro v2_1 v3_2 h
    exact absurd h (x_n _)
  | succ f ih =>
    intro v2_1 v3_2 h
    refine zi_iload_n 1 dX2_common_4 rfl rfl ?_
    refine zi_if_eq 21 dX2_common_5 (by decide) (fun c5 => ?_) (fun c5 => ?_)
    · replace h := x_iT h c5
      refine zi_sub [0] rfl ?_
      exact hk21 _ h
    · replace h := x_iF h c5
      refine zi_iload_n 0 dX2_common_8 rfl rfl ?_
      refine zi_iload_n 1 dX2_common_9 rfl rfl ?_
      obtain ⟨hy6, h⟩ := x_gE h
      refine zi_irem dX2_common_10 hy6 ?_
      refine zi_istore (lc1 := [(4, _), (2, _), (3, _)]) dX2_common_11 (Nat.le_of_ble_eq_true rfl) rfl ?_
      refine x_lI (fun v7 => z_V g d YX2_common 13 [(4, .int v7), (2, .int v2_1), (3, .int v3_2)] [] μ Q) h (fun v7 h => ?_)
      refine zi_iload_n 2 dX2_common_13 rfl rfl ?_
      refine zi_istore_n (lc1 := [(2, _), (4, _), (3, _)]) dX2_common_14 rfl (Nat.le_of_ble_eq_true rfl) rfl ?_
      refine zi_iload 1 dX2_common_15 rfl ?_
      refine zi_istore_n (lc1 := [(3, _), (2, _), (4, _)]) dX2_common_17 rfl (Nat.le_of_ble_eq_true rfl) rfl ?_
      refine zi_goto 4 dX2_common_18 (by decide) ?_
      refine zi_sub [1, 0] rfl ?_
      exact ih _ _ h
noncomputable def D_common (a0 : Int32) (a1 : Int32) : Option Int32 :=
  D_common_4
    (fun (v2_8 : Int32) => some v2_8)
    x_F a0 a1
theorem w_common {a0 : Int32} {a1 : Int32} {rz : Int32} (h : D_common a0 a1 = some rz) (hQ : Q (.inl (some (.int rz))) μ) : z_K g d YX2_common [.int a0, .int a1] μ Q := by
  unfold D_common at h
  refine z_K.of (by decide) rfl (Nat.le_of_ble_eq_true rfl) ?_
  refine zi_iload_n 0 dX2_common_0 rfl rfl ?_
  refine zi_istore_n (lc1 := [(2, _), (0, _), (1, _)]) dX2_common_1 rfl (Nat.le_of_ble_eq_true rfl) rfl ?_
  refine zi_iload_n 2 dX2_common_2 rfl rfl ?_
  refine zi_istore_n (lc1 := [(3, _), (2, _), (0, _), (1, _)]) dX2_common_3 rfl (Nat.le_of_ble_eq_true rfl) rfl ?_
  refine zi_sub [1, 0] rfl ?_
  refine w_common_4 (fun v2_8 h => ?_) hQ _ _ _ h
  · refine zi_iload_n 0 dX2_common_21 rfl rfl ?_
    refine zi_ireturn rfl rfl dX2_common_22 ?_
    exact x_r1i h hQ
noncomputable def D_copyRow_3 (ka na : Nat) (f1_1 : Int32) (f2_2 : Int32) (f3_3 : Int32) (k31 : t_S → Option t_S) : Nat → Int32 → t_S → Option t_S
  | 0, _, _ => none
  | f + 1, v4_4, σ5 =>
    if f1_1 ≤ v4_4 then (k31 σ5) else
    x_ga ((f1_1 * f2_2) + v4_4) na fun j8 =>
    x_ga ((f1_1 * f3_3) + v4_4) na fun j9 =>
    x_l (t_sa σ5 ka j9 (t_a σ5 ka j8)) fun σ10 =>
    x_l (v4_4 + (1 : Int32)) fun v11 =>
    D_copyRow_3 ka na f1_1 f2_2 f3_3 k31 f v11 σ10
theorem w_copyRow_3 {ka na : Nat} (aj : Nat) (ha : t_arrs[aj]? = some (ka, na) ∧ t_k ka = 2) {f1_1 : Int32} {f2_2 : Int32} {f3_3 : Int32}  {k31 : t_S → Option t_S} (hk31 : ∀ (σ6 : t_S), k31 σ6 = some σz → z_V g d YX2_copyRow 31 [] [] (t_m b σ6 μ) Q) (hQ : Q (.inl none) (t_m b σz μ)) : ∀ (f : Nat) (v4_4 : Int32) (σ5 : t_S), D_copyRow_3 ka na f1_1 f2_2 f3_3 k31 f v4_4 σ5 = some σz → z_V g d YX2_copyRow 3 [(0, .ref (b + (aj + 1))), (1, .int f1_1), (2, .int f2_2), (3, .int f3_3), (4, .int v4_4)] [] (t_m b σ5 μ) Q := by
  intro f
  induction f with
  | zero =>
    intro v4_4 σ5 h
    exact absurd h (x_n _)
  | succ f ih =>
    intro v4_4 σ5 h
    refine zi_iload 4 dX2_copyRow_3 rfl ?_
    refine zi_iload_n 1 dX2_copyRow_5 rfl rfl ?_
    refine zi_icmp_ge 31 dX2_copyRow_6 (by decide) (fun c7 => ?_) (fun c7 => ?_)
    · replace h := x_iT h c7
      refine zi_sub [] rfl ?_
      exact hk31 _ h
    · replace h := x_iF h c7
      refine zi_aload_n 0 dX2_copyRow_9 rfl rfl ?_
      refine zi_iload_n 1 dX2_copyRow_10 rfl rfl ?_
      refine zi_iload_n 3 dX2_copyRow_11 rfl rfl ?_
      refine zi_imul dX2_copyRow_12 ?_
      refine zi_iload 4 dX2_copyRow_13 rfl ?_
      refine zi_iadd dX2_copyRow_15 ?_
      refine zi_aload_n 0 dX2_copyRow_16 rfl rfl ?_
      refine zi_iload_n 1 dX2_copyRow_17 rfl rfl ?_
      refine zi_iload_n 2 dX2_copyRow_18 rfl rfl ?_
      refine zi_imul dX2_copyRow_19 ?_
      refine zi_iload 4 dX2_copyRow_20 rfl ?_
      refine zi_iadd dX2_copyRow_22 ?_
      obtain ⟨j8, hj8, h⟩ := x_gaE h
      refine ti_iald ka j8 na aj ha hj8 dX2_copyRow_23 ?_
      obtain ⟨j9, hj9, h⟩ := x_gaE h
      refine ti_iast ka j9 na aj ha hj9 dX2_copyRow_24 ?_
      refine x_lI (fun σ10 => z_V g d YX2_copyRow 25 [(0, .ref (b + (aj + 1))), (1, .int f1_1), (2, .int f2_2), (3, .int f3_3), (4, .int v4_4)] [] (t_m b σ10 μ) Q) h (fun σ10 h => ?_)
      refine zi_iinc (v := (v4_4 + (1 : Int32))) (lc1 := [(4, _), (0, _), (1, _), (2, _), (3, _)]) 4 dX2_copyRow_25 rfl rfl (Nat.le_of_ble_eq_true rfl) rfl ?_
      refine x_lI (fun v11 => z_V g d YX2_copyRow 28 [(4, .int v11), (0, .ref (b + (aj + 1))), (1, .int f1_1), (2, .int f2_2), (3, .int f3_3)] [] (t_m b σ10 μ) Q) h (fun v11 h => ?_)
      refine zi_goto 3 dX2_copyRow_28 (by decide) ?_
      refine zi_sub [1, 2, 3, 4, 0] rfl ?_
      exact ih _ _ h
noncomputable def D_copyRow (ka na : Nat) (a1 : Int32) (a2 : Int32) (a3 : Int32) (σ : t_S) : Option t_S :=
  D_copyRow_3 ka na a1 a2 a3
    (fun (σ12 : t_S) => some σ12)
    x_F (0 : Int32) σ
theorem w_copyRow {ka na : Nat} (aj : Nat) (ha : t_arrs[aj]? = some (ka, na) ∧ t_k ka = 2) {a1 : Int32} {a2 : Int32} {a3 : Int32}  (h : D_copyRow ka na a1 a2 a3 σ = some σz) (hQ : Q (.inl none) (t_m b σz μ)) : z_K g d YX2_copyRow [.ref (b + (aj + 1)), .int a1, .int a2, .int a3] (t_m b σ μ) Q := by
  unfold D_copyRow at h
  refine z_K.of (by decide) rfl (Nat.le_of_ble_eq_true rfl) ?_
  refine zi_iconst (v := 0) dX2_copyRow_0 (by decide) ?_
  refine zi_istore (lc1 := [(4, _), (0, _), (1, _), (2, _), (3, _)]) dX2_copyRow_1 (Nat.le_of_ble_eq_true rfl) rfl ?_
  refine zi_sub [1, 2, 3, 4, 0] rfl ?_
  refine w_copyRow_3 aj ha (fun σ12 h => ?_) hQ _ _ _ h
  · refine zi_return rfl dX2_copyRow_31 ?_
    exact x_r0 h hQ
noncomputable def D_feed (a1 : Int32) (a2 : Int32) (a3 : Int32) (a4 : Int32) (a5 : Int32) (σ : t_S) : Option (Int32 × t_S) :=
  x_l (t_si σ 0 (0 : Int32)) fun σ1 =>
  x_ga (0 : Int32) 4 fun j2 =>
  if ((t_a σ1 2 j2) + (20 : Int32)) ≤ (600 : Int32) then (x_b (D_four a1 σ1) fun σ5 =>
  x_b (D_four a2 σ5) fun σ7 =>
  x_b (D_four a3 σ7) fun σ9 =>
  x_b (D_four a4 σ9) fun σ11 =>
  x_b (D_four a5 σ11) fun σ13 =>
  x_ga (0 : Int32) 4 fun j14 =>
  some ((t_a σ13 2 j14), σ13)) else
  some ((-1 : Int32), σ1)
theorem w_feed {a1 : Int32} {a2 : Int32} {a3 : Int32} {a4 : Int32} {a5 : Int32} {rz : Int32} (h : D_feed a1 a2 a3 a4 a5 σ = some (rz, σz)) (hQ : Q (.inl (some (.int rz))) (t_m b σz μ)) : z_K g (d + 1) YX2_feed [.ref b, .int a1, .int a2, .int a3, .int a4, .int a5] (t_m b σ μ) Q := by
  unfold D_feed at h
  refine z_K.of (by decide) rfl (Nat.le_of_ble_eq_true rfl) ?_
  refine zi_aload_n 0 dX2_feed_0 rfl rfl ?_
  refine zi_iconst (v := 0) dX2_feed_1 (by decide) ?_
  refine ti_putI 0 ⟨Nat.le_of_ble_eq_true rfl, rfl, rfl⟩ (tyX2_ok 0 (Nat.le_of_ble_eq_true rfl)) q2170 dX2_feed_2 ?_
  refine x_lI (fun σ1 => z_V g (d + 1) YX2_feed 5 [(0, .ref b), (1, .int a1), (2, .int a2), (3, .int a3), (4, .int a4), (5, .int a5)] [] (t_m b σ1 μ) Q) h (fun σ1 h => ?_)
  refine zi_aload_n 0 dX2_feed_5 rfl rfl ?_
  refine ti_getA 2 2 t_o2 q2172 dX2_feed_6 ?_
  refine zi_iconst (v := 0) dX2_feed_9 (by decide) ?_
  obtain ⟨j2, hj2, h⟩ := x_gaE h
  refine ti_iald 2 j2 4 1 ⟨rfl, rfl⟩ hj2 dX2_feed_10 ?_
  refine zi_bipush (v := 20) dX2_feed_11 (by decide) ?_
  refine zi_iadd dX2_feed_13 ?_
  refine zi_sipush (v := 600) dX2_feed_14 (by decide) ?_
  refine zi_icmp_le 22 dX2_feed_17 (by decide) (fun c3 => ?_) (fun c3 => ?_)
  · replace h := x_iT h c3
    refine zi_aload_n 0 dX2_feed_22 rfl rfl ?_
    refine zi_iload_n 1 dX2_feed_23 rfl rfl ?_
    obtain ⟨σ5, h4, h⟩ := x_bE h
    refine zi_callV [.int a1] mX2_four rfl q2437 t_rec rfl rfl (Nat.le_of_ble_eq_true rfl) dX2_feed_24 ?_
    refine w_four h4 ?_
    refine zi_aload_n 0 dX2_feed_27 rfl rfl ?_
    refine zi_iload_n 2 dX2_feed_28 rfl rfl ?_
    obtain ⟨σ7, h6, h⟩ := x_bE h
    refine zi_callV [.int a2] mX2_four rfl q2437 t_rec rfl rfl (Nat.le_of_ble_eq_true rfl) dX2_feed_29 ?_
    refine w_four h6 ?_
    refine zi_aload_n 0 dX2_feed_32 rfl rfl ?_
    refine zi_iload_n 3 dX2_feed_33 rfl rfl ?_
    obtain ⟨σ9, h8, h⟩ := x_bE h
    refine zi_callV [.int a3] mX2_four rfl q2437 t_rec rfl rfl (Nat.le_of_ble_eq_true rfl) dX2_feed_34 ?_
    refine w_four h8 ?_
    refine zi_aload_n 0 dX2_feed_37 rfl rfl ?_
    refine zi_iload 4 dX2_feed_38 rfl ?_
    obtain ⟨σ11, h10, h⟩ := x_bE h
    refine zi_callV [.int a4] mX2_four rfl q2437 t_rec rfl rfl (Nat.le_of_ble_eq_true rfl) dX2_feed_40 ?_
    refine w_four h10 ?_
    refine zi_aload_n 0 dX2_feed_43 rfl rfl ?_
    refine zi_iload 5 dX2_feed_44 rfl ?_
    obtain ⟨σ13, h12, h⟩ := x_bE h
    refine zi_callV [.int a5] mX2_four rfl q2437 t_rec rfl rfl (Nat.le_of_ble_eq_true rfl) dX2_feed_46 ?_
    refine w_four h12 ?_
    refine zi_aload_n 0 dX2_feed_49 rfl rfl ?_
    refine ti_getA 2 2 t_o2 q2172 dX2_feed_50 ?_
    refine zi_iconst (v := 0) dX2_feed_53 (by decide) ?_
    obtain ⟨j14, hj14, h⟩ := x_gaE h
    refine ti_iald 2 j14 4 1 ⟨rfl, rfl⟩ hj14 dX2_feed_54 ?_
    refine zi_ireturn rfl rfl dX2_feed_55 ?_
    exact x_r2i h hQ
  · replace h := x_iF h c3
    refine zi_iconst (v := -1) dX2_feed_20 (by decide) ?_
    refine zi_ireturn rfl rfl dX2_feed_21 ?_
    exact x_r2i h hQ
noncomputable def D_end (a1 : Int32) (σ : t_S) : Option (Int32 × t_S) :=
  x_l (t_si σ 0 (0 : Int32)) fun σ1 =>
  x_ga (0 : Int32) 4 fun j2 =>
  x_b (D_in a1 (0 : Int32) (t_a σ1 2 j2)) fun r4 =>
  if r4 = 0 then (some ((-1 : Int32), σ1)) else
  x_ga (0 : Int32) 4 fun j6 =>
  x_l (t_sa σ1 2 j6 a1) fun σ7 =>
  some (a1, σ7)
theorem w_end {a1 : Int32} {rz : Int32} (h : D_end a1 σ = some (rz, σz)) (hQ : Q (.inl (some (.int rz))) (t_m b σz μ)) : z_K g (d + 1) YX2_end [.ref b, .int a1] (t_m b σ μ) Q := by
  unfold D_end at h
  refine z_K.of (by decide) rfl (Nat.le_of_ble_eq_true rfl) ?_
  refine zi_aload_n 0 dX2_end_0 rfl rfl ?_
  refine zi_iconst (v := 0) dX2_end_1 (by decide) ?_
  refine ti_putI 0 ⟨Nat.le_of_ble_eq_true rfl, rfl, rfl⟩ (tyX2_ok 0 (Nat.le_of_ble_eq_true rfl)) q2170 dX2_end_2 ?_
  refine x_lI (fun σ1 => z_V g (d + 1) YX2_end 5 [(0, .ref b), (1, .int a1)] [] (t_m b σ1 μ) Q) h (fun σ1 h => ?_)
  refine zi_iload_n 1 dX2_end_5 rfl rfl ?_
  refine zi_iconst (v := 0) dX2_end_6 (by decide) ?_
  refine zi_aload_n 0 dX2_end_7 rfl rfl ?_
  refine ti_getA 2 2 t_o2 q2172 dX2_end_8 ?_
  refine zi_iconst (v := 0) dX2_end_11 (by decide) ?_
  obtain ⟨j2, hj2, h⟩ := x_gaE h
  refine ti_iald 2 j2 4 1 ⟨rfl, rfl⟩ hj2 dX2_end_12 ?_
  obtain ⟨r4, h3, h⟩ := x_bE h
  refine zi_callS [.int a1, .int (0 : Int32), .int (t_a σ1 2 j2)] mX2_in rfl q2445 rfl rfl (Nat.le_of_ble_eq_true rfl) dX2_end_13 ?_
  refine w_in h3 ?_
  refine zi_if_ne 21 dX2_end_16 (by decide) (fun c5 => ?_) (fun c5 => ?_)
  · replace h := x_iF h c5
    refine zi_aload_n 0 dX2_end_21 rfl rfl ?_
    refine ti_getA 2 2 t_o2 q2172 dX2_end_22 ?_
    refine zi_iconst (v := 0) dX2_end_25 (by decide) ?_
    refine zi_iload_n 1 dX2_end_26 rfl rfl ?_
    obtain ⟨j6, hj6, h⟩ := x_gaE h
    refine ti_iast 2 j6 4 1 ⟨rfl, rfl⟩ hj6 dX2_end_27 ?_
    refine x_lI (fun σ7 => z_V g (d + 1) YX2_end 28 [(0, .ref b), (1, .int a1)] [] (t_m b σ7 μ) Q) h (fun σ7 h => ?_)
    refine zi_iload_n 1 dX2_end_28 rfl rfl ?_
    refine zi_ireturn rfl rfl dX2_end_29 ?_
    exact x_r2i h hQ
  · replace h := x_iT h c5
    refine zi_iconst (v := -1) dX2_end_19 (by decide) ?_
    refine zi_ireturn rfl rfl dX2_end_20 ?_
    exact x_r2i h hQ
noncomputable def D_is (a1 : Int32) (a2 : Int32) (σ : t_S) : Option Int32 :=
  x_ga a1 12 fun j1 =>
  x_b (D_in a2 (0 : Int32) ((t_a σ 5 j1) - (1 : Int32))) fun r3 =>
  x_g (r3 = 0 ∨ r3 = 1) <|
  some r3
theorem w_is {a1 : Int32} {a2 : Int32} {rz : Int32} (h : D_is a1 a2 σ = some rz) (hQ : Q (.inl (some (.int rz))) (t_m b σ μ)) : z_K g (d + 1) YX2_is [.ref b, .int a1, .int a2] (t_m b σ μ) Q := by
  unfold D_is at h
  refine z_K.of (by decide) rfl (Nat.le_of_ble_eq_true rfl) ?_
  refine zi_iload_n 2 dX2_is_0 rfl rfl ?_
  refine zi_iconst (v := 0) dX2_is_1 (by decide) ?_
  refine zi_aload_n 0 dX2_is_2 rfl rfl ?_
  refine ti_getA 5 5 t_o5 q2175 dX2_is_3 ?_
  refine zi_iload_n 1 dX2_is_6 rfl rfl ?_
  obtain ⟨j1, hj1, h⟩ := x_gaE h
  refine ti_iald 5 j1 12 4 ⟨rfl, rfl⟩ hj1 dX2_is_7 ?_
  refine zi_iconst (v := 1) dX2_is_8 (by decide) ?_
  refine zi_isub dX2_is_9 ?_
  obtain ⟨r3, h2, h⟩ := x_bE h
  refine zi_callS [.int a2, .int (0 : Int32), .int ((t_a σ 5 j1) - (1 : Int32))] mX2_in rfl q2445 rfl rfl (Nat.le_of_ble_eq_true rfl) dX2_is_10 ?_
  refine w_in h2 ?_
  obtain ⟨hz4, h⟩ := x_gE h
  refine zi_ireturn rfl (x_nz hz4) dX2_is_13 ?_
  exact x_r1i h hQ
noncomputable def D_token_0  (k31 : t_S → Option t_S) : Nat → t_S → Option t_S
  | 0, _ => none
  | f + 1, σ1 =>
    x_b (D_see σ1) fun r4 =>
    x_l (x_l (t_si σ1 9 ((t_i σ1 9) + (1 : Int32))) fun σ5 =>
    D_token_0 k31 f σ5) fun J18 =>
    if r4 = (10 : Int32) then (J18) else
    x_b (D_see σ1) fun r8 =>
    if r8 = (32 : Int32) then (J18) else
    k31 σ1
theorem w_token_0   {k31 : t_S → Option t_S} (hk31 : ∀ (σ2 : t_S), k31 σ2 = some σz → z_V g (d + 1) YX2_token 31 [(0, .ref b)] [] (t_m b σ2 μ) Q) (hQ : Q (.inl none) (t_m b σz μ)) : ∀ (f : Nat) (σ1 : t_S), D_token_0 k31 f σ1 = some σz → z_V g (d + 1) YX2_token 0 [(0, .ref b)] [] (t_m b σ1 μ) Q := by
  intro f
  induction f with
  | zero =>
    intro σ1 h
    exact absurd h (x_n _)
  | succ f ih =>
    intro σ1 h
    refine zi_aload_n 0 dX2_token_0 rfl rfl ?_
    obtain ⟨r4, h3, h⟩ := x_bE h
    refine zi_callV [] mX2_see rfl q2464 t_rec rfl rfl (Nat.le_of_ble_eq_true rfl) dX2_token_1 ?_
    refine w_see h3 ?_
    refine zi_bipush (v := 10) dX2_token_4 (by decide) ?_
    refine x_jI (fun (J : Option t_S) => J = some σz → z_V g (d + 1) YX2_token 18 [(0, .ref b)] [] (t_m b σ1 μ) Q) h (fun  h => ?_) (fun J18 hJ18 h => ?_)
    · refine zi_aload_n 0 dX2_token_18 rfl rfl ?_
      refine zi_dup dX2_token_19 rfl ?_
      refine ti_getI 9 ⟨Nat.le_of_ble_eq_true rfl, rfl⟩ q2179 dX2_token_20 ?_
      refine zi_iconst (v := 1) dX2_token_23 (by decide) ?_
      refine zi_iadd dX2_token_24 ?_
      refine ti_putI 9 ⟨Nat.le_of_ble_eq_true rfl, rfl, rfl⟩ (tyX2_ok 9 (Nat.le_of_ble_eq_true rfl)) q2179 dX2_token_25 ?_
      refine x_lI (fun σ5 => z_V g (d + 1) YX2_token 28 [(0, .ref b)] [] (t_m b σ5 μ) Q) h (fun σ5 h => ?_)
      refine zi_goto 0 dX2_token_28 (by decide) ?_
      exact ih _ h
    refine zi_icmp_eq 18 dX2_token_6 (by decide) (fun c6 => ?_) (fun c6 => ?_)
    · replace h := x_iT h c6
      exact hJ18  h
    · replace h := x_iF h c6
      refine zi_aload_n 0 dX2_token_9 rfl rfl ?_
      obtain ⟨r8, h7, h⟩ := x_bE h
      refine zi_callV [] mX2_see rfl q2464 t_rec rfl rfl (Nat.le_of_ble_eq_true rfl) dX2_token_10 ?_
      refine w_see h7 ?_
      refine zi_bipush (v := 32) dX2_token_13 (by decide) ?_
      refine zi_icmp_ne 31 dX2_token_15 (by decide) (fun c9 => ?_) (fun c9 => ?_)
      · replace h := x_iF h c9
        exact hk31 _ h
      · replace h := x_iT h c9
        exact hJ18  h
noncomputable def D_token_163  (k224 : Int32 → t_S → Option t_S) : Nat → Int32 → t_S → Option t_S
  | 0, _, _ => none
  | f + 1, v2_27, σ28 =>
    x_b (D_see σ28) fun r32 =>
    x_b (D_in r32 (48 : Int32) (57 : Int32)) fun r34 =>
    if r34 = 0 then (k224 v2_27 σ28) else
    x_l (fun (s36 : Int32) => x_l (t_si σ28 13 s36) fun σ37 =>
    x_l (t_si σ37 9 ((t_i σ37 9) + (1 : Int32))) fun σ38 =>
    x_l (v2_27 + (1 : Int32)) fun v39 =>
    D_token_163 k224 f v39 σ38) fun J205 =>
    if (2 : Int32) ≤ v2_27 then (J205 (t_i σ28 13)) else
    x_b (D_see σ28) fun r42 =>
    J205 ((((10 : Int32) * (t_i σ28 13)) + r42) - (48 : Int32))
theorem w_token_163   {k224 : Int32 → t_S → Option t_S} (hk224 : ∀ (v2_29 : Int32) (σ30 : t_S), k224 v2_29 σ30 = some σz → z_V g (d + 1) YX2_token 224 [(0, .ref b), (2, .int v2_29)] [] (t_m b σ30 μ) Q) (hQ : Q (.inl none) (t_m b σz μ)) : ∀ (f : Nat) (v2_27 : Int32) (σ28 : t_S), D_token_163 k224 f v2_27 σ28 = some σz → z_V g (d + 1) YX2_token 163 [(0, .ref b), (2, .int v2_27)] [] (t_m b σ28 μ) Q := by
  intro f
  induction f with
  | zero =>
    intro v2_27 σ28 h
    exact absurd h (x_n _)
  | succ f ih =>
    intro v2_27 σ28 h
    refine zi_aload_n 0 dX2_token_163 rfl rfl ?_
    obtain ⟨r32, h31, h⟩ := x_bE h
    refine zi_callV [] mX2_see rfl q2464 t_rec rfl rfl (Nat.le_of_ble_eq_true rfl) dX2_token_164 ?_
    refine w_see h31 ?_
    refine zi_bipush (v := 48) dX2_token_167 (by decide) ?_
    refine zi_bipush (v := 57) dX2_token_169 (by decide) ?_
    obtain ⟨r34, h33, h⟩ := x_bE h
    refine zi_callS [.int r32, .int (48 : Int32), .int (57 : Int32)] mX2_in rfl q2445 rfl rfl (Nat.le_of_ble_eq_true rfl) dX2_token_171 ?_
    refine w_in h33 ?_
    refine zi_if_eq 224 dX2_token_174 (by decide) (fun c35 => ?_) (fun c35 => ?_)
    · replace h := x_iT h c35
      exact hk224 _ _ h
    · replace h := x_iF h c35
      refine zi_aload_n 0 dX2_token_177 rfl rfl ?_
      refine zi_iload_n 1 dX2_token_178 rfl rfl ?_
      refine zi_iconst (v := 2) dX2_token_179 (by decide) ?_
      refine x_jI (fun (J : Int32 → Option t_S) => ∀ (s36 : Int32), J s36 = some σz → z_V g (d + 1) YX2_token 205 [(0, .ref b), (2, .int v2_27)] [.int s36, .ref b] (t_m b σ28 μ) Q) h (fun s36 h => ?_) (fun J205 hJ205 h => ?_)
      · refine ti_putI 13 ⟨Nat.le_of_ble_eq_true rfl, rfl, rfl⟩ (tyX2_ok 13 (Nat.le_of_ble_eq_true rfl)) q2183 dX2_token_205 ?_
        refine x_lI (fun σ37 => z_V g (d + 1) YX2_token 208 [(0, .ref b), (2, .int v2_27)] [] (t_m b σ37 μ) Q) h (fun σ37 h => ?_)
        refine zi_aload_n 0 dX2_token_208 rfl rfl ?_
        refine zi_dup dX2_token_209 rfl ?_
        refine ti_getI 9 ⟨Nat.le_of_ble_eq_true rfl, rfl⟩ q2179 dX2_token_210 ?_
        refine zi_iconst (v := 1) dX2_token_213 (by decide) ?_
        refine zi_iadd dX2_token_214 ?_
        refine ti_putI 9 ⟨Nat.le_of_ble_eq_true rfl, rfl, rfl⟩ (tyX2_ok 9 (Nat.le_of_ble_eq_true rfl)) q2179 dX2_token_215 ?_
        refine x_lI (fun σ38 => z_V g (d + 1) YX2_token 218 [(0, .ref b), (2, .int v2_27)] [] (t_m b σ38 μ) Q) h (fun σ38 h => ?_)
        refine zi_iinc (v := (v2_27 + (1 : Int32))) (lc1 := [(2, _), (0, _)]) 1 dX2_token_218 rfl rfl (Nat.le_of_ble_eq_true rfl) rfl ?_
        refine x_lI (fun v39 => z_V g (d + 1) YX2_token 221 [(2, .int v39), (0, .ref b)] [] (t_m b σ38 μ) Q) h (fun v39 h => ?_)
        refine zi_goto 163 dX2_token_221 (by decide) ?_
        refine zi_sub [1, 0] rfl ?_
        exact ih _ _ h
      refine zi_icmp_ge 201 dX2_token_180 (by decide) (fun c40 => ?_) (fun c40 => ?_)
      · replace h := x_iT h c40
        refine zi_aload_n 0 dX2_token_201 rfl rfl ?_
        refine ti_getI 13 ⟨Nat.le_of_ble_eq_true rfl, rfl⟩ q2183 dX2_token_202 ?_
        exact hJ205 _ h
      · replace h := x_iF h c40
        refine zi_bipush (v := 10) dX2_token_183 (by decide) ?_
        refine zi_aload_n 0 dX2_token_185 rfl rfl ?_
        refine ti_getI 13 ⟨Nat.le_of_ble_eq_true rfl, rfl⟩ q2183 dX2_token_186 ?_
        refine zi_imul dX2_token_189 ?_
        refine zi_aload_n 0 dX2_token_190 rfl rfl ?_
        obtain ⟨r42, h41, h⟩ := x_bE h
        refine zi_callV [] mX2_see rfl q2464 t_rec rfl rfl (Nat.le_of_ble_eq_true rfl) dX2_token_191 ?_
        refine w_see h41 ?_
        refine zi_iadd dX2_token_194 ?_
        refine zi_bipush (v := 48) dX2_token_195 (by decide) ?_
        refine zi_isub dX2_token_197 ?_
        refine zi_goto 205 dX2_token_198 (by decide) ?_
        exact hJ205 _ h
noncomputable def D_token_74  (k121 : Int32 → t_S → Option t_S) : Nat → Int32 → t_S → Option t_S
  | 0, _, _ => none
  | f + 1, v2_48, σ49 =>
    x_b (D_see σ49) fun r53 =>
    x_b (D_in r53 (97 : Int32) (122 : Int32)) fun r55 =>
    if r55 = 0 then (k121 v2_48 σ49) else
    x_b (D_see σ49) fun r58 =>
    x_l (t_sw σ49 (((t_w σ49) <<< (((8 : Int32)).toInt64 &&& 63)) ||| ((r58).toInt64))) fun σ59 =>
    x_l (t_si σ59 9 ((t_i σ59 9) + (1 : Int32))) fun σ60 =>
    x_l (v2_48 + (1 : Int32)) fun v61 =>
    D_token_74 k121 f v61 σ60
theorem w_token_74   {k121 : Int32 → t_S → Option t_S} (hk121 : ∀ (v2_50 : Int32) (σ51 : t_S), k121 v2_50 σ51 = some σz → z_V g (d + 1) YX2_token 121 [(0, .ref b), (2, .int v2_50)] [] (t_m b σ51 μ) Q) (hQ : Q (.inl none) (t_m b σz μ)) : ∀ (f : Nat) (v2_48 : Int32) (σ49 : t_S), D_token_74 k121 f v2_48 σ49 = some σz → z_V g (d + 1) YX2_token 74 [(0, .ref b), (2, .int v2_48)] [] (t_m b σ49 μ) Q := by
  intro f
  induction f with
  | zero =>
    intro v2_48 σ49 h
    exact absurd h (x_n _)
  | succ f ih =>
    intro v2_48 σ49 h
    refine zi_aload_n 0 dX2_token_74 rfl rfl ?_
    obtain ⟨r53, h52, h⟩ := x_bE h
    refine zi_callV [] mX2_see rfl q2464 t_rec rfl rfl (Nat.le_of_ble_eq_true rfl) dX2_token_75 ?_
    refine w_see h52 ?_
    refine zi_bipush (v := 97) dX2_token_78 (by decide) ?_
    refine zi_bipush (v := 122) dX2_token_80 (by decide) ?_
    obtain ⟨r55, h54, h⟩ := x_bE h
    refine zi_callS [.int r53, .int (97 : Int32), .int (122 : Int32)] mX2_in rfl q2445 rfl rfl (Nat.le_of_ble_eq_true rfl) dX2_token_82 ?_
    refine w_in h54 ?_
    refine zi_if_eq 121 dX2_token_85 (by decide) (fun c56 => ?_) (fun c56 => ?_)
    · replace h := x_iT h c56
      exact hk121 _ _ h
    · replace h := x_iF h c56
      refine zi_aload_n 0 dX2_token_88 rfl rfl ?_
      refine zi_aload_n 0 dX2_token_89 rfl rfl ?_
      refine ti_getW q2184 dX2_token_90 ?_
      refine zi_bipush (v := 8) dX2_token_93 (by decide) ?_
      refine zi_lshl (v := ((t_w σ49) <<< (((8 : Int32)).toInt64 &&& 63))) dX2_token_95 rfl ?_
      refine zi_aload_n 0 dX2_token_96 rfl rfl ?_
      obtain ⟨r58, h57, h⟩ := x_bE h
      refine zi_callV [] mX2_see rfl q2464 t_rec rfl rfl (Nat.le_of_ble_eq_true rfl) dX2_token_97 ?_
      refine w_see h57 ?_
      refine zi_i2l (v := (r58).toInt64) dX2_token_100 rfl ?_
      refine zi_lor dX2_token_101 ?_
      refine ti_putW q2184 dX2_token_102 ?_
      refine x_lI (fun σ59 => z_V g (d + 1) YX2_token 105 [(0, .ref b), (2, .int v2_48)] [] (t_m b σ59 μ) Q) h (fun σ59 h => ?_)
      refine zi_aload_n 0 dX2_token_105 rfl rfl ?_
      refine zi_dup dX2_token_106 rfl ?_
      refine ti_getI 9 ⟨Nat.le_of_ble_eq_true rfl, rfl⟩ q2179 dX2_token_107 ?_
      refine zi_iconst (v := 1) dX2_token_110 (by decide) ?_
      refine zi_iadd dX2_token_111 ?_
      refine ti_putI 9 ⟨Nat.le_of_ble_eq_true rfl, rfl, rfl⟩ (tyX2_ok 9 (Nat.le_of_ble_eq_true rfl)) q2179 dX2_token_112 ?_
      refine x_lI (fun σ60 => z_V g (d + 1) YX2_token 115 [(0, .ref b), (2, .int v2_48)] [] (t_m b σ60 μ) Q) h (fun σ60 h => ?_)
      refine zi_iinc (v := (v2_48 + (1 : Int32))) (lc1 := [(2, _), (0, _)]) 1 dX2_token_115 rfl rfl (Nat.le_of_ble_eq_true rfl) rfl ?_
      refine x_lI (fun v61 => z_V g (d + 1) YX2_token 118 [(2, .int v61), (0, .ref b)] [] (t_m b σ60 μ) Q) h (fun v61 h => ?_)
      refine zi_goto 74 dX2_token_118 (by decide) ?_
      refine zi_sub [1, 0] rfl ?_
      exact ih _ _ h
noncomputable def D_token  (σ : t_S) : Option t_S :=
  D_token_0
    (fun (σ10 : t_S) => x_l (t_si σ10 11 (t_i σ10 9)) fun σ11 =>
  x_b (D_see σ11) fun r13 =>
  x_l (t_sw σ11 (0 : Int64)) fun σ14 =>
  if 0 ≤ r13 then (x_b (D_in r13 (97 : Int32) (122 : Int32)) fun r17 =>
  if r17 = 0 then (x_b (D_in r13 (48 : Int32) (57 : Int32)) fun r20 =>
  if r20 = 0 then (x_l (t_si σ14 9 ((t_i σ14 9) + (1 : Int32))) fun σ22 =>
  if r13 = (59 : Int32) then (x_l (t_si σ22 12 (4 : Int32)) fun σ25 =>
  some σ25) else
  x_l (t_si σ22 12 (1 : Int32)) fun σ24 =>
  some σ24) else
  x_l (t_si σ14 13 (0 : Int32)) fun σ26 =>
  D_token_163
    (fun (v2_43 : Int32) (σ44 : t_S) => if v2_43 ≤ (2 : Int32) then (x_l (t_si σ44 12 (3 : Int32)) fun σ46 =>
  some σ46) else
  x_l (t_si σ44 12 (1 : Int32)) fun σ47 =>
  some σ47)
    x_F (0 : Int32) σ26) else
  D_token_74
    (fun (v2_62 : Int32) (σ63 : t_S) => x_l (fun (s64 : Int64) => x_l (t_sw σ63 s64) fun σ65 =>
  x_l (t_si σ65 12 (2 : Int32)) fun σ66 =>
  some σ66) fun J136 =>
  if v2_62 ≤ (8 : Int32) then (J136 (t_w σ63)) else
  J136 (0 : Int64))
    x_F (0 : Int32) σ14) else
  x_l (t_si σ14 12 (0 : Int32)) fun σ68 =>
  some σ68)
    x_F σ
theorem w_token   (h : D_token σ = some σz) (hQ : Q (.inl none) (t_m b σz μ)) : z_K g (d + 1) YX2_token [.ref b] (t_m b σ μ) Q := by
  unfold D_token at h
  refine z_K.of (by decide) rfl (Nat.le_of_ble_eq_true rfl) ?_
  refine w_token_0 (fun σ10 h => ?_) hQ _  _ h
  · refine zi_aload_n 0 dX2_token_31 rfl rfl ?_
    refine zi_aload_n 0 dX2_token_32 rfl rfl ?_
    refine ti_getI 9 ⟨Nat.le_of_ble_eq_true rfl, rfl⟩ q2179 dX2_token_33 ?_
    refine ti_putI 11 ⟨Nat.le_of_ble_eq_true rfl, rfl, rfl⟩ (tyX2_ok 11 (Nat.le_of_ble_eq_true rfl)) q2181 dX2_token_36 ?_
    refine x_lI (fun σ11 => z_V g (d + 1) YX2_token 39 [(0, .ref b)] [] (t_m b σ11 μ) Q) h (fun σ11 h => ?_)
    refine zi_aload_n 0 dX2_token_39 rfl rfl ?_
    obtain ⟨r13, h12, h⟩ := x_bE h
    refine zi_callV [] mX2_see rfl q2464 t_rec rfl rfl (Nat.le_of_ble_eq_true rfl) dX2_token_40 ?_
    refine w_see h12 ?_
    refine zi_istore_n (lc1 := [(1, _), (0, _)]) dX2_token_43 rfl (Nat.le_of_ble_eq_true rfl) rfl ?_
    refine zi_aload_n 1 dX2_token_44 rfl rfl ?_
    refine zi_lconst (v := 0) dX2_token_45 (by decide) ?_
    refine ti_putW q2184 dX2_token_46 ?_
    refine x_lI (fun σ14 => z_V g (d + 1) YX2_token 49 [(1, .int r13), (0, .ref b)] [] (t_m b σ14 μ) Q) h (fun σ14 h => ?_)
    refine zi_iconst (v := 0) dX2_token_49 (by decide) ?_
    refine zi_istore_n (lc1 := [(2, _), (1, _), (0, _)]) dX2_token_50 rfl (Nat.le_of_ble_eq_true rfl) rfl ?_
    refine zi_iload_n 1 dX2_token_51 rfl rfl ?_
    refine zi_if_ge 63 dX2_token_52 (by decide) (fun c15 => ?_) (fun c15 => ?_)
    · replace h := x_iT h c15
      refine zi_iload_n 1 dX2_token_63 rfl rfl ?_
      refine zi_bipush (v := 97) dX2_token_64 (by decide) ?_
      refine zi_bipush (v := 122) dX2_token_66 (by decide) ?_
      obtain ⟨r17, h16, h⟩ := x_bE h
      refine zi_callS [.int r13, .int (97 : Int32), .int (122 : Int32)] mX2_in rfl q2445 rfl rfl (Nat.le_of_ble_eq_true rfl) dX2_token_68 ?_
      refine w_in h16 ?_
      refine zi_if_eq 147 dX2_token_71 (by decide) (fun c18 => ?_) (fun c18 => ?_)
      · replace h := x_iT h c18
        refine zi_iload_n 1 dX2_token_147 rfl rfl ?_
        refine zi_bipush (v := 48) dX2_token_148 (by decide) ?_
        refine zi_bipush (v := 57) dX2_token_150 (by decide) ?_
        obtain ⟨r20, h19, h⟩ := x_bE h
        refine zi_callS [.int r13, .int (48 : Int32), .int (57 : Int32)] mX2_in rfl q2445 rfl rfl (Nat.le_of_ble_eq_true rfl) dX2_token_152 ?_
        refine w_in h19 ?_
        refine zi_if_eq 241 dX2_token_155 (by decide) (fun c21 => ?_) (fun c21 => ?_)
        · replace h := x_iT h c21
          refine zi_aload_n 2 dX2_token_241 rfl rfl ?_
          refine zi_dup dX2_token_242 rfl ?_
          refine ti_getI 9 ⟨Nat.le_of_ble_eq_true rfl, rfl⟩ q2179 dX2_token_243 ?_
          refine zi_iconst (v := 1) dX2_token_246 (by decide) ?_
          refine zi_iadd dX2_token_247 ?_
          refine ti_putI 9 ⟨Nat.le_of_ble_eq_true rfl, rfl, rfl⟩ (tyX2_ok 9 (Nat.le_of_ble_eq_true rfl)) q2179 dX2_token_248 ?_
          refine x_lI (fun σ22 => z_V g (d + 1) YX2_token 251 [(2, .int (0 : Int32)), (1, .int r13), (0, .ref b)] [] (t_m b σ22 μ) Q) h (fun σ22 h => ?_)
          refine zi_aload_n 2 dX2_token_251 rfl rfl ?_
          refine zi_iload_n 1 dX2_token_252 rfl rfl ?_
          refine zi_bipush (v := 59) dX2_token_253 (by decide) ?_
          refine zi_icmp_ne 262 dX2_token_255 (by decide) (fun c23 => ?_) (fun c23 => ?_)
          · replace h := x_iF h c23
            refine zi_iconst (v := 1) dX2_token_262 (by decide) ?_
            refine ti_putI 12 ⟨Nat.le_of_ble_eq_true rfl, rfl, rfl⟩ (tyX2_ok 12 (Nat.le_of_ble_eq_true rfl)) q2182 dX2_token_263 ?_
            refine x_lI (fun σ24 => z_V g (d + 1) YX2_token 266 [(2, .int (0 : Int32)), (1, .int r13), (0, .ref b)] [] (t_m b σ24 μ) Q) h (fun σ24 h => ?_)
            refine zi_return rfl dX2_token_266 ?_
            exact x_r0 h hQ
          · replace h := x_iT h c23
            refine zi_iconst (v := 4) dX2_token_258 (by decide) ?_
            refine zi_goto 263 dX2_token_259 (by decide) ?_
            refine ti_putI 12 ⟨Nat.le_of_ble_eq_true rfl, rfl, rfl⟩ (tyX2_ok 12 (Nat.le_of_ble_eq_true rfl)) q2182 dX2_token_263 ?_
            refine x_lI (fun σ25 => z_V g (d + 1) YX2_token 266 [(2, .int (0 : Int32)), (1, .int r13), (0, .ref b)] [] (t_m b σ25 μ) Q) h (fun σ25 h => ?_)
            refine zi_return rfl dX2_token_266 ?_
            exact x_r0 h hQ
        · replace h := x_iF h c21
          refine zi_aload_n 2 dX2_token_158 rfl rfl ?_
          refine zi_iconst (v := 0) dX2_token_159 (by decide) ?_
          refine ti_putI 13 ⟨Nat.le_of_ble_eq_true rfl, rfl, rfl⟩ (tyX2_ok 13 (Nat.le_of_ble_eq_true rfl)) q2183 dX2_token_160 ?_
          refine x_lI (fun σ26 => z_V g (d + 1) YX2_token 163 [(2, .int (0 : Int32)), (1, .int r13), (0, .ref b)] [] (t_m b σ26 μ) Q) h (fun σ26 h => ?_)
          refine zi_sub [2, 0] rfl ?_
          refine w_token_163 (fun v2_43 σ44 h => ?_) hQ _ _ _ h
          · refine zi_aload_n 0 dX2_token_224 rfl rfl ?_
            refine zi_iload_n 1 dX2_token_225 rfl rfl ?_
            refine zi_iconst (v := 2) dX2_token_226 (by decide) ?_
            refine zi_icmp_le 234 dX2_token_227 (by decide) (fun c45 => ?_) (fun c45 => ?_)
            · replace h := x_iT h c45
              refine zi_iconst (v := 3) dX2_token_234 (by decide) ?_
              refine ti_putI 12 ⟨Nat.le_of_ble_eq_true rfl, rfl, rfl⟩ (tyX2_ok 12 (Nat.le_of_ble_eq_true rfl)) q2182 dX2_token_235 ?_
              refine x_lI (fun σ46 => z_V g (d + 1) YX2_token 238 [(0, .ref b), (2, .int v2_43)] [] (t_m b σ46 μ) Q) h (fun σ46 h => ?_)
              refine zi_goto 266 dX2_token_238 (by decide) ?_
              refine zi_return rfl dX2_token_266 ?_
              exact x_r0 h hQ
            · replace h := x_iF h c45
              refine zi_iconst (v := 1) dX2_token_230 (by decide) ?_
              refine zi_goto 235 dX2_token_231 (by decide) ?_
              refine ti_putI 12 ⟨Nat.le_of_ble_eq_true rfl, rfl, rfl⟩ (tyX2_ok 12 (Nat.le_of_ble_eq_true rfl)) q2182 dX2_token_235 ?_
              refine x_lI (fun σ47 => z_V g (d + 1) YX2_token 238 [(0, .ref b), (2, .int v2_43)] [] (t_m b σ47 μ) Q) h (fun σ47 h => ?_)
              refine zi_goto 266 dX2_token_238 (by decide) ?_
              refine zi_return rfl dX2_token_266 ?_
              exact x_r0 h hQ
      · replace h := x_iF h c18
        refine zi_sub [2, 0] rfl ?_
        refine w_token_74 (fun v2_62 σ63 h => ?_) hQ _ _ _ h
        · refine zi_aload_n 0 dX2_token_121 rfl rfl ?_
          refine zi_iload_n 1 dX2_token_122 rfl rfl ?_
          refine zi_bipush (v := 8) dX2_token_123 (by decide) ?_
          refine x_jI (fun (J : Int64 → Option t_S) => ∀ (s64 : Int64), J s64 = some σz → z_V g (d + 1) YX2_token 136 [(0, .ref b)] [.long s64, .ref b] (t_m b σ63 μ) Q) h (fun s64 h => ?_) (fun J136 hJ136 h => ?_)
          · refine ti_putW q2184 dX2_token_136 ?_
            refine x_lI (fun σ65 => z_V g (d + 1) YX2_token 139 [(0, .ref b)] [] (t_m b σ65 μ) Q) h (fun σ65 h => ?_)
            refine zi_aload_n 0 dX2_token_139 rfl rfl ?_
            refine zi_iconst (v := 2) dX2_token_140 (by decide) ?_
            refine ti_putI 12 ⟨Nat.le_of_ble_eq_true rfl, rfl, rfl⟩ (tyX2_ok 12 (Nat.le_of_ble_eq_true rfl)) q2182 dX2_token_141 ?_
            refine x_lI (fun σ66 => z_V g (d + 1) YX2_token 144 [(0, .ref b)] [] (t_m b σ66 μ) Q) h (fun σ66 h => ?_)
            refine zi_goto 266 dX2_token_144 (by decide) ?_
            refine zi_return rfl dX2_token_266 ?_
            exact x_r0 h hQ
          refine zi_icmp_le 132 dX2_token_125 (by decide) (fun c67 => ?_) (fun c67 => ?_)
          · replace h := x_iT h c67
            refine zi_aload_n 0 dX2_token_132 rfl rfl ?_
            refine ti_getW q2184 dX2_token_133 ?_
            refine zi_sub [0] rfl ?_
            exact hJ136 _ h
          · replace h := x_iF h c67
            refine zi_lconst (v := 0) dX2_token_128 (by decide) ?_
            refine zi_goto 136 dX2_token_129 (by decide) ?_
            refine zi_sub [0] rfl ?_
            exact hJ136 _ h
    · replace h := x_iF h c15
      refine zi_aload_n 2 dX2_token_55 rfl rfl ?_
      refine zi_iconst (v := 0) dX2_token_56 (by decide) ?_
      refine ti_putI 12 ⟨Nat.le_of_ble_eq_true rfl, rfl, rfl⟩ (tyX2_ok 12 (Nat.le_of_ble_eq_true rfl)) q2182 dX2_token_57 ?_
      refine x_lI (fun σ68 => z_V g (d + 1) YX2_token 60 [(2, .int (0 : Int32)), (1, .int r13), (0, .ref b)] [] (t_m b σ68 μ) Q) h (fun σ68 h => ?_)
      refine zi_goto 266 dX2_token_60 (by decide) ?_
      refine zi_return rfl dX2_token_266 ?_
      exact x_r0 h hQ
noncomputable def D_keepRow_11 (f1_3 : Int32) (f2_4 : Int32) (f3_5 : Int32) (f4_6 : Int32) (f5_7 : Int32) (k51 : t_S → Option t_S) : Nat → Int32 → t_S → Option t_S
  | 0, _, _ => none
  | f + 1, v6_8, σ9 =>
    if f3_5 ≤ v6_8 then (k51 σ9) else
    if f4_6 ≤ f5_7 then (k51 σ9) else
    x_ga v6_8 4 fun j13 =>
    x_ga ((f2_4 + (f3_5 * f5_7)) + v6_8) 122 fun j14 =>
    x_l (t_sa σ9 18 j14 (t_a σ9 19 j13)) fun σ15 =>
    x_l (v6_8 + (1 : Int32)) fun v16 =>
    D_keepRow_11 f1_3 f2_4 f3_5 f4_6 f5_7 k51 f v16 σ15
theorem w_keepRow_11 {f1_3 : Int32} {f2_4 : Int32} {f3_5 : Int32} {f4_6 : Int32} {f5_7 : Int32}  {k51 : t_S → Option t_S} (hk51 : ∀ (σ10 : t_S), k51 σ10 = some σz → z_V g (d + 1) YX2_keepRow 51 [(0, .ref b), (1, .int f1_3), (4, .int f4_6), (5, .int f5_7)] [] (t_m b σ10 μ) Q) (hQ : Q (.inl none) (t_m b σz μ)) : ∀ (f : Nat) (v6_8 : Int32) (σ9 : t_S), D_keepRow_11 f1_3 f2_4 f3_5 f4_6 f5_7 k51 f v6_8 σ9 = some σz → z_V g (d + 1) YX2_keepRow 11 [(0, .ref b), (1, .int f1_3), (2, .int f2_4), (3, .int f3_5), (4, .int f4_6), (5, .int f5_7), (6, .int v6_8)] [] (t_m b σ9 μ) Q := by
  intro f
  induction f with
  | zero =>
    intro v6_8 σ9 h
    exact absurd h (x_n _)
  | succ f ih =>
    intro v6_8 σ9 h
    refine zi_iload 6 dX2_keepRow_11 rfl ?_
    refine zi_iload_n 3 dX2_keepRow_13 rfl rfl ?_
    refine zi_icmp_ge 51 dX2_keepRow_14 (by decide) (fun c11 => ?_) (fun c11 => ?_)
    · replace h := x_iT h c11
      refine zi_sub [0, 1, 4, 5] rfl ?_
      exact hk51 _ h
    · replace h := x_iF h c11
      refine zi_iload 5 dX2_keepRow_17 rfl ?_
      refine zi_iload 4 dX2_keepRow_19 rfl ?_
      refine zi_icmp_ge 51 dX2_keepRow_21 (by decide) (fun c12 => ?_) (fun c12 => ?_)
      · replace h := x_iT h c12
        refine zi_sub [0, 1, 4, 5] rfl ?_
        exact hk51 _ h
      · replace h := x_iF h c12
        refine zi_aload_n 0 dX2_keepRow_24 rfl rfl ?_
        refine ti_getA 18 9 t_o18 q2188 dX2_keepRow_25 ?_
        refine zi_iload_n 2 dX2_keepRow_28 rfl rfl ?_
        refine zi_iload_n 3 dX2_keepRow_29 rfl rfl ?_
        refine zi_iload 5 dX2_keepRow_30 rfl ?_
        refine zi_imul dX2_keepRow_32 ?_
        refine zi_iadd dX2_keepRow_33 ?_
        refine zi_iload 6 dX2_keepRow_34 rfl ?_
        refine zi_iadd dX2_keepRow_36 ?_
        refine zi_aload_n 0 dX2_keepRow_37 rfl rfl ?_
        refine ti_getA 19 10 t_o19 q2189 dX2_keepRow_38 ?_
        refine zi_iload 6 dX2_keepRow_41 rfl ?_
        obtain ⟨j13, hj13, h⟩ := x_gaE h
        refine ti_iald 19 j13 4 9 ⟨rfl, rfl⟩ hj13 dX2_keepRow_43 ?_
        obtain ⟨j14, hj14, h⟩ := x_gaE h
        refine ti_iast 18 j14 122 8 ⟨rfl, rfl⟩ hj14 dX2_keepRow_44 ?_
        refine x_lI (fun σ15 => z_V g (d + 1) YX2_keepRow 45 [(0, .ref b), (1, .int f1_3), (2, .int f2_4), (3, .int f3_5), (4, .int f4_6), (5, .int f5_7), (6, .int v6_8)] [] (t_m b σ15 μ) Q) h (fun σ15 h => ?_)
        refine zi_iinc (v := (v6_8 + (1 : Int32))) (lc1 := [(6, _), (0, _), (1, _), (2, _), (3, _), (4, _), (5, _)]) 6 dX2_keepRow_45 rfl rfl (Nat.le_of_ble_eq_true rfl) rfl ?_
        refine x_lI (fun v16 => z_V g (d + 1) YX2_keepRow 48 [(6, .int v16), (0, .ref b), (1, .int f1_3), (2, .int f2_4), (3, .int f3_5), (4, .int f4_6), (5, .int f5_7)] [] (t_m b σ15 μ) Q) h (fun v16 h => ?_)
        refine zi_goto 11 dX2_keepRow_48 (by decide) ?_
        refine zi_sub [1, 2, 3, 4, 5, 6, 0] rfl ?_
        exact ih _ _ h
noncomputable def D_keepRow (a1 : Int32) (a2 : Int32) (a3 : Int32) (a4 : Int32) (σ : t_S) : Option t_S :=
  x_ga a1 122 fun j1 =>
  x_l (t_a σ 18 j1) fun v2 =>
  D_keepRow_11 a1 a2 a3 a4 v2
    (fun (σ17 : t_S) => x_b (D_lesser a4 (v2 + (1 : Int32))) fun r19 =>
  x_ga a1 122 fun j20 =>
  x_l (t_sa σ17 18 j20 r19) fun σ21 =>
  some σ21)
    x_F (0 : Int32) σ
theorem w_keepRow {a1 : Int32} {a2 : Int32} {a3 : Int32} {a4 : Int32}  (h : D_keepRow a1 a2 a3 a4 σ = some σz) (hQ : Q (.inl none) (t_m b σz μ)) : z_K g (d + 1) YX2_keepRow [.ref b, .int a1, .int a2, .int a3, .int a4] (t_m b σ μ) Q := by
  unfold D_keepRow at h
  refine z_K.of (by decide) rfl (Nat.le_of_ble_eq_true rfl) ?_
  refine zi_aload_n 0 dX2_keepRow_0 rfl rfl ?_
  refine ti_getA 18 9 t_o18 q2188 dX2_keepRow_1 ?_
  refine zi_iload_n 1 dX2_keepRow_4 rfl rfl ?_
  obtain ⟨j1, hj1, h⟩ := x_gaE h
  refine ti_iald 18 j1 122 8 ⟨rfl, rfl⟩ hj1 dX2_keepRow_5 ?_
  refine zi_istore (lc1 := [(5, _), (0, _), (1, _), (2, _), (3, _), (4, _)]) dX2_keepRow_6 (Nat.le_of_ble_eq_true rfl) rfl ?_
  refine x_lI (fun v2 => z_V g (d + 1) YX2_keepRow 8 [(5, .int v2), (0, .ref b), (1, .int a1), (2, .int a2), (3, .int a3), (4, .int a4)] [] (t_m b σ μ) Q) h (fun v2 h => ?_)
  refine zi_iconst (v := 0) dX2_keepRow_8 (by decide) ?_
  refine zi_istore (lc1 := [(6, _), (5, _), (0, _), (1, _), (2, _), (3, _), (4, _)]) dX2_keepRow_9 (Nat.le_of_ble_eq_true rfl) rfl ?_
  refine zi_sub [2, 3, 4, 5, 6, 1, 0] rfl ?_
  refine w_keepRow_11 (fun σ17 h => ?_) hQ _ _ _ h
  · refine zi_aload_n 0 dX2_keepRow_51 rfl rfl ?_
    refine ti_getA 18 9 t_o18 q2188 dX2_keepRow_52 ?_
    refine zi_iload_n 1 dX2_keepRow_55 rfl rfl ?_
    refine zi_iload 2 dX2_keepRow_56 rfl ?_
    refine zi_iload 3 dX2_keepRow_58 rfl ?_
    refine zi_iconst (v := 1) dX2_keepRow_60 (by decide) ?_
    refine zi_iadd dX2_keepRow_61 ?_
    obtain ⟨r19, h18, h⟩ := x_bE h
    refine zi_callS [.int a4, .int (v2 + (1 : Int32))] mX2_lesser rfl q2515 rfl rfl (Nat.le_of_ble_eq_true rfl) dX2_keepRow_62 ?_
    refine w_lesser h18 ?_
    obtain ⟨j20, hj20, h⟩ := x_gaE h
    refine ti_iast 18 j20 122 8 ⟨rfl, rfl⟩ hj20 dX2_keepRow_65 ?_
    refine x_lI (fun σ21 => z_V g (d + 1) YX2_keepRow 66 [(0, .ref b), (1, .int a1), (4, .int a4), (5, .int v2)] [] (t_m b σ21 μ) Q) h (fun σ21 h => ?_)
    refine zi_return rfl dX2_keepRow_66 ?_
    exact x_r0 h hQ
noncomputable def D_full (a1 : Int32) (a2 : Int32) (a3 : Int32) (σ : t_S) : Option t_S :=
  x_ga a1 122 fun j1 =>
  if (t_a σ 18 j1) = a2 then (x_b (D_addsFault (3 : Int32) a3 σ) fun σ4 =>
  some σ4) else
  some σ
theorem w_full {a1 : Int32} {a2 : Int32} {a3 : Int32}  (h : D_full a1 a2 a3 σ = some σz) (hQ : Q (.inl none) (t_m b σz μ)) : z_K g (d + 1) YX2_full [.ref b, .int a1, .int a2, .int a3] (t_m b σ μ) Q := by
  unfold D_full at h
  refine z_K.of (by decide) rfl (Nat.le_of_ble_eq_true rfl) ?_
  refine zi_aload_n 0 dX2_full_0 rfl rfl ?_
  refine ti_getA 18 9 t_o18 q2188 dX2_full_1 ?_
  refine zi_iload_n 1 dX2_full_4 rfl rfl ?_
  obtain ⟨j1, hj1, h⟩ := x_gaE h
  refine ti_iald 18 j1 122 8 ⟨rfl, rfl⟩ hj1 dX2_full_5 ?_
  refine zi_iload_n 2 dX2_full_6 rfl rfl ?_
  refine zi_icmp_ne 16 dX2_full_7 (by decide) (fun c2 => ?_) (fun c2 => ?_)
  · replace h := x_iF h c2
    refine zi_return rfl dX2_full_16 ?_
    exact x_r0 h hQ
  · replace h := x_iT h c2
    refine zi_aload_n 0 dX2_full_10 rfl rfl ?_
    refine zi_iconst (v := 3) dX2_full_11 (by decide) ?_
    refine zi_iload_n 3 dX2_full_12 rfl rfl ?_
    obtain ⟨σ4, h3, h⟩ := x_bE h
    refine zi_callV [.int (3 : Int32), .int a3] mX2_addsFault rfl q2490 t_rec rfl rfl (Nat.le_of_ble_eq_true rfl) dX2_full_13 ?_
    refine w_addsFault h3 ?_
    refine zi_return rfl dX2_full_16 ?_
    exact x_r0 h hQ
noncomputable def D_isNode (a1 : Int32) (σ : t_S) : Option Int32 :=
  x_b (D_in a1 (0 : Int32) ((t_i σ 23) - (1 : Int32))) fun r2 =>
  x_g (r2 = 0 ∨ r2 = 1) <|
  some r2
theorem w_isNode {a1 : Int32} {rz : Int32} (h : D_isNode a1 σ = some rz) (hQ : Q (.inl (some (.int rz))) (t_m b σ μ)) : z_K g (d + 1) YX2_isNode [.ref b, .int a1] (t_m b σ μ) Q := by
  unfold D_isNode at h
  refine z_K.of (by decide) rfl (Nat.le_of_ble_eq_true rfl) ?_
  refine zi_iload_n 1 dX2_isNode_0 rfl rfl ?_
  refine zi_iconst (v := 0) dX2_isNode_1 (by decide) ?_
  refine zi_aload_n 0 dX2_isNode_2 rfl rfl ?_
  refine ti_getI 23 ⟨Nat.le_of_ble_eq_true rfl, rfl⟩ q2193 dX2_isNode_3 ?_
  refine zi_iconst (v := 1) dX2_isNode_6 (by decide) ?_
  refine zi_isub dX2_isNode_7 ?_
  obtain ⟨r2, h1, h⟩ := x_bE h
  refine zi_callS [.int a1, .int (0 : Int32), .int ((t_i σ 23) - (1 : Int32))] mX2_in rfl q2445 rfl rfl (Nat.le_of_ble_eq_true rfl) dX2_isNode_8 ?_
  refine w_in h1 ?_
  obtain ⟨hz3, h⟩ := x_gE h
  refine zi_ireturn rfl (x_nz hz3) dX2_isNode_11 ?_
  exact x_r1i h hQ
noncomputable def D_links  (σ : t_S) : Option Int32 :=
  x_b (D_ofNet (2 : Int32) σ) fun r2 =>
  some r2
theorem w_links  {rz : Int32} (h : D_links σ = some rz) (hQ : Q (.inl (some (.int rz))) (t_m b σ μ)) : z_K g (d + 1) YX2_links [.ref b] (t_m b σ μ) Q := by
  unfold D_links at h
  refine z_K.of (by decide) rfl (Nat.le_of_ble_eq_true rfl) ?_
  refine zi_aload_n 0 dX2_links_0 rfl rfl ?_
  refine zi_iconst (v := 2) dX2_links_1 (by decide) ?_
  obtain ⟨r2, h1, h⟩ := x_bE h
  refine zi_callV [.int (2 : Int32)] mX2_ofNet rfl q2567 t_rec rfl rfl (Nat.le_of_ble_eq_true rfl) dX2_links_2 ?_
  refine w_ofNet h1 ?_
  refine zi_ireturn rfl rfl dX2_links_5 ?_
  exact x_r1i h hQ
noncomputable def D_linkAt (a1 : Int32) (a2 : Int32) (σ : t_S) : Option Int32 :=
  x_b (D_ofNet (((11 : Int32) + ((3 : Int32) * a1)) + a2) σ) fun r2 =>
  some r2
theorem w_linkAt {a1 : Int32} {a2 : Int32} {rz : Int32} (h : D_linkAt a1 a2 σ = some rz) (hQ : Q (.inl (some (.int rz))) (t_m b σ μ)) : z_K g (d + 1) YX2_linkAt [.ref b, .int a1, .int a2] (t_m b σ μ) Q := by
  unfold D_linkAt at h
  refine z_K.of (by decide) rfl (Nat.le_of_ble_eq_true rfl) ?_
  refine zi_aload_n 0 dX2_linkAt_0 rfl rfl ?_
  refine zi_bipush (v := 11) dX2_linkAt_1 (by decide) ?_
  refine zi_iconst (v := 3) dX2_linkAt_3 (by decide) ?_
  refine zi_iload_n 1 dX2_linkAt_4 rfl rfl ?_
  refine zi_imul dX2_linkAt_5 ?_
  refine zi_iadd dX2_linkAt_6 ?_
  refine zi_iload_n 2 dX2_linkAt_7 rfl rfl ?_
  refine zi_iadd dX2_linkAt_8 ?_
  obtain ⟨r2, h1, h⟩ := x_bE h
  refine zi_callV [.int (((11 : Int32) + ((3 : Int32) * a1)) + a2)] mX2_ofNet rfl q2567 t_rec rfl rfl (Nat.le_of_ble_eq_true rfl) dX2_linkAt_9 ?_
  refine w_ofNet h1 ?_
  refine zi_ireturn rfl rfl dX2_linkAt_12 ?_
  exact x_r1i h hQ
noncomputable def D_routes  (σ : t_S) : Option Int32 :=
  x_b (D_ofNet (3 : Int32) σ) fun r2 =>
  some r2
theorem w_routes  {rz : Int32} (h : D_routes σ = some rz) (hQ : Q (.inl (some (.int rz))) (t_m b σ μ)) : z_K g (d + 1) YX2_routes [.ref b] (t_m b σ μ) Q := by
  unfold D_routes at h
  refine z_K.of (by decide) rfl (Nat.le_of_ble_eq_true rfl) ?_
  refine zi_aload_n 0 dX2_routes_0 rfl rfl ?_
  refine zi_iconst (v := 3) dX2_routes_1 (by decide) ?_
  obtain ⟨r2, h1, h⟩ := x_bE h
  refine zi_callV [.int (3 : Int32)] mX2_ofNet rfl q2567 t_rec rfl rfl (Nat.le_of_ble_eq_true rfl) dX2_routes_2 ?_
  refine w_ofNet h1 ?_
  refine zi_ireturn rfl rfl dX2_routes_5 ?_
  exact x_r1i h hQ
noncomputable def D_routeAt (a1 : Int32) (a2 : Int32) (σ : t_S) : Option Int32 :=
  x_b (D_ofNet (((56 : Int32) + ((4 : Int32) * a1)) + a2) σ) fun r2 =>
  some r2
theorem w_routeAt {a1 : Int32} {a2 : Int32} {rz : Int32} (h : D_routeAt a1 a2 σ = some rz) (hQ : Q (.inl (some (.int rz))) (t_m b σ μ)) : z_K g (d + 1) YX2_routeAt [.ref b, .int a1, .int a2] (t_m b σ μ) Q := by
  unfold D_routeAt at h
  refine z_K.of (by decide) rfl (Nat.le_of_ble_eq_true rfl) ?_
  refine zi_aload_n 0 dX2_routeAt_0 rfl rfl ?_
  refine zi_bipush (v := 56) dX2_routeAt_1 (by decide) ?_
  refine zi_iconst (v := 4) dX2_routeAt_3 (by decide) ?_
  refine zi_iload_n 1 dX2_routeAt_4 rfl rfl ?_
  refine zi_imul dX2_routeAt_5 ?_
  refine zi_iadd dX2_routeAt_6 ?_
  refine zi_iload_n 2 dX2_routeAt_7 rfl rfl ?_
  refine zi_iadd dX2_routeAt_8 ?_
  obtain ⟨r2, h1, h⟩ := x_bE h
  refine zi_callV [.int (((56 : Int32) + ((4 : Int32) * a1)) + a2)] mX2_ofNet rfl q2567 t_rec rfl rfl (Nat.le_of_ble_eq_true rfl) dX2_routeAt_9 ?_
  refine w_ofNet h1 ?_
  refine zi_ireturn rfl rfl dX2_routeAt_12 ?_
  exact x_r1i h hQ
noncomputable def D_serves  (σ : t_S) : Option Int32 :=
  x_b (D_ofNet (4 : Int32) σ) fun r2 =>
  some r2
theorem w_serves  {rz : Int32} (h : D_serves σ = some rz) (hQ : Q (.inl (some (.int rz))) (t_m b σ μ)) : z_K g (d + 1) YX2_serves [.ref b] (t_m b σ μ) Q := by
  unfold D_serves at h
  refine z_K.of (by decide) rfl (Nat.le_of_ble_eq_true rfl) ?_
  refine zi_aload_n 0 dX2_serves_0 rfl rfl ?_
  refine zi_iconst (v := 4) dX2_serves_1 (by decide) ?_
  obtain ⟨r2, h1, h⟩ := x_bE h
  refine zi_callV [.int (4 : Int32)] mX2_ofNet rfl q2567 t_rec rfl rfl (Nat.le_of_ble_eq_true rfl) dX2_serves_2 ?_
  refine w_ofNet h1 ?_
  refine zi_ireturn rfl rfl dX2_serves_5 ?_
  exact x_r1i h hQ
noncomputable def D_serveAt (a1 : Int32) (a2 : Int32) (σ : t_S) : Option Int32 :=
  x_b (D_ofNet (((104 : Int32) + ((3 : Int32) * a1)) + a2) σ) fun r2 =>
  some r2
theorem w_serveAt {a1 : Int32} {a2 : Int32} {rz : Int32} (h : D_serveAt a1 a2 σ = some rz) (hQ : Q (.inl (some (.int rz))) (t_m b σ μ)) : z_K g (d + 1) YX2_serveAt [.ref b, .int a1, .int a2] (t_m b σ μ) Q := by
  unfold D_serveAt at h
  refine z_K.of (by decide) rfl (Nat.le_of_ble_eq_true rfl) ?_
  refine zi_aload_n 0 dX2_serveAt_0 rfl rfl ?_
  refine zi_bipush (v := 104) dX2_serveAt_1 (by decide) ?_
  refine zi_iconst (v := 3) dX2_serveAt_3 (by decide) ?_
  refine zi_iload_n 1 dX2_serveAt_4 rfl rfl ?_
  refine zi_imul dX2_serveAt_5 ?_
  refine zi_iadd dX2_serveAt_6 ?_
  refine zi_iload_n 2 dX2_serveAt_7 rfl rfl ?_
  refine zi_iadd dX2_serveAt_8 ?_
  obtain ⟨r2, h1, h⟩ := x_bE h
  refine zi_callV [.int (((104 : Int32) + ((3 : Int32) * a1)) + a2)] mX2_ofNet rfl q2567 t_rec rfl rfl (Nat.le_of_ble_eq_true rfl) dX2_serveAt_9 ?_
  refine w_ofNet h1 ?_
  refine zi_ireturn rfl rfl dX2_serveAt_12 ?_
  exact x_r1i h hQ
noncomputable def D_isUp (a1 : Int32) (a2 : Int32) (σ : t_S) : Option Int32 :=
  x_ga (((6 : Int32) * a1) + a2) 36 fun j1 =>
  x_l (t_a σ 25 j1) fun v2 =>
  if v2 = (-1 : Int32) then (some (0 : Int32)) else
  x_b (D_has (t_i σ 26) v2) fun r5 =>
  if r5 = 0 then (some (1 : Int32)) else
  some (0 : Int32)
theorem w_isUp {a1 : Int32} {a2 : Int32} {rz : Int32} (h : D_isUp a1 a2 σ = some rz) (hQ : Q (.inl (some (.int rz))) (t_m b σ μ)) : z_K g (d + 1) YX2_isUp [.ref b, .int a1, .int a2] (t_m b σ μ) Q := by
  unfold D_isUp at h
  refine z_K.of (by decide) rfl (Nat.le_of_ble_eq_true rfl) ?_
  refine zi_aload_n 0 dX2_isUp_0 rfl rfl ?_
  refine ti_getA 25 11 t_o25 q2195 dX2_isUp_1 ?_
  refine zi_bipush (v := 6) dX2_isUp_4 (by decide) ?_
  refine zi_iload_n 1 dX2_isUp_6 rfl rfl ?_
  refine zi_imul dX2_isUp_7 ?_
  refine zi_iload_n 2 dX2_isUp_8 rfl rfl ?_
  refine zi_iadd dX2_isUp_9 ?_
  obtain ⟨j1, hj1, h⟩ := x_gaE h
  refine ti_iald 25 j1 36 10 ⟨rfl, rfl⟩ hj1 dX2_isUp_10 ?_
  refine zi_istore_n (lc1 := [(3, _), (0, _), (1, _), (2, _)]) dX2_isUp_11 rfl (Nat.le_of_ble_eq_true rfl) rfl ?_
  refine x_lI (fun v2 => z_V g (d + 1) YX2_isUp 12 [(3, .int v2), (0, .ref b), (1, .int a1), (2, .int a2)] [] (t_m b σ μ) Q) h (fun v2 h => ?_)
  refine zi_iload_n 0 dX2_isUp_12 rfl rfl ?_
  refine zi_iconst (v := -1) dX2_isUp_13 (by decide) ?_
  refine zi_icmp_eq 32 dX2_isUp_14 (by decide) (fun c3 => ?_) (fun c3 => ?_)
  · replace h := x_iT h c3
    refine zi_iconst (v := 0) dX2_isUp_32 (by decide) ?_
    refine zi_ireturn rfl rfl dX2_isUp_33 ?_
    exact x_r1i h hQ
  · replace h := x_iF h c3
    refine zi_aload_n 1 dX2_isUp_17 rfl rfl ?_
    refine ti_getI 26 ⟨Nat.le_of_ble_eq_true rfl, rfl⟩ q2196 dX2_isUp_18 ?_
    refine zi_iload_n 0 dX2_isUp_21 rfl rfl ?_
    obtain ⟨r5, h4, h⟩ := x_bE h
    refine zi_callS [.int (t_i σ 26), .int v2] mX2_has rfl q2682 rfl rfl (Nat.le_of_ble_eq_true rfl) dX2_isUp_22 ?_
    refine w_has h4 ?_
    refine zi_if_ne 32 dX2_isUp_25 (by decide) (fun c6 => ?_) (fun c6 => ?_)
    · replace h := x_iF h c6
      refine zi_iconst (v := 0) dX2_isUp_32 (by decide) ?_
      refine zi_ireturn rfl rfl dX2_isUp_33 ?_
      exact x_r1i h hQ
    · replace h := x_iT h c6
      refine zi_iconst (v := 1) dX2_isUp_28 (by decide) ?_
      refine zi_goto 33 dX2_isUp_29 (by decide) ?_
      refine zi_ireturn rfl rfl dX2_isUp_33 ?_
      exact x_r1i h hQ
noncomputable def D_putsLast (a1 : Int32) (a2 : Int32) (a3 : Int32) (a4 : Int32) (σ : t_S) : Option t_S :=
  x_b (D_storedAt a1 a2 σ) fun r2 =>
  x_l (fun (σ3 : t_S) => x_ga a1 6 fun j4 =>
  x_l (((6 : Int32) * a1) + (t_a σ3 30 j4)) fun v5 =>
  x_ga v5 36 fun j6 =>
  x_l (t_sa σ3 31 j6 a2) fun σ7 =>
  x_ga v5 36 fun j8 =>
  x_l (t_sa σ7 32 j8 a3) fun σ9 =>
  x_ga v5 36 fun j10 =>
  x_l (t_sa σ9 33 j10 a4) fun σ11 =>
  x_ga a1 6 fun j12 =>
  x_ga a1 6 fun j13 =>
  x_l (t_sa σ11 30 j13 ((t_a σ11 30 j12) + (1 : Int32))) fun σ14 =>
  x_ga a1 6 fun j15 =>
  x_b (D_ofNet ((5 : Int32) + a1) σ14) fun r17 =>
  if (t_a σ14 30 j15) ≤ r17 then (some σ14) else
  x_b (D_takesOut a1 (0 : Int32) σ14) fun σ20 =>
  some σ20) fun J21 =>
  if r2 = (-1 : Int32) then (J21 σ) else
  x_b (D_takesOut a1 r2 σ) fun σ23 =>
  J21 σ23
theorem w_putsLast {a1 : Int32} {a2 : Int32} {a3 : Int32} {a4 : Int32}  (h : D_putsLast a1 a2 a3 a4 σ = some σz) (hQ : Q (.inl none) (t_m b σz μ)) : z_K g (d + 1) YX2_putsLast [.ref b, .int a1, .int a2, .int a3, .int a4] (t_m b σ μ) Q := by
  unfold D_putsLast at h
  refine z_K.of (by decide) rfl (Nat.le_of_ble_eq_true rfl) ?_
  refine zi_aload_n 0 dX2_putsLast_0 rfl rfl ?_
  refine zi_iload_n 1 dX2_putsLast_1 rfl rfl ?_
  refine zi_iload_n 2 dX2_putsLast_2 rfl rfl ?_
  obtain ⟨r2, h1, h⟩ := x_bE h
  refine zi_callV [.int a1, .int a2] mX2_storedAt rfl q2655 t_rec rfl rfl (Nat.le_of_ble_eq_true rfl) dX2_putsLast_3 ?_
  refine w_storedAt h1 ?_
  refine zi_istore (lc1 := [(5, _), (0, _), (1, _), (2, _), (3, _), (4, _)]) dX2_putsLast_6 (Nat.le_of_ble_eq_true rfl) rfl ?_
  refine zi_iload 0 dX2_putsLast_8 rfl ?_
  refine zi_iconst (v := -1) dX2_putsLast_10 (by decide) ?_
  refine x_jI (fun (J : t_S → Option t_S) => ∀ (σ3 : t_S), J σ3 = some σz → z_V g (d + 1) YX2_putsLast 21 [(0, .ref b), (1, .int a1), (2, .int a2), (3, .int a3), (4, .int a4)] [] (t_m b σ3 μ) Q) h (fun σ3 h => ?_) (fun J21 hJ21 h => ?_)
  · refine zi_bipush (v := 6) dX2_putsLast_21 (by decide) ?_
    refine zi_iload_n 1 dX2_putsLast_23 rfl rfl ?_
    refine zi_imul dX2_putsLast_24 ?_
    refine zi_aload_n 0 dX2_putsLast_25 rfl rfl ?_
    refine ti_getA 30 14 t_o30 q2200 dX2_putsLast_26 ?_
    refine zi_iload_n 1 dX2_putsLast_29 rfl rfl ?_
    obtain ⟨j4, hj4, h⟩ := x_gaE h
    refine ti_iald 30 j4 6 13 ⟨rfl, rfl⟩ hj4 dX2_putsLast_30 ?_
    refine zi_iadd dX2_putsLast_31 ?_
    refine zi_istore (lc1 := [(6, _), (0, _), (1, _), (2, _), (3, _), (4, _)]) dX2_putsLast_32 (Nat.le_of_ble_eq_true rfl) rfl ?_
    refine x_lI (fun v5 => z_V g (d + 1) YX2_putsLast 34 [(6, .int v5), (0, .ref b), (1, .int a1), (2, .int a2), (3, .int a3), (4, .int a4)] [] (t_m b σ3 μ) Q) h (fun v5 h => ?_)
    refine zi_aload_n 1 dX2_putsLast_34 rfl rfl ?_
    refine ti_getA 31 15 t_o31 q2201 dX2_putsLast_35 ?_
    refine zi_iload 0 dX2_putsLast_38 rfl ?_
    refine zi_iload_n 3 dX2_putsLast_40 rfl rfl ?_
    obtain ⟨j6, hj6, h⟩ := x_gaE h
    refine ti_iast 31 j6 36 14 ⟨rfl, rfl⟩ hj6 dX2_putsLast_41 ?_
    refine x_lI (fun σ7 => z_V g (d + 1) YX2_putsLast 42 [(6, .int v5), (0, .ref b), (1, .int a1), (2, .int a2), (3, .int a3), (4, .int a4)] [] (t_m b σ7 μ) Q) h (fun σ7 h => ?_)
    refine zi_aload_n 1 dX2_putsLast_42 rfl rfl ?_
    refine ti_getA 32 16 t_o32 q2202 dX2_putsLast_43 ?_
    refine zi_iload 0 dX2_putsLast_46 rfl ?_
    refine zi_iload_n 4 dX2_putsLast_48 rfl rfl ?_
    obtain ⟨j8, hj8, h⟩ := x_gaE h
    refine ti_iast 32 j8 36 15 ⟨rfl, rfl⟩ hj8 dX2_putsLast_49 ?_
    refine x_lI (fun σ9 => z_V g (d + 1) YX2_putsLast 50 [(6, .int v5), (0, .ref b), (1, .int a1), (2, .int a2), (3, .int a3), (4, .int a4)] [] (t_m b σ9 μ) Q) h (fun σ9 h => ?_)
    refine zi_aload_n 1 dX2_putsLast_50 rfl rfl ?_
    refine ti_getA 33 17 t_o33 q2203 dX2_putsLast_51 ?_
    refine zi_iload 0 dX2_putsLast_54 rfl ?_
    refine zi_iload 5 dX2_putsLast_56 rfl ?_
    obtain ⟨j10, hj10, h⟩ := x_gaE h
    refine ti_iast 33 j10 36 16 ⟨rfl, rfl⟩ hj10 dX2_putsLast_58 ?_
    refine x_lI (fun σ11 => z_V g (d + 1) YX2_putsLast 59 [(6, .int v5), (0, .ref b), (1, .int a1), (2, .int a2), (3, .int a3), (4, .int a4)] [] (t_m b σ11 μ) Q) h (fun σ11 h => ?_)
    refine zi_aload_n 1 dX2_putsLast_59 rfl rfl ?_
    refine ti_getA 30 14 t_o30 q2200 dX2_putsLast_60 ?_
    refine zi_iload_n 2 dX2_putsLast_63 rfl rfl ?_
    refine zi_dup2_11 dX2_putsLast_64 rfl rfl ?_
    obtain ⟨j12, hj12, h⟩ := x_gaE h
    refine ti_iald 30 j12 6 13 ⟨rfl, rfl⟩ hj12 dX2_putsLast_65 ?_
    refine zi_iconst (v := 1) dX2_putsLast_66 (by decide) ?_
    refine zi_iadd dX2_putsLast_67 ?_
    obtain ⟨j13, hj13, h⟩ := x_gaE h
    refine ti_iast 30 j13 6 13 ⟨rfl, rfl⟩ hj13 dX2_putsLast_68 ?_
    refine x_lI (fun σ14 => z_V g (d + 1) YX2_putsLast 69 [(6, .int v5), (0, .ref b), (1, .int a1), (2, .int a2), (3, .int a3), (4, .int a4)] [] (t_m b σ14 μ) Q) h (fun σ14 h => ?_)
    refine zi_aload_n 1 dX2_putsLast_69 rfl rfl ?_
    refine ti_getA 30 14 t_o30 q2200 dX2_putsLast_70 ?_
    refine zi_iload_n 2 dX2_putsLast_73 rfl rfl ?_
    obtain ⟨j15, hj15, h⟩ := x_gaE h
    refine ti_iald 30 j15 6 13 ⟨rfl, rfl⟩ hj15 dX2_putsLast_74 ?_
    refine zi_aload_n 1 dX2_putsLast_75 rfl rfl ?_
    refine zi_iconst (v := 5) dX2_putsLast_76 (by decide) ?_
    refine zi_iload_n 2 dX2_putsLast_77 rfl rfl ?_
    refine zi_iadd dX2_putsLast_78 ?_
    obtain ⟨r17, h16, h⟩ := x_bE h
    refine zi_callV [.int ((5 : Int32) + a1)] mX2_ofNet rfl q2567 t_rec rfl rfl (Nat.le_of_ble_eq_true rfl) dX2_putsLast_79 ?_
    refine w_ofNet h16 ?_
    refine zi_icmp_le 91 dX2_putsLast_82 (by decide) (fun c18 => ?_) (fun c18 => ?_)
    · replace h := x_iT h c18
      refine zi_return rfl dX2_putsLast_91 ?_
      exact x_r0 h hQ
    · replace h := x_iF h c18
      refine zi_aload_n 1 dX2_putsLast_85 rfl rfl ?_
      refine zi_iload_n 2 dX2_putsLast_86 rfl rfl ?_
      refine zi_iconst (v := 0) dX2_putsLast_87 (by decide) ?_
      obtain ⟨σ20, h19, h⟩ := x_bE h
      refine zi_callV [.int a1, .int (0 : Int32)] mX2_takesOut rfl q2693 t_rec rfl rfl (Nat.le_of_ble_eq_true rfl) dX2_putsLast_88 ?_
      refine w_takesOut h19 ?_
      refine zi_return rfl dX2_putsLast_91 ?_
      exact x_r0 h hQ
  refine zi_icmp_eq 21 dX2_putsLast_11 (by decide) (fun c21 => ?_) (fun c21 => ?_)
  · replace h := x_iT h c21
    refine zi_sub [1, 2, 3, 4, 5] rfl ?_
    exact hJ21 _ h
  · replace h := x_iF h c21
    refine zi_aload_n 1 dX2_putsLast_14 rfl rfl ?_
    refine zi_iload_n 2 dX2_putsLast_15 rfl rfl ?_
    refine zi_iload 0 dX2_putsLast_16 rfl ?_
    obtain ⟨σ23, h22, h⟩ := x_bE h
    refine zi_callV [.int a1, .int r2] mX2_takesOut rfl q2693 t_rec rfl rfl (Nat.le_of_ble_eq_true rfl) dX2_putsLast_18 ?_
    refine w_takesOut h22 ?_
    refine zi_sub [1, 2, 3, 4, 5] rfl ?_
    exact hJ21 _ h
noncomputable def D_isBeginning_7 (f0_3 : Int32) (k26 : Int32 → Option Int32) : Nat → Int32 → Int32 → Option Int32
  | 0, _, _ => none
  | f + 1, v2_4, v3_5 =>
    x_b (D_lettersOf f0_3) fun r9 =>
    if v3_5 ≤ r9 then (k26 v2_4) else
    x_l (v2_4 / (27 : Int32)) fun v11 =>
    x_l (v3_5 + (-1 : Int32)) fun v12 =>
    D_isBeginning_7 f0_3 k26 f v11 v12
theorem w_isBeginning_7 {f0_3 : Int32} {rz : Int32} {k26 : Int32 → Option Int32} (hk26 : ∀ (v2_6 : Int32), k26 v2_6 = some rz → z_V g (d + 1) YX2_isBeginning 26 [(0, .int f0_3), (2, .int v2_6)] [] μ Q) (hQ : Q (.inl (some (.int rz))) μ) : ∀ (f : Nat) (v2_4 : Int32) (v3_5 : Int32), D_isBeginning_7 f0_3 k26 f v2_4 v3_5 = some rz → z_V g (d + 1) YX2_isBeginning 7 [(0, .int f0_3), (2, .int v2_4), (3, .int v3_5)] [] μ Q := by
  intro f
  induction f with
  | zero =>
    intro v2_4 v3_5 h
    exact absurd h (x_n _)
  | succ f ih =>
    intro v2_4 v3_5 h
    refine zi_iload_n 2 dX2_isBeginning_7 rfl rfl ?_
    refine zi_iload_n 0 dX2_isBeginning_8 rfl rfl ?_
    obtain ⟨r9, h8, h⟩ := x_bE h
    refine zi_callS [.int f0_3] mX2_lettersOf rfl q2712 rfl rfl (Nat.le_of_ble_eq_true rfl) dX2_isBeginning_9 ?_
    refine w_lettersOf h8 ?_
    refine zi_icmp_le 26 dX2_isBeginning_12 (by decide) (fun c10 => ?_) (fun c10 => ?_)
    · replace h := x_iT h c10
      refine zi_sub [0, 1] rfl ?_
      exact hk26 _ h
    · replace h := x_iF h c10
      refine zi_iload_n 1 dX2_isBeginning_15 rfl rfl ?_
      refine zi_bipush (v := 27) dX2_isBeginning_16 (by decide) ?_
      refine zi_idiv dX2_isBeginning_18 (by decide) ?_
      refine zi_istore_n (lc1 := [(2, _), (0, _), (3, _)]) dX2_isBeginning_19 rfl (Nat.le_of_ble_eq_true rfl) rfl ?_
      refine x_lI (fun v11 => z_V g (d + 1) YX2_isBeginning 20 [(2, .int v11), (0, .int f0_3), (3, .int v3_5)] [] μ Q) h (fun v11 h => ?_)
      refine zi_iinc (v := (v3_5 + (-1 : Int32))) (lc1 := [(3, _), (2, _), (0, _)]) 2 dX2_isBeginning_20 rfl rfl (Nat.le_of_ble_eq_true rfl) rfl ?_
      refine x_lI (fun v12 => z_V g (d + 1) YX2_isBeginning 23 [(3, .int v12), (2, .int v11), (0, .int f0_3)] [] μ Q) h (fun v12 h => ?_)
      refine zi_goto 7 dX2_isBeginning_23 (by decide) ?_
      refine zi_sub [2, 1, 0] rfl ?_
      exact ih _ _ h
noncomputable def D_isBeginning (a0 : Int32) (a1 : Int32) : Option Int32 :=
  x_b (D_lettersOf a1) fun r2 =>
  D_isBeginning_7 a0
    (fun (v2_13 : Int32) => if v2_13 = a0 then (some (1 : Int32)) else
  some (0 : Int32))
    x_F a1 r2
theorem w_isBeginning {a0 : Int32} {a1 : Int32} {rz : Int32} (h : D_isBeginning a0 a1 = some rz) (hQ : Q (.inl (some (.int rz))) μ) : z_K g (d + 1) YX2_isBeginning [.int a0, .int a1] μ Q := by
  unfold D_isBeginning at h
  refine z_K.of (by decide) rfl (Nat.le_of_ble_eq_true rfl) ?_
  refine zi_iload_n 1 dX2_isBeginning_0 rfl rfl ?_
  refine zi_istore_n (lc1 := [(2, _), (0, _), (1, _)]) dX2_isBeginning_1 rfl (Nat.le_of_ble_eq_true rfl) rfl ?_
  refine zi_iload_n 2 dX2_isBeginning_2 rfl rfl ?_
  obtain ⟨r2, h1, h⟩ := x_bE h
  refine zi_callS [.int a1] mX2_lettersOf rfl q2712 rfl rfl (Nat.le_of_ble_eq_true rfl) dX2_isBeginning_3 ?_
  refine w_lettersOf h1 ?_
  refine zi_istore_n (lc1 := [(3, _), (2, _), (0, _), (1, _)]) dX2_isBeginning_6 rfl (Nat.le_of_ble_eq_true rfl) rfl ?_
  refine zi_sub [2, 1, 0] rfl ?_
  refine w_isBeginning_7 (fun v2_13 h => ?_) hQ _ _ _ h
  · refine zi_iload_n 1 dX2_isBeginning_26 rfl rfl ?_
    refine zi_iload_n 0 dX2_isBeginning_27 rfl rfl ?_
    refine zi_icmp_ne 35 dX2_isBeginning_28 (by decide) (fun c14 => ?_) (fun c14 => ?_)
    · replace h := x_iF h c14
      refine zi_iconst (v := 0) dX2_isBeginning_35 (by decide) ?_
      refine zi_ireturn rfl rfl dX2_isBeginning_36 ?_
      exact x_r1i h hQ
    · replace h := x_iT h c14
      refine zi_iconst (v := 1) dX2_isBeginning_31 (by decide) ?_
      refine zi_goto 36 dX2_isBeginning_32 (by decide) ?_
      refine zi_ireturn rfl rfl dX2_isBeginning_36 ?_
      exact x_r1i h hQ
noncomputable def D_endsAll_80 (f1_22 : Int32) (f2_23 : Int32) (f3_24 : Int32) (k126 : t_S → Option t_S) : Nat → Int32 → t_S → Option t_S
  | 0, _, _ => none
  | f + 1, v4_25, σ26 =>
    if (64 : Int32) ≤ v4_25 then (k126 σ26) else
    x_ga f3_24 384 fun j29 =>
    x_b (D_hasL (t_l σ26 38 j29) v4_25) fun r31 =>
    if r31 = 0 then (x_l (v4_25 + (1 : Int32)) fun v33 =>
    D_endsAll_80 f1_22 f2_23 f3_24 k126 f v33 σ26) else
    x_ga v4_25 64 fun j34 =>
    x_l (t_sa σ26 57 j34 (3 : Int32)) fun σ35 =>
    x_ga v4_25 64 fun j36 =>
    x_l (t_sa σ35 58 j36 (t_i σ35 27)) fun σ37 =>
    x_l (v4_25 + (1 : Int32)) fun v38 =>
    D_endsAll_80 f1_22 f2_23 f3_24 k126 f v38 σ37
theorem w_endsAll_80 {f1_22 : Int32} {f2_23 : Int32} {f3_24 : Int32}  {k126 : t_S → Option t_S} (hk126 : ∀ (σ27 : t_S), k126 σ27 = some σz → z_V g (d + 1) YX2_endsAll 126 [(0, .ref b), (1, .int f1_22), (2, .int f2_23), (3, .int f3_24)] [] (t_m b σ27 μ) Q) (hQ : Q (.inl none) (t_m b σz μ)) : ∀ (f : Nat) (v4_25 : Int32) (σ26 : t_S), D_endsAll_80 f1_22 f2_23 f3_24 k126 f v4_25 σ26 = some σz → z_V g (d + 1) YX2_endsAll 80 [(0, .ref b), (1, .int f1_22), (2, .int f2_23), (3, .int f3_24), (4, .int v4_25)] [] (t_m b σ26 μ) Q := by
  intro f
  induction f with
  | zero =>
    intro v4_25 σ26 h
    exact absurd h (x_n _)
  | succ f ih =>
    intro v4_25 σ26 h
    refine zi_iload 4 dX2_endsAll_80 rfl ?_
    refine zi_bipush (v := 64) dX2_endsAll_82 (by decide) ?_
    refine zi_icmp_ge 126 dX2_endsAll_84 (by decide) (fun c28 => ?_) (fun c28 => ?_)
    · replace h := x_iT h c28
      refine zi_sub [0, 1, 2, 3] rfl ?_
      exact hk126 _ h
    · replace h := x_iF h c28
      refine zi_aload_n 0 dX2_endsAll_87 rfl rfl ?_
      refine ti_getA 38 22 t_o38 q2208 dX2_endsAll_88 ?_
      refine zi_iload_n 3 dX2_endsAll_91 rfl rfl ?_
      obtain ⟨j29, hj29, h⟩ := x_gaE h
      refine ti_lald 38 j29 384 21 ⟨rfl, rfl⟩ hj29 dX2_endsAll_92 ?_
      refine zi_iload 4 dX2_endsAll_93 rfl ?_
      obtain ⟨r31, h30, h⟩ := x_bE h
      refine zi_callS [.long (t_l σ26 38 j29), .int v4_25] mX2_hasL rfl q2659 rfl rfl (Nat.le_of_ble_eq_true rfl) dX2_endsAll_95 ?_
      refine w_hasL h30 ?_
      refine zi_if_eq 120 dX2_endsAll_98 (by decide) (fun c32 => ?_) (fun c32 => ?_)
      · replace h := x_iT h c32
        refine zi_iinc (v := (v4_25 + (1 : Int32))) (lc1 := [(4, _), (0, _), (1, _), (2, _), (3, _)]) 4 dX2_endsAll_120 rfl rfl (Nat.le_of_ble_eq_true rfl) rfl ?_
        refine x_lI (fun v33 => z_V g (d + 1) YX2_endsAll 123 [(4, .int v33), (0, .ref b), (1, .int f1_22), (2, .int f2_23), (3, .int f3_24)] [] (t_m b σ26 μ) Q) h (fun v33 h => ?_)
        refine zi_goto 80 dX2_endsAll_123 (by decide) ?_
        refine zi_sub [1, 2, 3, 4, 0] rfl ?_
        exact ih _ _ h
      · replace h := x_iF h c32
        refine zi_aload_n 0 dX2_endsAll_101 rfl rfl ?_
        refine ti_getA 57 40 t_o57 q2227 dX2_endsAll_102 ?_
        refine zi_iload 4 dX2_endsAll_105 rfl ?_
        refine zi_iconst (v := 3) dX2_endsAll_107 (by decide) ?_
        obtain ⟨j34, hj34, h⟩ := x_gaE h
        refine ti_iast 57 j34 64 39 ⟨rfl, rfl⟩ hj34 dX2_endsAll_108 ?_
        refine x_lI (fun σ35 => z_V g (d + 1) YX2_endsAll 109 [(0, .ref b), (1, .int f1_22), (2, .int f2_23), (3, .int f3_24), (4, .int v4_25)] [] (t_m b σ35 μ) Q) h (fun σ35 h => ?_)
        refine zi_aload_n 0 dX2_endsAll_109 rfl rfl ?_
        refine ti_getA 58 41 t_o58 q2228 dX2_endsAll_110 ?_
        refine zi_iload 4 dX2_endsAll_113 rfl ?_
        refine zi_aload_n 0 dX2_endsAll_115 rfl rfl ?_
        refine ti_getI 27 ⟨Nat.le_of_ble_eq_true rfl, rfl⟩ q2197 dX2_endsAll_116 ?_
        obtain ⟨j36, hj36, h⟩ := x_gaE h
        refine ti_iast 58 j36 64 40 ⟨rfl, rfl⟩ hj36 dX2_endsAll_119 ?_
        refine x_lI (fun σ37 => z_V g (d + 1) YX2_endsAll 120 [(0, .ref b), (1, .int f1_22), (2, .int f2_23), (3, .int f3_24), (4, .int v4_25)] [] (t_m b σ37 μ) Q) h (fun σ37 h => ?_)
        refine zi_iinc (v := (v4_25 + (1 : Int32))) (lc1 := [(4, _), (0, _), (1, _), (2, _), (3, _)]) 4 dX2_endsAll_120 rfl rfl (Nat.le_of_ble_eq_true rfl) rfl ?_
        refine x_lI (fun v38 => z_V g (d + 1) YX2_endsAll 123 [(4, .int v38), (0, .ref b), (1, .int f1_22), (2, .int f2_23), (3, .int f3_24)] [] (t_m b σ37 μ) Q) h (fun v38 h => ?_)
        refine zi_goto 80 dX2_endsAll_123 (by decide) ?_
        refine zi_sub [1, 2, 3, 4, 0] rfl ?_
        exact ih _ _ h
noncomputable def D_endsAll_12 (f1_5 : Int32) (k141 : t_S → Option t_S) : Nat → Int32 → t_S → Option t_S
  | 0, _, _ => none
  | f + 1, v2_6, σ7 =>
    x_ga f1_5 6 fun j9 =>
    if (t_a σ7 34 j9) ≤ v2_6 then (k141 σ7) else
    x_l (((64 : Int32) * f1_5) + v2_6) fun v11 =>
    x_ga v11 384 fun j12 =>
    if (t_a σ7 44 j12) = (t_i σ7 27) then (x_ga f1_5 6 fun j15 =>
    x_ga v11 384 fun j16 =>
    x_ga f1_5 6 fun j17 =>
    x_l (t_sl σ7 28 j17 ((t_l σ7 28 j15) ||| (t_l σ7 39 j16))) fun σ18 =>
    x_ga v11 384 fun j19 =>
    x_ga (((6 : Int32) * f1_5) + (t_a σ18 41 j19)) 36 fun j20 =>
    x_l (t_sa σ18 29 j20 (t_i σ18 24)) fun σ21 =>
    D_endsAll_80 f1_5 v2_6 v11
      (fun (σ39 : t_S) => x_b (D_removes f1_5 v11 σ39) fun σ41 =>
    D_endsAll_12 f1_5 k141 f v2_6 σ41)
      x_F (0 : Int32) σ21) else
    x_l (v2_6 + (1 : Int32)) fun v14 =>
    D_endsAll_12 f1_5 k141 f v14 σ7
theorem w_endsAll_12 {f1_5 : Int32}  {k141 : t_S → Option t_S} (hk141 : ∀ (σ8 : t_S), k141 σ8 = some σz → z_V g (d + 1) YX2_endsAll 141 [(0, .ref b), (1, .int f1_5)] [] (t_m b σ8 μ) Q) (hQ : Q (.inl none) (t_m b σz μ)) : ∀ (f : Nat) (v2_6 : Int32) (σ7 : t_S), D_endsAll_12 f1_5 k141 f v2_6 σ7 = some σz → z_V g (d + 1) YX2_endsAll 12 [(0, .ref b), (1, .int f1_5), (2, .int v2_6)] [] (t_m b σ7 μ) Q := by
  intro f
  induction f with
  | zero =>
    intro v2_6 σ7 h
    exact absurd h (x_n _)
  | succ f ih =>
    intro v2_6 σ7 h
    refine zi_iload_n 2 dX2_endsAll_12 rfl rfl ?_
    refine zi_aload_n 0 dX2_endsAll_13 rfl rfl ?_
    refine ti_getA 34 18 t_o34 q2204 dX2_endsAll_14 ?_
    refine zi_iload_n 1 dX2_endsAll_17 rfl rfl ?_
    obtain ⟨j9, hj9, h⟩ := x_gaE h
    refine ti_iald 34 j9 6 17 ⟨rfl, rfl⟩ hj9 dX2_endsAll_18 ?_
    refine zi_icmp_ge 141 dX2_endsAll_19 (by decide) (fun c10 => ?_) (fun c10 => ?_)
    · replace h := x_iT h c10
      refine zi_sub [0, 1] rfl ?_
      exact hk141 _ h
    · replace h := x_iF h c10
      refine zi_bipush (v := 64) dX2_endsAll_22 (by decide) ?_
      refine zi_iload_n 1 dX2_endsAll_24 rfl rfl ?_
      refine zi_imul dX2_endsAll_25 ?_
      refine zi_iload_n 2 dX2_endsAll_26 rfl rfl ?_
      refine zi_iadd dX2_endsAll_27 ?_
      refine zi_istore_n (lc1 := [(3, _), (0, _), (1, _), (2, _)]) dX2_endsAll_28 rfl (Nat.le_of_ble_eq_true rfl) rfl ?_
      refine x_lI (fun v11 => z_V g (d + 1) YX2_endsAll 29 [(3, .int v11), (0, .ref b), (1, .int f1_5), (2, .int v2_6)] [] (t_m b σ7 μ) Q) h (fun v11 h => ?_)
      refine zi_aload_n 1 dX2_endsAll_29 rfl rfl ?_
      refine ti_getA 44 28 t_o44 q2214 dX2_endsAll_30 ?_
      refine zi_iload_n 0 dX2_endsAll_33 rfl rfl ?_
      obtain ⟨j12, hj12, h⟩ := x_gaE h
      refine ti_iald 44 j12 384 27 ⟨rfl, rfl⟩ hj12 dX2_endsAll_34 ?_
      refine zi_aload_n 1 dX2_endsAll_35 rfl rfl ?_
      refine ti_getI 27 ⟨Nat.le_of_ble_eq_true rfl, rfl⟩ q2197 dX2_endsAll_36 ?_
      refine zi_icmp_ne 135 dX2_endsAll_39 (by decide) (fun c13 => ?_) (fun c13 => ?_)
      · replace h := x_iF h c13
        refine zi_iinc (v := (v2_6 + (1 : Int32))) (lc1 := [(2, _), (3, _), (0, _), (1, _)]) 3 dX2_endsAll_135 rfl rfl (Nat.le_of_ble_eq_true rfl) rfl ?_
        refine x_lI (fun v14 => z_V g (d + 1) YX2_endsAll 138 [(2, .int v14), (3, .int v11), (0, .ref b), (1, .int f1_5)] [] (t_m b σ7 μ) Q) h (fun v14 h => ?_)
        refine zi_goto 12 dX2_endsAll_138 (by decide) ?_
        refine zi_sub [2, 3, 0] rfl ?_
        exact ih _ _ h
      · replace h := x_iT h c13
        refine zi_aload_n 1 dX2_endsAll_42 rfl rfl ?_
        refine ti_getA 28 12 t_o28 q2198 dX2_endsAll_43 ?_
        refine zi_iload_n 2 dX2_endsAll_46 rfl rfl ?_
        refine zi_dup2_11 dX2_endsAll_47 rfl rfl ?_
        obtain ⟨j15, hj15, h⟩ := x_gaE h
        refine ti_lald 28 j15 6 11 ⟨rfl, rfl⟩ hj15 dX2_endsAll_48 ?_
        refine zi_aload_n 1 dX2_endsAll_49 rfl rfl ?_
        refine ti_getA 39 23 t_o39 q2209 dX2_endsAll_50 ?_
        refine zi_iload_n 0 dX2_endsAll_53 rfl rfl ?_
        obtain ⟨j16, hj16, h⟩ := x_gaE h
        refine ti_lald 39 j16 384 22 ⟨rfl, rfl⟩ hj16 dX2_endsAll_54 ?_
        refine zi_lor dX2_endsAll_55 ?_
        obtain ⟨j17, hj17, h⟩ := x_gaE h
        refine ti_last 28 j17 6 11 ⟨rfl, rfl⟩ hj17 dX2_endsAll_56 ?_
        refine x_lI (fun σ18 => z_V g (d + 1) YX2_endsAll 57 [(3, .int v11), (0, .ref b), (1, .int f1_5), (2, .int v2_6)] [] (t_m b σ18 μ) Q) h (fun σ18 h => ?_)
        refine zi_aload_n 1 dX2_endsAll_57 rfl rfl ?_
        refine ti_getA 29 13 t_o29 q2199 dX2_endsAll_58 ?_
        refine zi_bipush (v := 6) dX2_endsAll_61 (by decide) ?_
        refine zi_iload_n 2 dX2_endsAll_63 rfl rfl ?_
        refine zi_imul dX2_endsAll_64 ?_
        refine zi_aload_n 1 dX2_endsAll_65 rfl rfl ?_
        refine ti_getA 41 25 t_o41 q2211 dX2_endsAll_66 ?_
        refine zi_iload_n 0 dX2_endsAll_69 rfl rfl ?_
        obtain ⟨j19, hj19, h⟩ := x_gaE h
        refine ti_iald 41 j19 384 24 ⟨rfl, rfl⟩ hj19 dX2_endsAll_70 ?_
        refine zi_iadd dX2_endsAll_71 ?_
        refine zi_aload_n 1 dX2_endsAll_72 rfl rfl ?_
        refine ti_getI 24 ⟨Nat.le_of_ble_eq_true rfl, rfl⟩ q2194 dX2_endsAll_73 ?_
        obtain ⟨j20, hj20, h⟩ := x_gaE h
        refine ti_iast 29 j20 36 12 ⟨rfl, rfl⟩ hj20 dX2_endsAll_76 ?_
        refine x_lI (fun σ21 => z_V g (d + 1) YX2_endsAll 77 [(3, .int v11), (0, .ref b), (1, .int f1_5), (2, .int v2_6)] [] (t_m b σ21 μ) Q) h (fun σ21 h => ?_)
        refine zi_iconst (v := 0) dX2_endsAll_77 (by decide) ?_
        refine zi_istore (lc1 := [(4, _), (3, _), (0, _), (1, _), (2, _)]) dX2_endsAll_78 (Nat.le_of_ble_eq_true rfl) rfl ?_
        refine zi_sub [2, 3, 4, 1, 0] rfl ?_
        refine w_endsAll_80 (fun σ39 h => ?_) hQ _ _ _ h
        · refine zi_aload_n 0 dX2_endsAll_126 rfl rfl ?_
          refine zi_iload_n 1 dX2_endsAll_127 rfl rfl ?_
          refine zi_iload_n 3 dX2_endsAll_128 rfl rfl ?_
          obtain ⟨σ41, h40, h⟩ := x_bE h
          refine zi_callV [.int f1_5, .int v11] mX2_removes rfl q2744 t_rec rfl rfl (Nat.le_of_ble_eq_true rfl) dX2_endsAll_129 ?_
          refine w_removes h40 ?_
          refine zi_goto 138 dX2_endsAll_132 (by decide) ?_
          refine zi_goto 12 dX2_endsAll_138 (by decide) ?_
          refine zi_sub [0, 1, 2] rfl ?_
          exact ih _ _ h
noncomputable def D_endsAll_2  (k147 : t_S → Option t_S) : Nat → Int32 → t_S → Option t_S
  | 0, _, _ => none
  | f + 1, v1_1, σ2 =>
    if (t_i σ2 23) ≤ v1_1 then (k147 σ2) else
    D_endsAll_12 v1_1
      (fun (σ42 : t_S) => x_l (v1_1 + (1 : Int32)) fun v43 =>
    D_endsAll_2 k147 f v43 σ42)
      x_F (0 : Int32) σ2
theorem w_endsAll_2   {k147 : t_S → Option t_S} (hk147 : ∀ (σ3 : t_S), k147 σ3 = some σz → z_V g (d + 1) YX2_endsAll 147 [] [] (t_m b σ3 μ) Q) (hQ : Q (.inl none) (t_m b σz μ)) : ∀ (f : Nat) (v1_1 : Int32) (σ2 : t_S), D_endsAll_2 k147 f v1_1 σ2 = some σz → z_V g (d + 1) YX2_endsAll 2 [(0, .ref b), (1, .int v1_1)] [] (t_m b σ2 μ) Q := by
  intro f
  induction f with
  | zero =>
    intro v1_1 σ2 h
    exact absurd h (x_n _)
  | succ f ih =>
    intro v1_1 σ2 h
    refine zi_iload_n 1 dX2_endsAll_2 rfl rfl ?_
    refine zi_aload_n 0 dX2_endsAll_3 rfl rfl ?_
    refine ti_getI 23 ⟨Nat.le_of_ble_eq_true rfl, rfl⟩ q2193 dX2_endsAll_4 ?_
    refine zi_icmp_ge 147 dX2_endsAll_7 (by decide) (fun c4 => ?_) (fun c4 => ?_)
    · replace h := x_iT h c4
      refine zi_sub [] rfl ?_
      exact hk147 _ h
    · replace h := x_iF h c4
      refine zi_iconst (v := 0) dX2_endsAll_10 (by decide) ?_
      refine zi_istore_n (lc1 := [(2, _), (0, _), (1, _)]) dX2_endsAll_11 rfl (Nat.le_of_ble_eq_true rfl) rfl ?_
      refine zi_sub [1, 2, 0] rfl ?_
      refine w_endsAll_12 (fun σ42 h => ?_) hQ _ _ _ h
      · refine zi_iinc (v := (v1_1 + (1 : Int32))) (lc1 := [(1, _), (0, _)]) 1 dX2_endsAll_141 rfl rfl (Nat.le_of_ble_eq_true rfl) rfl ?_
        refine x_lI (fun v43 => z_V g (d + 1) YX2_endsAll 144 [(1, .int v43), (0, .ref b)] [] (t_m b σ42 μ) Q) h (fun v43 h => ?_)
        refine zi_goto 2 dX2_endsAll_144 (by decide) ?_
        refine zi_sub [1, 0] rfl ?_
        exact ih _ _ h
noncomputable def D_endsAll  (σ : t_S) : Option t_S :=
  D_endsAll_2
    (fun (σ44 : t_S) => some σ44)
    x_F (0 : Int32) σ
theorem w_endsAll   (h : D_endsAll σ = some σz) (hQ : Q (.inl none) (t_m b σz μ)) : z_K g (d + 1) YX2_endsAll [.ref b] (t_m b σ μ) Q := by
  unfold D_endsAll at h
  refine z_K.of (by decide) rfl (Nat.le_of_ble_eq_true rfl) ?_
  refine zi_iconst (v := 0) dX2_endsAll_0 (by decide) ?_
  refine zi_istore_n (lc1 := [(1, _), (0, _)]) dX2_endsAll_1 rfl (Nat.le_of_ble_eq_true rfl) rfl ?_
  refine zi_sub [1, 0] rfl ?_
  refine w_endsAll_2 (fun σ44 h => ?_) hQ _ _ _ h
  · refine zi_return rfl dX2_endsAll_147 ?_
    exact x_r0 h hQ
noncomputable def D_ones_4 (f0_1 : Int32) (k32 : Int32 → Option Int32) : Nat → Int32 → Int32 → Option Int32
  | 0, _, _ => none
  | f + 1, v1_2, v2_3 =>
    if (15 : Int32) ≤ v2_3 then (k32 v1_2) else
    x_b (D_has f0_1 v2_3) fun r8 =>
    if r8 = 0 then (x_l (v1_2 + (0 : Int32)) fun v10 =>
    x_l (v2_3 + (1 : Int32)) fun v11 =>
    D_ones_4 f0_1 k32 f v10 v11) else
    x_l (v1_2 + (1 : Int32)) fun v12 =>
    x_l (v2_3 + (1 : Int32)) fun v13 =>
    D_ones_4 f0_1 k32 f v12 v13
theorem w_ones_4 {f0_1 : Int32} {rz : Int32} {k32 : Int32 → Option Int32} (hk32 : ∀ (v1_4 : Int32), k32 v1_4 = some rz → z_V g (d + 1) YX2_ones 32 [(1, .int v1_4)] [] μ Q) (hQ : Q (.inl (some (.int rz))) μ) : ∀ (f : Nat) (v1_2 : Int32) (v2_3 : Int32), D_ones_4 f0_1 k32 f v1_2 v2_3 = some rz → z_V g (d + 1) YX2_ones 4 [(0, .int f0_1), (1, .int v1_2), (2, .int v2_3)] [] μ Q := by
  intro f
  induction f with
  | zero =>
    intro v1_2 v2_3 h
    exact absurd h (x_n _)
  | succ f ih =>
    intro v1_2 v2_3 h
    refine zi_iload_n 2 dX2_ones_4 rfl rfl ?_
    refine zi_bipush (v := 15) dX2_ones_5 (by decide) ?_
    refine zi_icmp_ge 32 dX2_ones_7 (by decide) (fun c6 => ?_) (fun c6 => ?_)
    · replace h := x_iT h c6
      refine zi_sub [1] rfl ?_
      exact hk32 _ h
    · replace h := x_iF h c6
      refine zi_iload_n 1 dX2_ones_10 rfl rfl ?_
      refine zi_iload_n 0 dX2_ones_11 rfl rfl ?_
      refine zi_iload_n 2 dX2_ones_12 rfl rfl ?_
      obtain ⟨r8, h7, h⟩ := x_bE h
      refine zi_callS [.int f0_1, .int v2_3] mX2_has rfl q2682 rfl rfl (Nat.le_of_ble_eq_true rfl) dX2_ones_13 ?_
      refine w_has h7 ?_
      refine zi_if_eq 23 dX2_ones_16 (by decide) (fun c9 => ?_) (fun c9 => ?_)
      · replace h := x_iT h c9
        refine zi_iconst (v := 0) dX2_ones_23 (by decide) ?_
        refine zi_iadd dX2_ones_24 ?_
        refine zi_istore_n (lc1 := [(1, _), (0, _), (2, _)]) dX2_ones_25 rfl (Nat.le_of_ble_eq_true rfl) rfl ?_
        refine x_lI (fun v10 => z_V g (d + 1) YX2_ones 26 [(1, .int v10), (0, .int f0_1), (2, .int v2_3)] [] μ Q) h (fun v10 h => ?_)
        refine zi_iinc (v := (v2_3 + (1 : Int32))) (lc1 := [(2, _), (1, _), (0, _)]) 2 dX2_ones_26 rfl rfl (Nat.le_of_ble_eq_true rfl) rfl ?_
        refine x_lI (fun v11 => z_V g (d + 1) YX2_ones 29 [(2, .int v11), (1, .int v10), (0, .int f0_1)] [] μ Q) h (fun v11 h => ?_)
        refine zi_goto 4 dX2_ones_29 (by decide) ?_
        refine zi_sub [2, 1, 0] rfl ?_
        exact ih _ _ h
      · replace h := x_iF h c9
        refine zi_iconst (v := 1) dX2_ones_19 (by decide) ?_
        refine zi_goto 24 dX2_ones_20 (by decide) ?_
        refine zi_iadd dX2_ones_24 ?_
        refine zi_istore_n (lc1 := [(1, _), (0, _), (2, _)]) dX2_ones_25 rfl (Nat.le_of_ble_eq_true rfl) rfl ?_
        refine x_lI (fun v12 => z_V g (d + 1) YX2_ones 26 [(1, .int v12), (0, .int f0_1), (2, .int v2_3)] [] μ Q) h (fun v12 h => ?_)
        refine zi_iinc (v := (v2_3 + (1 : Int32))) (lc1 := [(2, _), (1, _), (0, _)]) 2 dX2_ones_26 rfl rfl (Nat.le_of_ble_eq_true rfl) rfl ?_
        refine x_lI (fun v13 => z_V g (d + 1) YX2_ones 29 [(2, .int v13), (1, .int v12), (0, .int f0_1)] [] μ Q) h (fun v13 h => ?_)
        refine zi_goto 4 dX2_ones_29 (by decide) ?_
        refine zi_sub [2, 1, 0] rfl ?_
        exact ih _ _ h
noncomputable def D_ones (a0 : Int32) : Option Int32 :=
  D_ones_4 a0
    (fun (v1_14 : Int32) => some v1_14)
    x_F (0 : Int32) (0 : Int32)
theorem w_ones {a0 : Int32} {rz : Int32} (h : D_ones a0 = some rz) (hQ : Q (.inl (some (.int rz))) μ) : z_K g (d + 1) YX2_ones [.int a0] μ Q := by
  unfold D_ones at h
  refine z_K.of (by decide) rfl (Nat.le_of_ble_eq_true rfl) ?_
  refine zi_iconst (v := 0) dX2_ones_0 (by decide) ?_
  refine zi_istore_n (lc1 := [(1, _), (0, _)]) dX2_ones_1 rfl (Nat.le_of_ble_eq_true rfl) rfl ?_
  refine zi_iconst (v := 0) dX2_ones_2 (by decide) ?_
  refine zi_istore_n (lc1 := [(2, _), (1, _), (0, _)]) dX2_ones_3 rfl (Nat.le_of_ble_eq_true rfl) rfl ?_
  refine zi_sub [2, 1, 0] rfl ?_
  refine w_ones_4 (fun v1_14 h => ?_) hQ _ _ _ h
  · refine zi_iload_n 0 dX2_ones_32 rfl rfl ?_
    refine zi_ireturn rfl rfl dX2_ones_33 ?_
    exact x_r1i h hQ
noncomputable def D_onesL_4 (f0_1 : Int64) (k32 : Int32 → Option Int32) : Nat → Int32 → Int32 → Option Int32
  | 0, _, _ => none
  | f + 1, v2_2, v3_3 =>
    if (64 : Int32) ≤ v3_3 then (k32 v2_2) else
    x_b (D_hasL f0_1 v3_3) fun r8 =>
    if r8 = 0 then (x_l (v2_2 + (0 : Int32)) fun v10 =>
    x_l (v3_3 + (1 : Int32)) fun v11 =>
    D_onesL_4 f0_1 k32 f v10 v11) else
    x_l (v2_2 + (1 : Int32)) fun v12 =>
    x_l (v3_3 + (1 : Int32)) fun v13 =>
    D_onesL_4 f0_1 k32 f v12 v13
theorem w_onesL_4 {f0_1 : Int64} {rz : Int32} {k32 : Int32 → Option Int32} (hk32 : ∀ (v2_4 : Int32), k32 v2_4 = some rz → z_V g (d + 1) YX2_onesL 32 [(2, .int v2_4)] [] μ Q) (hQ : Q (.inl (some (.int rz))) μ) : ∀ (f : Nat) (v2_2 : Int32) (v3_3 : Int32), D_onesL_4 f0_1 k32 f v2_2 v3_3 = some rz → z_V g (d + 1) YX2_onesL 4 [(0, .long f0_1), (2, .int v2_2), (3, .int v3_3)] [] μ Q := by
  intro f
  induction f with
  | zero =>
    intro v2_2 v3_3 h
    exact absurd h (x_n _)
  | succ f ih =>
    intro v2_2 v3_3 h
    refine zi_iload_n 2 dX2_onesL_4 rfl rfl ?_
    refine zi_bipush (v := 64) dX2_onesL_5 (by decide) ?_
    refine zi_icmp_ge 32 dX2_onesL_7 (by decide) (fun c6 => ?_) (fun c6 => ?_)
    · replace h := x_iT h c6
      refine zi_sub [1] rfl ?_
      exact hk32 _ h
    · replace h := x_iF h c6
      refine zi_iload_n 1 dX2_onesL_10 rfl rfl ?_
      refine zi_lload_n 0 dX2_onesL_11 rfl rfl ?_
      refine zi_iload_n 2 dX2_onesL_12 rfl rfl ?_
      obtain ⟨r8, h7, h⟩ := x_bE h
      refine zi_callS [.long f0_1, .int v3_3] mX2_hasL rfl q2659 rfl rfl (Nat.le_of_ble_eq_true rfl) dX2_onesL_13 ?_
      refine w_hasL h7 ?_
      refine zi_if_eq 23 dX2_onesL_16 (by decide) (fun c9 => ?_) (fun c9 => ?_)
      · replace h := x_iT h c9
        refine zi_iconst (v := 0) dX2_onesL_23 (by decide) ?_
        refine zi_iadd dX2_onesL_24 ?_
        refine zi_istore_n (lc1 := [(2, _), (0, _), (3, _)]) dX2_onesL_25 rfl (Nat.le_of_ble_eq_true rfl) rfl ?_
        refine x_lI (fun v10 => z_V g (d + 1) YX2_onesL 26 [(2, .int v10), (0, .long f0_1), (3, .int v3_3)] [] μ Q) h (fun v10 h => ?_)
        refine zi_iinc (v := (v3_3 + (1 : Int32))) (lc1 := [(3, _), (2, _), (0, _)]) 2 dX2_onesL_26 rfl rfl (Nat.le_of_ble_eq_true rfl) rfl ?_
        refine x_lI (fun v11 => z_V g (d + 1) YX2_onesL 29 [(3, .int v11), (2, .int v10), (0, .long f0_1)] [] μ Q) h (fun v11 h => ?_)
        refine zi_goto 4 dX2_onesL_29 (by decide) ?_
        refine zi_sub [2, 1, 0] rfl ?_
        exact ih _ _ h
      · replace h := x_iF h c9
        refine zi_iconst (v := 1) dX2_onesL_19 (by decide) ?_
        refine zi_goto 24 dX2_onesL_20 (by decide) ?_
        refine zi_iadd dX2_onesL_24 ?_
        refine zi_istore_n (lc1 := [(2, _), (0, _), (3, _)]) dX2_onesL_25 rfl (Nat.le_of_ble_eq_true rfl) rfl ?_
        refine x_lI (fun v12 => z_V g (d + 1) YX2_onesL 26 [(2, .int v12), (0, .long f0_1), (3, .int v3_3)] [] μ Q) h (fun v12 h => ?_)
        refine zi_iinc (v := (v3_3 + (1 : Int32))) (lc1 := [(3, _), (2, _), (0, _)]) 2 dX2_onesL_26 rfl rfl (Nat.le_of_ble_eq_true rfl) rfl ?_
        refine x_lI (fun v13 => z_V g (d + 1) YX2_onesL 29 [(3, .int v13), (2, .int v12), (0, .long f0_1)] [] μ Q) h (fun v13 h => ?_)
        refine zi_goto 4 dX2_onesL_29 (by decide) ?_
        refine zi_sub [2, 1, 0] rfl ?_
        exact ih _ _ h
noncomputable def D_onesL (a0 : Int64) : Option Int32 :=
  D_onesL_4 a0
    (fun (v2_14 : Int32) => some v2_14)
    x_F (0 : Int32) (0 : Int32)
theorem w_onesL {a0 : Int64} {rz : Int32} (h : D_onesL a0 = some rz) (hQ : Q (.inl (some (.int rz))) μ) : z_K g (d + 1) YX2_onesL [.long a0] μ Q := by
  unfold D_onesL at h
  refine z_K.of (by decide) rfl (Nat.le_of_ble_eq_true rfl) ?_
  refine zi_iconst (v := 0) dX2_onesL_0 (by decide) ?_
  refine zi_istore_n (lc1 := [(2, _), (0, _)]) dX2_onesL_1 rfl (Nat.le_of_ble_eq_true rfl) rfl ?_
  refine zi_iconst (v := 0) dX2_onesL_2 (by decide) ?_
  refine zi_istore_n (lc1 := [(3, _), (2, _), (0, _)]) dX2_onesL_3 rfl (Nat.le_of_ble_eq_true rfl) rfl ?_
  refine zi_sub [2, 1, 0] rfl ?_
  refine w_onesL_4 (fun v2_14 h => ?_) hQ _ _ _ h
  · refine zi_iload_n 0 dX2_onesL_32 rfl rfl ?_
    refine zi_ireturn rfl rfl dX2_onesL_33 ?_
    exact x_r1i h hQ
noncomputable def D_isName_12  (k41 : Int32 → Option Int32) : Nat → Int32 → Int32 → Option Int32
  | 0, _, _ => none
  | f + 1, v1_5, v2_6 =>
    if v2_6 ≤ 0 then (k41 v1_5) else
    if v1_5 = 0 then (k41 v1_5) else
    x_l (fun (s11 : Int32) => x_l (v2_6 / (27 : Int32)) fun v12 =>
    D_isName_12 k41 f s11 v12) fun J32 =>
    if (v2_6 - v2_6 / (27 : Int32) * (27 : Int32)) = 0 then (J32 (0 : Int32)) else
    J32 (1 : Int32)
theorem w_isName_12  {rz : Int32} {k41 : Int32 → Option Int32} (hk41 : ∀ (v1_7 : Int32), k41 v1_7 = some rz → z_V g (d + 1) YX2_isName 41 [(1, .int v1_7)] [] μ Q) (hQ : Q (.inl (some (.int rz))) μ) : ∀ (f : Nat) (v1_5 : Int32) (v2_6 : Int32), D_isName_12 k41 f v1_5 v2_6 = some rz → z_V g (d + 1) YX2_isName 12 [(1, .int v1_5), (2, .int v2_6)] [] μ Q := by
  intro f
  induction f with
  | zero =>
    intro v1_5 v2_6 h
    exact absurd h (x_n _)
  | succ f ih =>
    intro v1_5 v2_6 h
    refine zi_iload_n 1 dX2_isName_12 rfl rfl ?_
    refine zi_if_le 41 dX2_isName_13 (by decide) (fun c9 => ?_) (fun c9 => ?_)
    · replace h := x_iT h c9
      refine zi_sub [0] rfl ?_
      exact hk41 _ h
    · replace h := x_iF h c9
      refine zi_iload_n 0 dX2_isName_16 rfl rfl ?_
      refine zi_if_eq 41 dX2_isName_17 (by decide) (fun c10 => ?_) (fun c10 => ?_)
      · replace h := x_iT h c10
        refine zi_sub [0] rfl ?_
        exact hk41 _ h
      · replace h := x_iF h c10
        refine zi_iload_n 1 dX2_isName_20 rfl rfl ?_
        refine zi_bipush (v := 27) dX2_isName_21 (by decide) ?_
        refine zi_irem dX2_isName_23 (by decide) ?_
        refine x_jI (fun (J : Int32 → Option Int32) => ∀ (s11 : Int32), J s11 = some rz → z_V g (d + 1) YX2_isName 32 [(2, .int v2_6)] [.int s11] μ Q) h (fun s11 h => ?_) (fun J32 hJ32 h => ?_)
        · refine zi_istore_n (lc1 := [(1, _), (2, _)]) dX2_isName_32 rfl (Nat.le_of_ble_eq_true rfl) rfl ?_
          refine zi_iload_n 1 dX2_isName_33 rfl rfl ?_
          refine zi_bipush (v := 27) dX2_isName_34 (by decide) ?_
          refine zi_idiv dX2_isName_36 (by decide) ?_
          refine zi_istore_n (lc1 := [(2, _), (1, _)]) dX2_isName_37 rfl (Nat.le_of_ble_eq_true rfl) rfl ?_
          refine x_lI (fun v12 => z_V g (d + 1) YX2_isName 38 [(2, .int v12), (1, .int s11)] [] μ Q) h (fun v12 h => ?_)
          refine zi_goto 12 dX2_isName_38 (by decide) ?_
          refine zi_sub [1, 0] rfl ?_
          exact ih _ _ h
        refine zi_if_eq 31 dX2_isName_24 (by decide) (fun c13 => ?_) (fun c13 => ?_)
        · replace h := x_iT h c13
          refine zi_iconst (v := 0) dX2_isName_31 (by decide) ?_
          refine zi_sub [1] rfl ?_
          exact hJ32 _ h
        · replace h := x_iF h c13
          refine zi_iconst (v := 1) dX2_isName_27 (by decide) ?_
          refine zi_goto 32 dX2_isName_28 (by decide) ?_
          refine zi_sub [1] rfl ?_
          exact hJ32 _ h
noncomputable def D_isName (a0 : Int32) : Option Int32 :=
  x_b (D_lettersOf a0) fun r2 =>
  x_b (D_in r2 (1 : Int32) (4 : Int32)) fun r4 =>
  D_isName_12
    (fun (v1_14 : Int32) => x_g (v1_14 = 0 ∨ v1_14 = 1) <|
  some v1_14)
    x_F r4 a0
theorem w_isName {a0 : Int32} {rz : Int32} (h : D_isName a0 = some rz) (hQ : Q (.inl (some (.int rz))) μ) : z_K g (d + 1) YX2_isName [.int a0] μ Q := by
  unfold D_isName at h
  refine z_K.of (by decide) rfl (Nat.le_of_ble_eq_true rfl) ?_
  refine zi_iload_n 0 dX2_isName_0 rfl rfl ?_
  obtain ⟨r2, h1, h⟩ := x_bE h
  refine zi_callS [.int a0] mX2_lettersOf rfl q2712 rfl rfl (Nat.le_of_ble_eq_true rfl) dX2_isName_1 ?_
  refine w_lettersOf h1 ?_
  refine zi_iconst (v := 1) dX2_isName_4 (by decide) ?_
  refine zi_iconst (v := 4) dX2_isName_5 (by decide) ?_
  obtain ⟨r4, h3, h⟩ := x_bE h
  refine zi_callS [.int r2, .int (1 : Int32), .int (4 : Int32)] mX2_in rfl q2445 rfl rfl (Nat.le_of_ble_eq_true rfl) dX2_isName_6 ?_
  refine w_in h3 ?_
  refine zi_istore_n (lc1 := [(1, _), (0, _)]) dX2_isName_9 rfl (Nat.le_of_ble_eq_true rfl) rfl ?_
  refine zi_iload_n 1 dX2_isName_10 rfl rfl ?_
  refine zi_istore_n (lc1 := [(2, _), (1, _), (0, _)]) dX2_isName_11 rfl (Nat.le_of_ble_eq_true rfl) rfl ?_
  refine zi_sub [1, 0] rfl ?_
  refine w_isName_12 (fun v1_14 h => ?_) hQ _ _ _ h
  · refine zi_iload_n 0 dX2_isName_41 rfl rfl ?_
    obtain ⟨hz15, h⟩ := x_gE h
    refine zi_ireturn rfl (x_nz hz15) dX2_isName_42 ?_
    exact x_r1i h hQ
noncomputable def D_isSo_2  (σ : t_S) (k56 : Option Int32) : Nat → Int32 → Option Int32
  | 0, _ => none
  | f + 1, v1_1 =>
    x_b (D_facts σ) fun r4 =>
    if r4 ≤ v1_1 then (k56) else
    x_b (D_factOf v1_1 (0 : Int32) σ) fun r7 =>
    x_ga r7 64 fun j8 =>
    x_l (fun (s9 : Int32) => x_b (D_factOf v1_1 (1 : Int32) σ) fun r11 =>
    if s9 = r11 then (x_l (v1_1 + (1 : Int32)) fun v13 =>
    D_isSo_2 σ k56 f v13) else
    some (0 : Int32)) fun J37 =>
    if (t_a σ 57 j8) = (1 : Int32) then (x_ga r7 64 fun j15 =>
    J37 (t_a σ 58 j15)) else
    J37 (-1 : Int32)
theorem w_isSo_2  {σ : t_S} {rz : Int32} {k56 : Option Int32} (hk56 : k56 = some rz → z_V g (d + 1) YX2_isSo 56 [] [] (t_m b σ μ) Q) (hQ : Q (.inl (some (.int rz))) (t_m b σ μ)) : ∀ (f : Nat) (v1_1 : Int32), D_isSo_2 σ k56 f v1_1 = some rz → z_V g (d + 1) YX2_isSo 2 [(0, .ref b), (1, .int v1_1)] [] (t_m b σ μ) Q := by
  intro f
  induction f with
  | zero =>
    intro v1_1 h
    exact absurd h (x_n _)
  | succ f ih =>
    intro v1_1 h
    refine zi_iload_n 1 dX2_isSo_2 rfl rfl ?_
    refine zi_aload_n 0 dX2_isSo_3 rfl rfl ?_
    obtain ⟨r4, h3, h⟩ := x_bE h
    refine zi_callV [] mX2_facts rfl q2865 t_rec rfl rfl (Nat.le_of_ble_eq_true rfl) dX2_isSo_4 ?_
    refine w_facts h3 ?_
    refine zi_icmp_ge 56 dX2_isSo_7 (by decide) (fun c5 => ?_) (fun c5 => ?_)
    · replace h := x_iT h c5
      refine zi_sub [] rfl ?_
      exact hk56  h
    · replace h := x_iF h c5
      refine zi_aload_n 0 dX2_isSo_10 rfl rfl ?_
      refine zi_iload_n 1 dX2_isSo_11 rfl rfl ?_
      refine zi_iconst (v := 0) dX2_isSo_12 (by decide) ?_
      obtain ⟨r7, h6, h⟩ := x_bE h
      refine zi_callV [.int v1_1, .int (0 : Int32)] mX2_factOf rfl q2869 t_rec rfl rfl (Nat.le_of_ble_eq_true rfl) dX2_isSo_13 ?_
      refine w_factOf h6 ?_
      refine zi_istore_n (lc1 := [(2, _), (0, _), (1, _)]) dX2_isSo_16 rfl (Nat.le_of_ble_eq_true rfl) rfl ?_
      refine zi_aload_n 1 dX2_isSo_17 rfl rfl ?_
      refine ti_getA 57 40 t_o57 q2227 dX2_isSo_18 ?_
      refine zi_iload_n 0 dX2_isSo_21 rfl rfl ?_
      obtain ⟨j8, hj8, h⟩ := x_gaE h
      refine ti_iald 57 j8 64 39 ⟨rfl, rfl⟩ hj8 dX2_isSo_22 ?_
      refine zi_iconst (v := 1) dX2_isSo_23 (by decide) ?_
      refine x_jI (fun (J : Int32 → Option Int32) => ∀ (s9 : Int32), J s9 = some rz → z_V g (d + 1) YX2_isSo 37 [(0, .ref b), (1, .int v1_1)] [.int s9] (t_m b σ μ) Q) h (fun s9 h => ?_) (fun J37 hJ37 h => ?_)
      · refine zi_istore_n (lc1 := [(3, _), (0, _), (1, _)]) dX2_isSo_37 rfl (Nat.le_of_ble_eq_true rfl) rfl ?_
        refine zi_iload_n 0 dX2_isSo_38 rfl rfl ?_
        refine zi_aload_n 1 dX2_isSo_39 rfl rfl ?_
        refine zi_iload_n 2 dX2_isSo_40 rfl rfl ?_
        refine zi_iconst (v := 1) dX2_isSo_41 (by decide) ?_
        obtain ⟨r11, h10, h⟩ := x_bE h
        refine zi_callV [.int v1_1, .int (1 : Int32)] mX2_factOf rfl q2869 t_rec rfl rfl (Nat.le_of_ble_eq_true rfl) dX2_isSo_42 ?_
        refine w_factOf h10 ?_
        refine zi_icmp_eq 50 dX2_isSo_45 (by decide) (fun c12 => ?_) (fun c12 => ?_)
        · replace h := x_iT h c12
          refine zi_iinc (v := (v1_1 + (1 : Int32))) (lc1 := [(1, _), (3, _), (0, _)]) 2 dX2_isSo_50 rfl rfl (Nat.le_of_ble_eq_true rfl) rfl ?_
          refine x_lI (fun v13 => z_V g (d + 1) YX2_isSo 53 [(1, .int v13), (3, .int s9), (0, .ref b)] [] (t_m b σ μ) Q) h (fun v13 h => ?_)
          refine zi_goto 2 dX2_isSo_53 (by decide) ?_
          refine zi_sub [2, 0] rfl ?_
          exact ih _ h
        · replace h := x_iF h c12
          refine zi_iconst (v := 0) dX2_isSo_48 (by decide) ?_
          refine zi_ireturn rfl rfl dX2_isSo_49 ?_
          exact x_r1i h hQ
      refine zi_icmp_ne 36 dX2_isSo_24 (by decide) (fun c14 => ?_) (fun c14 => ?_)
      · replace h := x_iF h c14
        refine zi_iconst (v := -1) dX2_isSo_36 (by decide) ?_
        refine zi_sub [1, 2] rfl ?_
        exact hJ37 _ h
      · replace h := x_iT h c14
        refine zi_aload_n 1 dX2_isSo_27 rfl rfl ?_
        refine ti_getA 58 41 t_o58 q2228 dX2_isSo_28 ?_
        refine zi_iload_n 0 dX2_isSo_31 rfl rfl ?_
        obtain ⟨j15, hj15, h⟩ := x_gaE h
        refine ti_iald 58 j15 64 40 ⟨rfl, rfl⟩ hj15 dX2_isSo_32 ?_
        refine zi_goto 37 dX2_isSo_33 (by decide) ?_
        refine zi_sub [1, 2] rfl ?_
        exact hJ37 _ h
noncomputable def D_isSo  (σ : t_S) : Option Int32 :=
  D_isSo_2 σ
    (some (1 : Int32))
    x_F (0 : Int32)
theorem w_isSo  {rz : Int32} (h : D_isSo σ = some rz) (hQ : Q (.inl (some (.int rz))) (t_m b σ μ)) : z_K g (d + 1) YX2_isSo [.ref b] (t_m b σ μ) Q := by
  unfold D_isSo at h
  refine z_K.of (by decide) rfl (Nat.le_of_ble_eq_true rfl) ?_
  refine zi_iconst (v := 0) dX2_isSo_0 (by decide) ?_
  refine zi_istore_n (lc1 := [(1, _), (0, _)]) dX2_isSo_1 rfl (Nat.le_of_ble_eq_true rfl) rfl ?_
  refine zi_sub [1, 0] rfl ?_
  refine w_isSo_2 (fun  h => ?_) hQ _ _ h
  · refine zi_iconst (v := 1) dX2_isSo_56 (by decide) ?_
    refine zi_ireturn rfl rfl dX2_isSo_57 ?_
    exact x_r1i h hQ
noncomputable def D_askWhat_8  (σ : t_S) (k72 : Int32 → Option Int32) : Nat → Int32 → Int32 → Int32 → Option Int32
  | 0, _, _, _ => none
  | f + 1, v1_1, v2_2, v3_3 =>
    x_b (D_deeds σ) fun r7 =>
    if r7 ≤ v3_3 then (k72 v1_1) else
    if (t_i σ 82) ≤ 0 then (k72 v1_1) else
    x_ga v3_3 40 fun j10 =>
    x_ga v3_3 40 fun j11 =>
    x_b (D_greater (t_a σ 84 j10) ((t_i σ 82) - (t_a σ 84 j11))) fun r13 =>
    x_b (D_deedOf v3_3 (0 : Int32) σ) fun r15 =>
    if (1 : Int32) < r15 then (x_l (v3_3 + (1 : Int32)) fun v17 =>
    D_askWhat_8 σ k72 f v1_1 v2_2 v17) else
    if v2_2 ≤ r13 then (x_l (v3_3 + (1 : Int32)) fun v19 =>
    D_askWhat_8 σ k72 f v1_1 v2_2 v19) else
    x_l (v3_3 + (1 : Int32)) fun v20 =>
    D_askWhat_8 σ k72 f v3_3 r13 v20
theorem w_askWhat_8  {σ : t_S} {rz : Int32} {k72 : Int32 → Option Int32} (hk72 : ∀ (v1_4 : Int32), k72 v1_4 = some rz → z_V g (d + 1) YX2_askWhat 72 [(1, .int v1_4)] [] (t_m b σ μ) Q) (hQ : Q (.inl (some (.int rz))) (t_m b σ μ)) : ∀ (f : Nat) (v1_1 : Int32) (v2_2 : Int32) (v3_3 : Int32), D_askWhat_8 σ k72 f v1_1 v2_2 v3_3 = some rz → z_V g (d + 1) YX2_askWhat 8 [(0, .ref b), (1, .int v1_1), (2, .int v2_2), (3, .int v3_3)] [] (t_m b σ μ) Q := by
  intro f
  induction f with
  | zero =>
    intro v1_1 v2_2 v3_3 h
    exact absurd h (x_n _)
  | succ f ih =>
    intro v1_1 v2_2 v3_3 h
    refine zi_iload_n 3 dX2_askWhat_8 rfl rfl ?_
    refine zi_aload_n 0 dX2_askWhat_9 rfl rfl ?_
    obtain ⟨r7, h6, h⟩ := x_bE h
    refine zi_callV [] mX2_deeds rfl q2615 t_rec rfl rfl (Nat.le_of_ble_eq_true rfl) dX2_askWhat_10 ?_
    refine w_deeds h6 ?_
    refine zi_icmp_ge 72 dX2_askWhat_13 (by decide) (fun c8 => ?_) (fun c8 => ?_)
    · replace h := x_iT h c8
      refine zi_sub [1] rfl ?_
      exact hk72 _ h
    · replace h := x_iF h c8
      refine zi_aload_n 0 dX2_askWhat_16 rfl rfl ?_
      refine ti_getI 82 ⟨Nat.le_of_ble_eq_true rfl, rfl⟩ q2252 dX2_askWhat_17 ?_
      refine zi_if_le 72 dX2_askWhat_20 (by decide) (fun c9 => ?_) (fun c9 => ?_)
      · replace h := x_iT h c9
        refine zi_sub [1] rfl ?_
        exact hk72 _ h
      · replace h := x_iF h c9
        refine zi_aload_n 0 dX2_askWhat_23 rfl rfl ?_
        refine ti_getA 84 51 t_o84 q2254 dX2_askWhat_24 ?_
        refine zi_iload_n 3 dX2_askWhat_27 rfl rfl ?_
        obtain ⟨j10, hj10, h⟩ := x_gaE h
        refine ti_iald 84 j10 40 50 ⟨rfl, rfl⟩ hj10 dX2_askWhat_28 ?_
        refine zi_aload_n 0 dX2_askWhat_29 rfl rfl ?_
        refine ti_getI 82 ⟨Nat.le_of_ble_eq_true rfl, rfl⟩ q2252 dX2_askWhat_30 ?_
        refine zi_aload_n 0 dX2_askWhat_33 rfl rfl ?_
        refine ti_getA 84 51 t_o84 q2254 dX2_askWhat_34 ?_
        refine zi_iload_n 3 dX2_askWhat_37 rfl rfl ?_
        obtain ⟨j11, hj11, h⟩ := x_gaE h
        refine ti_iald 84 j11 40 50 ⟨rfl, rfl⟩ hj11 dX2_askWhat_38 ?_
        refine zi_isub dX2_askWhat_39 ?_
        obtain ⟨r13, h12, h⟩ := x_bE h
        refine zi_callS [.int (t_a σ 84 j10), .int ((t_i σ 82) - (t_a σ 84 j11))] mX2_greater rfl q2499 rfl rfl (Nat.le_of_ble_eq_true rfl) dX2_askWhat_40 ?_
        refine w_greater h12 ?_
        refine zi_istore (lc1 := [(4, _), (0, _), (1, _), (2, _), (3, _)]) dX2_askWhat_43 (Nat.le_of_ble_eq_true rfl) rfl ?_
        refine zi_aload_n 1 dX2_askWhat_45 rfl rfl ?_
        refine zi_iload_n 4 dX2_askWhat_46 rfl rfl ?_
        refine zi_iconst (v := 0) dX2_askWhat_47 (by decide) ?_
        obtain ⟨r15, h14, h⟩ := x_bE h
        refine zi_callV [.int v3_3, .int (0 : Int32)] mX2_deedOf rfl q2619 t_rec rfl rfl (Nat.le_of_ble_eq_true rfl) dX2_askWhat_48 ?_
        refine w_deedOf h14 ?_
        refine zi_iconst (v := 1) dX2_askWhat_51 (by decide) ?_
        refine zi_icmp_gt 66 dX2_askWhat_52 (by decide) (fun c16 => ?_) (fun c16 => ?_)
        · replace h := x_iT h c16
          refine zi_iinc (v := (v3_3 + (1 : Int32))) (lc1 := [(3, _), (4, _), (0, _), (1, _), (2, _)]) 4 dX2_askWhat_66 rfl rfl (Nat.le_of_ble_eq_true rfl) rfl ?_
          refine x_lI (fun v17 => z_V g (d + 1) YX2_askWhat 69 [(3, .int v17), (4, .int r13), (0, .ref b), (1, .int v1_1), (2, .int v2_2)] [] (t_m b σ μ) Q) h (fun v17 h => ?_)
          refine zi_goto 8 dX2_askWhat_69 (by decide) ?_
          refine zi_sub [2, 3, 4, 0] rfl ?_
          exact ih _ _ _ h
        · replace h := x_iF h c16
          refine zi_iload 0 dX2_askWhat_55 rfl ?_
          refine zi_iload_n 3 dX2_askWhat_57 rfl rfl ?_
          refine zi_icmp_ge 66 dX2_askWhat_58 (by decide) (fun c18 => ?_) (fun c18 => ?_)
          · replace h := x_iT h c18
            refine zi_iinc (v := (v3_3 + (1 : Int32))) (lc1 := [(3, _), (4, _), (0, _), (1, _), (2, _)]) 4 dX2_askWhat_66 rfl rfl (Nat.le_of_ble_eq_true rfl) rfl ?_
            refine x_lI (fun v19 => z_V g (d + 1) YX2_askWhat 69 [(3, .int v19), (4, .int r13), (0, .ref b), (1, .int v1_1), (2, .int v2_2)] [] (t_m b σ μ) Q) h (fun v19 h => ?_)
            refine zi_goto 8 dX2_askWhat_69 (by decide) ?_
            refine zi_sub [2, 3, 4, 0] rfl ?_
            exact ih _ _ _ h
          · replace h := x_iF h c18
            refine zi_iload_n 4 dX2_askWhat_61 rfl rfl ?_
            refine zi_istore_n (lc1 := [(1, _), (4, _), (0, _), (2, _), (3, _)]) dX2_askWhat_62 rfl (Nat.le_of_ble_eq_true rfl) rfl ?_
            refine zi_iload 1 dX2_askWhat_63 rfl ?_
            refine zi_istore_n (lc1 := [(2, _), (1, _), (4, _), (0, _), (3, _)]) dX2_askWhat_65 rfl (Nat.le_of_ble_eq_true rfl) rfl ?_
            refine zi_iinc (v := (v3_3 + (1 : Int32))) (lc1 := [(3, _), (2, _), (1, _), (4, _), (0, _)]) 4 dX2_askWhat_66 rfl rfl (Nat.le_of_ble_eq_true rfl) rfl ?_
            refine x_lI (fun v20 => z_V g (d + 1) YX2_askWhat 69 [(3, .int v20), (2, .int r13), (1, .int v3_3), (4, .int r13), (0, .ref b)] [] (t_m b σ μ) Q) h (fun v20 h => ?_)
            refine zi_goto 8 dX2_askWhat_69 (by decide) ?_
            refine zi_sub [4, 2, 1, 0] rfl ?_
            exact ih _ _ _ h
noncomputable def D_askWhat  (σ : t_S) : Option Int32 :=
  D_askWhat_8 σ
    (fun (v1_21 : Int32) => some v1_21)
    x_F (-1 : Int32) (1000000 : Int32) (0 : Int32)
theorem w_askWhat  {rz : Int32} (h : D_askWhat σ = some rz) (hQ : Q (.inl (some (.int rz))) (t_m b σ μ)) : z_K g (d + 1) YX2_askWhat [.ref b] (t_m b σ μ) Q := by
  unfold D_askWhat at h
  refine z_K.of (by decide) rfl (Nat.le_of_ble_eq_true rfl) ?_
  refine zi_iconst (v := -1) dX2_askWhat_0 (by decide) ?_
  refine zi_istore_n (lc1 := [(1, _), (0, _)]) dX2_askWhat_1 rfl (Nat.le_of_ble_eq_true rfl) rfl ?_
  refine zi_ldcw (v := 1000000) q2739 dX2_askWhat_2 ?_
  refine zi_istore_n (lc1 := [(2, _), (1, _), (0, _)]) dX2_askWhat_5 rfl (Nat.le_of_ble_eq_true rfl) rfl ?_
  refine zi_iconst (v := 0) dX2_askWhat_6 (by decide) ?_
  refine zi_istore_n (lc1 := [(3, _), (2, _), (1, _), (0, _)]) dX2_askWhat_7 rfl (Nat.le_of_ble_eq_true rfl) rfl ?_
  refine zi_sub [3, 2, 1, 0] rfl ?_
  refine w_askWhat_8 (fun v1_21 h => ?_) hQ _ _ _ _ h
  · refine zi_iload_n 0 dX2_askWhat_72 rfl rfl ?_
    refine zi_ireturn rfl rfl dX2_askWhat_73 ?_
    exact x_r1i h hQ
noncomputable def D_mean_7 (f1_1 : Int32) (σ : t_S) (k72 : Int32 → Int32 → Option Int32) : Nat → Int32 → Int32 → Int32 → Option Int32
  | 0, _, _, _ => none
  | f + 1, v2_2, v3_3, v4_4 =>
    if (40 : Int32) ≤ v4_4 then (k72 v2_2 v3_3) else
    x_ga v4_4 64 fun j9 =>
    x_l (fun (s10 : Int32) (s11 : Int32) => x_l (s10 + s11) fun v12 =>
    x_ga v4_4 64 fun j13 =>
    if (t_a σ 57 j13) = (1 : Int32) then (x_l (v3_3 + (1 : Int32)) fun v17 =>
    x_l (v4_4 + (1 : Int32)) fun v18 =>
    D_mean_7 f1_1 σ k72 f v12 v17 v18) else
    x_l (v3_3 + (0 : Int32)) fun v15 =>
    x_l (v4_4 + (1 : Int32)) fun v16 =>
    D_mean_7 f1_1 σ k72 f v12 v15 v16) fun J45 =>
    if (t_a σ 57 j9) = (1 : Int32) then (x_ga v4_4 64 fun j20 =>
    x_ga v4_4 64 fun j21 =>
    J45 v2_2 ((t_a σ 58 j20) - (t_a σ 59 j21))) else
    J45 v2_2 (0 : Int32)
theorem w_mean_7 {f1_1 : Int32} {σ : t_S} {rz : Int32} {k72 : Int32 → Int32 → Option Int32} (hk72 : ∀ (v2_5 : Int32) (v3_6 : Int32), k72 v2_5 v3_6 = some rz → z_V g (d + 1) YX2_mean 72 [(1, .int f1_1), (2, .int v2_5), (3, .int v3_6)] [] (t_m b σ μ) Q) (hQ : Q (.inl (some (.int rz))) (t_m b σ μ)) : ∀ (f : Nat) (v2_2 : Int32) (v3_3 : Int32) (v4_4 : Int32), D_mean_7 f1_1 σ k72 f v2_2 v3_3 v4_4 = some rz → z_V g (d + 1) YX2_mean 7 [(0, .ref b), (1, .int f1_1), (2, .int v2_2), (3, .int v3_3), (4, .int v4_4)] [] (t_m b σ μ) Q := by
  intro f
  induction f with
  | zero =>
    intro v2_2 v3_3 v4_4 h
    exact absurd h (x_n _)
  | succ f ih =>
    intro v2_2 v3_3 v4_4 h
    refine zi_iload 4 dX2_mean_7 rfl ?_
    refine zi_bipush (v := 40) dX2_mean_9 (by decide) ?_
    refine zi_icmp_ge 72 dX2_mean_11 (by decide) (fun c8 => ?_) (fun c8 => ?_)
    · replace h := x_iT h c8
      refine zi_sub [1, 2, 3] rfl ?_
      exact hk72 _ _ h
    · replace h := x_iF h c8
      refine zi_iload_n 2 dX2_mean_14 rfl rfl ?_
      refine zi_aload_n 0 dX2_mean_15 rfl rfl ?_
      refine ti_getA 57 40 t_o57 q2227 dX2_mean_16 ?_
      refine zi_iload 4 dX2_mean_19 rfl ?_
      obtain ⟨j9, hj9, h⟩ := x_gaE h
      refine ti_iald 57 j9 64 39 ⟨rfl, rfl⟩ hj9 dX2_mean_21 ?_
      refine zi_iconst (v := 1) dX2_mean_22 (by decide) ?_
      refine x_jI (fun (J : Int32 → Int32 → Option Int32) => ∀ (s10 : Int32) (s11 : Int32), J s10 s11 = some rz → z_V g (d + 1) YX2_mean 45 [(0, .ref b), (1, .int f1_1), (3, .int v3_3), (4, .int v4_4)] [.int s11, .int s10] (t_m b σ μ) Q) h (fun s10 s11 h => ?_) (fun J45 hJ45 h => ?_)
      · refine zi_iadd dX2_mean_45 ?_
        refine zi_istore_n (lc1 := [(2, _), (0, _), (1, _), (3, _), (4, _)]) dX2_mean_46 rfl (Nat.le_of_ble_eq_true rfl) rfl ?_
        refine x_lI (fun v12 => z_V g (d + 1) YX2_mean 47 [(2, .int v12), (0, .ref b), (1, .int f1_1), (3, .int v3_3), (4, .int v4_4)] [] (t_m b σ μ) Q) h (fun v12 h => ?_)
        refine zi_iload_n 3 dX2_mean_47 rfl rfl ?_
        refine zi_aload_n 1 dX2_mean_48 rfl rfl ?_
        refine ti_getA 57 40 t_o57 q2227 dX2_mean_49 ?_
        refine zi_iload 4 dX2_mean_52 rfl ?_
        obtain ⟨j13, hj13, h⟩ := x_gaE h
        refine ti_iald 57 j13 64 39 ⟨rfl, rfl⟩ hj13 dX2_mean_54 ?_
        refine zi_iconst (v := 1) dX2_mean_55 (by decide) ?_
        refine zi_icmp_ne 63 dX2_mean_56 (by decide) (fun c14 => ?_) (fun c14 => ?_)
        · replace h := x_iF h c14
          refine zi_iconst (v := 0) dX2_mean_63 (by decide) ?_
          refine zi_iadd dX2_mean_64 ?_
          refine zi_istore_n (lc1 := [(3, _), (2, _), (0, _), (1, _), (4, _)]) dX2_mean_65 rfl (Nat.le_of_ble_eq_true rfl) rfl ?_
          refine x_lI (fun v15 => z_V g (d + 1) YX2_mean 66 [(3, .int v15), (2, .int v12), (0, .ref b), (1, .int f1_1), (4, .int v4_4)] [] (t_m b σ μ) Q) h (fun v15 h => ?_)
          refine zi_iinc (v := (v4_4 + (1 : Int32))) (lc1 := [(4, _), (3, _), (2, _), (0, _), (1, _)]) 4 dX2_mean_66 rfl rfl (Nat.le_of_ble_eq_true rfl) rfl ?_
          refine x_lI (fun v16 => z_V g (d + 1) YX2_mean 69 [(4, .int v16), (3, .int v15), (2, .int v12), (0, .ref b), (1, .int f1_1)] [] (t_m b σ μ) Q) h (fun v16 h => ?_)
          refine zi_goto 7 dX2_mean_69 (by decide) ?_
          refine zi_sub [3, 4, 2, 1, 0] rfl ?_
          exact ih _ _ _ h
        · replace h := x_iT h c14
          refine zi_iconst (v := 1) dX2_mean_59 (by decide) ?_
          refine zi_goto 64 dX2_mean_60 (by decide) ?_
          refine zi_iadd dX2_mean_64 ?_
          refine zi_istore_n (lc1 := [(3, _), (2, _), (0, _), (1, _), (4, _)]) dX2_mean_65 rfl (Nat.le_of_ble_eq_true rfl) rfl ?_
          refine x_lI (fun v17 => z_V g (d + 1) YX2_mean 66 [(3, .int v17), (2, .int v12), (0, .ref b), (1, .int f1_1), (4, .int v4_4)] [] (t_m b σ μ) Q) h (fun v17 h => ?_)
          refine zi_iinc (v := (v4_4 + (1 : Int32))) (lc1 := [(4, _), (3, _), (2, _), (0, _), (1, _)]) 4 dX2_mean_66 rfl rfl (Nat.le_of_ble_eq_true rfl) rfl ?_
          refine x_lI (fun v18 => z_V g (d + 1) YX2_mean 69 [(4, .int v18), (3, .int v17), (2, .int v12), (0, .ref b), (1, .int f1_1)] [] (t_m b σ μ) Q) h (fun v18 h => ?_)
          refine zi_goto 7 dX2_mean_69 (by decide) ?_
          refine zi_sub [3, 4, 2, 1, 0] rfl ?_
          exact ih _ _ _ h
      refine zi_icmp_ne 44 dX2_mean_23 (by decide) (fun c19 => ?_) (fun c19 => ?_)
      · replace h := x_iF h c19
        refine zi_iconst (v := 0) dX2_mean_44 (by decide) ?_
        refine zi_sub [0, 1, 3, 4] rfl ?_
        exact hJ45 _ _ h
      · replace h := x_iT h c19
        refine zi_aload_n 0 dX2_mean_26 rfl rfl ?_
        refine ti_getA 58 41 t_o58 q2228 dX2_mean_27 ?_
        refine zi_iload 4 dX2_mean_30 rfl ?_
        obtain ⟨j20, hj20, h⟩ := x_gaE h
        refine ti_iald 58 j20 64 40 ⟨rfl, rfl⟩ hj20 dX2_mean_32 ?_
        refine zi_aload_n 0 dX2_mean_33 rfl rfl ?_
        refine ti_getA 59 42 t_o59 q2229 dX2_mean_34 ?_
        refine zi_iload 4 dX2_mean_37 rfl ?_
        obtain ⟨j21, hj21, h⟩ := x_gaE h
        refine ti_iald 59 j21 64 41 ⟨rfl, rfl⟩ hj21 dX2_mean_39 ?_
        refine zi_isub dX2_mean_40 ?_
        refine zi_goto 45 dX2_mean_41 (by decide) ?_
        refine zi_sub [0, 1, 3, 4] rfl ?_
        exact hJ45 _ _ h
noncomputable def D_mean (a1 : Int32) (σ : t_S) : Option Int32 :=
  D_mean_7 a1 σ
    (fun (v2_22 : Int32) (v3_23 : Int32) => if v3_23 = 0 then (some (-1 : Int32)) else
  x_l (fun (s25 : Int32) => x_b (D_common v3_23 v2_22) fun r27 =>
  x_g (¬ r27 = 0) <|
  some (s25 / r27)) fun J89 =>
  if a1 = 0 then (J89 v2_22) else
  J89 v3_23)
    x_F (0 : Int32) (0 : Int32) (0 : Int32)
theorem w_mean {a1 : Int32} {rz : Int32} (h : D_mean a1 σ = some rz) (hQ : Q (.inl (some (.int rz))) (t_m b σ μ)) : z_K g (d + 1) YX2_mean [.ref b, .int a1] (t_m b σ μ) Q := by
  unfold D_mean at h
  refine z_K.of (by decide) rfl (Nat.le_of_ble_eq_true rfl) ?_
  refine zi_iconst (v := 0) dX2_mean_0 (by decide) ?_
  refine zi_istore_n (lc1 := [(2, _), (0, _), (1, _)]) dX2_mean_1 rfl (Nat.le_of_ble_eq_true rfl) rfl ?_
  refine zi_iconst (v := 0) dX2_mean_2 (by decide) ?_
  refine zi_istore_n (lc1 := [(3, _), (2, _), (0, _), (1, _)]) dX2_mean_3 rfl (Nat.le_of_ble_eq_true rfl) rfl ?_
  refine zi_iconst (v := 0) dX2_mean_4 (by decide) ?_
  refine zi_istore (lc1 := [(4, _), (3, _), (2, _), (0, _), (1, _)]) dX2_mean_5 (Nat.le_of_ble_eq_true rfl) rfl ?_
  refine zi_sub [3, 4, 2, 1, 0] rfl ?_
  refine w_mean_7 (fun v2_22 v3_23 h => ?_) hQ _ _ _ _ h
  · refine zi_iload_n 2 dX2_mean_72 rfl rfl ?_
    refine zi_if_ne 80 dX2_mean_73 (by decide) (fun c24 => ?_) (fun c24 => ?_)
    · replace h := x_iF h c24
      refine zi_iload_n 0 dX2_mean_80 rfl rfl ?_
      refine x_jI (fun (J : Int32 → Option Int32) => ∀ (s25 : Int32), J s25 = some rz → z_V g (d + 1) YX2_mean 89 [(2, .int v2_22), (3, .int v3_23)] [.int s25] (t_m b σ μ) Q) h (fun s25 h => ?_) (fun J89 hJ89 h => ?_)
      · refine zi_iload_n 1 dX2_mean_89 rfl rfl ?_
        refine zi_iload_n 0 dX2_mean_90 rfl rfl ?_
        obtain ⟨r27, h26, h⟩ := x_bE h
        refine zi_callS [.int v3_23, .int v2_22] mX2_common rfl q2910 rfl rfl (Nat.le_of_ble_eq_true rfl) dX2_mean_91 ?_
        refine w_common h26 ?_
        obtain ⟨hy28, h⟩ := x_gE h
        refine zi_idiv dX2_mean_94 hy28 ?_
        refine zi_ireturn rfl rfl dX2_mean_95 ?_
        exact x_r1i h hQ
      refine zi_if_eq 88 dX2_mean_81 (by decide) (fun c29 => ?_) (fun c29 => ?_)
      · replace h := x_iT h c29
        refine zi_iload_n 1 dX2_mean_88 rfl rfl ?_
        refine zi_sub [1, 2] rfl ?_
        exact hJ89 _ h
      · replace h := x_iF h c29
        refine zi_iload_n 2 dX2_mean_84 rfl rfl ?_
        refine zi_goto 89 dX2_mean_85 (by decide) ?_
        refine zi_sub [1, 2] rfl ?_
        exact hJ89 _ h
    · replace h := x_iT h c24
      refine zi_iconst (v := -1) dX2_mean_76 (by decide) ?_
      refine zi_goto 95 dX2_mean_77 (by decide) ?_
      refine zi_ireturn rfl rfl dX2_mean_95 ?_
      exact x_r1i h hQ
noncomputable def D_count (a1 : Int32) (σ : t_S) : Option (Int32 × t_S) :=
  x_l (t_si σ 0 (0 : Int32)) fun σ1 =>
  x_b (D_in a1 (0 : Int32) (2 : Int32)) fun r3 =>
  if r3 = 0 then (some ((-2 : Int32), σ1)) else
  x_ga a1 12 fun j5 =>
  some ((t_a σ1 5 j5), σ1)
theorem w_count {a1 : Int32} {rz : Int32} (h : D_count a1 σ = some (rz, σz)) (hQ : Q (.inl (some (.int rz))) (t_m b σz μ)) : z_K g (d + 1) YX2_count [.ref b, .int a1] (t_m b σ μ) Q := by
  unfold D_count at h
  refine z_K.of (by decide) rfl (Nat.le_of_ble_eq_true rfl) ?_
  refine zi_aload_n 0 dX2_count_0 rfl rfl ?_
  refine zi_iconst (v := 0) dX2_count_1 (by decide) ?_
  refine ti_putI 0 ⟨Nat.le_of_ble_eq_true rfl, rfl, rfl⟩ (tyX2_ok 0 (Nat.le_of_ble_eq_true rfl)) q2170 dX2_count_2 ?_
  refine x_lI (fun σ1 => z_V g (d + 1) YX2_count 5 [(0, .ref b), (1, .int a1)] [] (t_m b σ1 μ) Q) h (fun σ1 h => ?_)
  refine zi_iload_n 1 dX2_count_5 rfl rfl ?_
  refine zi_iconst (v := 0) dX2_count_6 (by decide) ?_
  refine zi_iconst (v := 2) dX2_count_7 (by decide) ?_
  obtain ⟨r3, h2, h⟩ := x_bE h
  refine zi_callS [.int a1, .int (0 : Int32), .int (2 : Int32)] mX2_in rfl q2445 rfl rfl (Nat.le_of_ble_eq_true rfl) dX2_count_8 ?_
  refine w_in h2 ?_
  refine zi_if_eq 23 dX2_count_11 (by decide) (fun c4 => ?_) (fun c4 => ?_)
  · replace h := x_iT h c4
    refine zi_bipush (v := -2) dX2_count_23 (by decide) ?_
    refine zi_ireturn rfl rfl dX2_count_25 ?_
    exact x_r2i h hQ
  · replace h := x_iF h c4
    refine zi_aload_n 0 dX2_count_14 rfl rfl ?_
    refine ti_getA 5 5 t_o5 q2175 dX2_count_15 ?_
    refine zi_iload_n 1 dX2_count_18 rfl rfl ?_
    obtain ⟨j5, hj5, h⟩ := x_gaE h
    refine ti_iald 5 j5 12 4 ⟨rfl, rfl⟩ hj5 dX2_count_19 ?_
    refine zi_goto 25 dX2_count_20 (by decide) ?_
    refine zi_ireturn rfl rfl dX2_count_25 ?_
    exact x_r2i h hQ
noncomputable def D_copyAll_2 (f1_1 : Int32) (f2_2 : Int32) (k39 : t_S → Option t_S) : Nat → Int32 → t_S → Option t_S
  | 0, _, _ => none
  | f + 1, v3_3, σ4 =>
    if (600 : Int32) ≤ v3_3 then (k39 σ4) else
    x_ga (((600 : Int32) * f1_1) + v3_3) 2400 fun j7 =>
    x_ga (((600 : Int32) * f2_2) + v3_3) 2400 fun j8 =>
    x_l (t_sa σ4 1 j8 (((t_a σ4 1 j7)).toInt8.toInt32)) fun σ9 =>
    x_l (v3_3 + (1 : Int32)) fun v10 =>
    D_copyAll_2 f1_1 f2_2 k39 f v10 σ9
theorem w_copyAll_2 {f1_1 : Int32} {f2_2 : Int32}  {k39 : t_S → Option t_S} (hk39 : ∀ (σ5 : t_S), k39 σ5 = some σz → z_V g (d + 1) YX2_copyAll 39 [(0, .ref b), (1, .int f1_1), (2, .int f2_2)] [] (t_m b σ5 μ) Q) (hQ : Q (.inl none) (t_m b σz μ)) : ∀ (f : Nat) (v3_3 : Int32) (σ4 : t_S), D_copyAll_2 f1_1 f2_2 k39 f v3_3 σ4 = some σz → z_V g (d + 1) YX2_copyAll 2 [(0, .ref b), (1, .int f1_1), (2, .int f2_2), (3, .int v3_3)] [] (t_m b σ4 μ) Q := by
  intro f
  induction f with
  | zero =>
    intro v3_3 σ4 h
    exact absurd h (x_n _)
  | succ f ih =>
    intro v3_3 σ4 h
    refine zi_iload_n 3 dX2_copyAll_2 rfl rfl ?_
    refine zi_sipush (v := 600) dX2_copyAll_3 (by decide) ?_
    refine zi_icmp_ge 39 dX2_copyAll_6 (by decide) (fun c6 => ?_) (fun c6 => ?_)
    · replace h := x_iT h c6
      refine zi_sub [0, 1, 2] rfl ?_
      exact hk39 _ h
    · replace h := x_iF h c6
      refine zi_aload_n 0 dX2_copyAll_9 rfl rfl ?_
      refine ti_getA 1 1 t_o1 q2171 dX2_copyAll_10 ?_
      refine zi_sipush (v := 600) dX2_copyAll_13 (by decide) ?_
      refine zi_iload_n 2 dX2_copyAll_16 rfl rfl ?_
      refine zi_imul dX2_copyAll_17 ?_
      refine zi_iload_n 3 dX2_copyAll_18 rfl rfl ?_
      refine zi_iadd dX2_copyAll_19 ?_
      refine zi_aload_n 0 dX2_copyAll_20 rfl rfl ?_
      refine ti_getA 1 1 t_o1 q2171 dX2_copyAll_21 ?_
      refine zi_sipush (v := 600) dX2_copyAll_24 (by decide) ?_
      refine zi_iload_n 1 dX2_copyAll_27 rfl rfl ?_
      refine zi_imul dX2_copyAll_28 ?_
      refine zi_iload_n 3 dX2_copyAll_29 rfl rfl ?_
      refine zi_iadd dX2_copyAll_30 ?_
      obtain ⟨j7, hj7, h⟩ := x_gaE h
      refine ti_bald 1 j7 2400 0 ⟨rfl, rfl⟩ hj7 dX2_copyAll_31 ?_
      obtain ⟨j8, hj8, h⟩ := x_gaE h
      refine ti_bast (y := (((t_a σ4 1 j7)).toInt8.toInt32)) 1 j8 2400 0 ⟨rfl, rfl⟩ hj8 rfl dX2_copyAll_32 ?_
      refine x_lI (fun σ9 => z_V g (d + 1) YX2_copyAll 33 [(0, .ref b), (1, .int f1_1), (2, .int f2_2), (3, .int v3_3)] [] (t_m b σ9 μ) Q) h (fun σ9 h => ?_)
      refine zi_iinc (v := (v3_3 + (1 : Int32))) (lc1 := [(3, _), (0, _), (1, _), (2, _)]) 3 dX2_copyAll_33 rfl rfl (Nat.le_of_ble_eq_true rfl) rfl ?_
      refine x_lI (fun v10 => z_V g (d + 1) YX2_copyAll 36 [(3, .int v10), (0, .ref b), (1, .int f1_1), (2, .int f2_2)] [] (t_m b σ9 μ) Q) h (fun v10 h => ?_)
      refine zi_goto 2 dX2_copyAll_36 (by decide) ?_
      refine zi_sub [1, 2, 3, 0] rfl ?_
      exact ih _ _ h
noncomputable def D_copyAll (a1 : Int32) (a2 : Int32) (σ : t_S) : Option t_S :=
  D_copyAll_2 a1 a2
    (fun (σ11 : t_S) => x_b (D_copyRow 2 4 (1 : Int32) a1 a2 σ11) fun σ13 =>
  x_b (D_copyRow 3 4 (1 : Int32) a1 a2 σ13) fun σ15 =>
  x_b (D_copyRow 4 4 (1 : Int32) a1 a2 σ15) fun σ17 =>
  x_b (D_copyRow 5 12 (3 : Int32) a1 a2 σ17) fun σ19 =>
  x_b (D_copyRow 6 976 (244 : Int32) a1 a2 σ19) fun σ21 =>
  x_b (D_copyRow 7 968 (242 : Int32) a1 a2 σ21) fun σ23 =>
  x_b (D_copyRow 8 136 (34 : Int32) a1 a2 σ23) fun σ25 =>
  some σ25)
    x_F (0 : Int32) σ
theorem w_copyAll {a1 : Int32} {a2 : Int32}  (h : D_copyAll a1 a2 σ = some σz) (hQ : Q (.inl none) (t_m b σz μ)) : z_K g (d + 1) YX2_copyAll [.ref b, .int a1, .int a2] (t_m b σ μ) Q := by
  unfold D_copyAll at h
  refine z_K.of (by decide) rfl (Nat.le_of_ble_eq_true rfl) ?_
  refine zi_iconst (v := 0) dX2_copyAll_0 (by decide) ?_
  refine zi_istore_n (lc1 := [(3, _), (0, _), (1, _), (2, _)]) dX2_copyAll_1 rfl (Nat.le_of_ble_eq_true rfl) rfl ?_
  refine zi_sub [1, 2, 3, 0] rfl ?_
  refine w_copyAll_2 (fun σ11 h => ?_) hQ _ _ _ h
  · refine zi_aload_n 0 dX2_copyAll_39 rfl rfl ?_
    refine ti_getA 2 2 t_o2 q2172 dX2_copyAll_40 ?_
    refine zi_iconst (v := 1) dX2_copyAll_43 (by decide) ?_
    refine zi_iload_n 1 dX2_copyAll_44 rfl rfl ?_
    refine zi_iload_n 2 dX2_copyAll_45 rfl rfl ?_
    obtain ⟨σ13, h12, h⟩ := x_bE h
    refine zi_callS [.ref (b + 2), .int (1 : Int32), .int a1, .int a2] mX2_copyRow rfl q2941 rfl rfl (Nat.le_of_ble_eq_true rfl) dX2_copyAll_46 ?_
    refine w_copyRow (1) ⟨rfl, rfl⟩ h12 ?_
    refine zi_aload_n 0 dX2_copyAll_49 rfl rfl ?_
    refine ti_getA 3 3 t_o3 q2173 dX2_copyAll_50 ?_
    refine zi_iconst (v := 1) dX2_copyAll_53 (by decide) ?_
    refine zi_iload_n 1 dX2_copyAll_54 rfl rfl ?_
    refine zi_iload_n 2 dX2_copyAll_55 rfl rfl ?_
    obtain ⟨σ15, h14, h⟩ := x_bE h
    refine zi_callS [.ref (b + 3), .int (1 : Int32), .int a1, .int a2] mX2_copyRow rfl q2941 rfl rfl (Nat.le_of_ble_eq_true rfl) dX2_copyAll_56 ?_
    refine w_copyRow (2) ⟨rfl, rfl⟩ h14 ?_
    refine zi_aload_n 0 dX2_copyAll_59 rfl rfl ?_
    refine ti_getA 4 4 t_o4 q2174 dX2_copyAll_60 ?_
    refine zi_iconst (v := 1) dX2_copyAll_63 (by decide) ?_
    refine zi_iload_n 1 dX2_copyAll_64 rfl rfl ?_
    refine zi_iload_n 2 dX2_copyAll_65 rfl rfl ?_
    obtain ⟨σ17, h16, h⟩ := x_bE h
    refine zi_callS [.ref (b + 4), .int (1 : Int32), .int a1, .int a2] mX2_copyRow rfl q2941 rfl rfl (Nat.le_of_ble_eq_true rfl) dX2_copyAll_66 ?_
    refine w_copyRow (3) ⟨rfl, rfl⟩ h16 ?_
    refine zi_aload_n 0 dX2_copyAll_69 rfl rfl ?_
    refine ti_getA 5 5 t_o5 q2175 dX2_copyAll_70 ?_
    refine zi_iconst (v := 3) dX2_copyAll_73 (by decide) ?_
    refine zi_iload_n 1 dX2_copyAll_74 rfl rfl ?_
    refine zi_iload_n 2 dX2_copyAll_75 rfl rfl ?_
    obtain ⟨σ19, h18, h⟩ := x_bE h
    refine zi_callS [.ref (b + 5), .int (3 : Int32), .int a1, .int a2] mX2_copyRow rfl q2941 rfl rfl (Nat.le_of_ble_eq_true rfl) dX2_copyAll_76 ?_
    refine w_copyRow (4) ⟨rfl, rfl⟩ h18 ?_
    refine zi_aload_n 0 dX2_copyAll_79 rfl rfl ?_
    refine ti_getA 6 6 t_o6 q2176 dX2_copyAll_80 ?_
    refine zi_sipush (v := 244) dX2_copyAll_83 (by decide) ?_
    refine zi_iload_n 1 dX2_copyAll_86 rfl rfl ?_
    refine zi_iload_n 2 dX2_copyAll_87 rfl rfl ?_
    obtain ⟨σ21, h20, h⟩ := x_bE h
    refine zi_callS [.ref (b + 6), .int (244 : Int32), .int a1, .int a2] mX2_copyRow rfl q2941 rfl rfl (Nat.le_of_ble_eq_true rfl) dX2_copyAll_88 ?_
    refine w_copyRow (5) ⟨rfl, rfl⟩ h20 ?_
    refine zi_aload_n 0 dX2_copyAll_91 rfl rfl ?_
    refine ti_getA 7 7 t_o7 q2177 dX2_copyAll_92 ?_
    refine zi_sipush (v := 242) dX2_copyAll_95 (by decide) ?_
    refine zi_iload_n 1 dX2_copyAll_98 rfl rfl ?_
    refine zi_iload_n 2 dX2_copyAll_99 rfl rfl ?_
    obtain ⟨σ23, h22, h⟩ := x_bE h
    refine zi_callS [.ref (b + 7), .int (242 : Int32), .int a1, .int a2] mX2_copyRow rfl q2941 rfl rfl (Nat.le_of_ble_eq_true rfl) dX2_copyAll_100 ?_
    refine w_copyRow (6) ⟨rfl, rfl⟩ h22 ?_
    refine zi_aload_n 0 dX2_copyAll_103 rfl rfl ?_
    refine ti_getA 8 8 t_o8 q2178 dX2_copyAll_104 ?_
    refine zi_bipush (v := 34) dX2_copyAll_107 (by decide) ?_
    refine zi_iload_n 1 dX2_copyAll_109 rfl rfl ?_
    refine zi_iload_n 2 dX2_copyAll_110 rfl rfl ?_
    obtain ⟨σ25, h24, h⟩ := x_bE h
    refine zi_callS [.ref (b + 8), .int (34 : Int32), .int a1, .int a2] mX2_copyRow rfl q2941 rfl rfl (Nat.le_of_ble_eq_true rfl) dX2_copyAll_111 ?_
    refine w_copyRow (7) ⟨rfl, rfl⟩ h24 ?_
    refine zi_return rfl dX2_copyAll_114 ?_
    exact x_r0 h hQ
noncomputable def D_takeBut (a1 : Int32) (a2 : Int32) (a3 : Int32) (a4 : Int32) (σ : t_S) : Option (Int32 × t_S) :=
  if (t_i σ 12) = (3 : Int32) then (x_ga a1 4 fun j2 =>
  x_l (t_sa σ 19 j2 (t_i σ 13)) fun σ3 =>
  x_b (D_in (t_i σ3 13) a2 a3) fun r5 =>
  x_l (x_b (D_addsFault (2 : Int32) (t_i σ3 11) σ3) fun σ7 =>
  x_l (t_si σ7 21 (0 : Int32)) fun σ8 =>
  x_b (D_token σ8) fun σ10 =>
  some ((1 : Int32), σ10)) fun J44 =>
  if r5 = 0 then (J44) else
  if (t_i σ3 13) = a4 then (J44) else
  x_b (D_token σ3) fun σ14 =>
  some ((1 : Int32), σ14)) else
  x_b2 (D_fails σ) fun r16 σ17 =>
  x_g (r16 = 0 ∨ r16 = 1) <|
  some (r16, σ17)
theorem w_takeBut {a1 : Int32} {a2 : Int32} {a3 : Int32} {a4 : Int32} {rz : Int32} (h : D_takeBut a1 a2 a3 a4 σ = some (rz, σz)) (hQ : Q (.inl (some (.int rz))) (t_m b σz μ)) : z_K g (d + 2) YX2_takeBut [.ref b, .int a1, .int a2, .int a3, .int a4] (t_m b σ μ) Q := by
  unfold D_takeBut at h
  refine z_K.of (by decide) rfl (Nat.le_of_ble_eq_true rfl) ?_
  refine zi_aload_n 0 dX2_takeBut_0 rfl rfl ?_
  refine ti_getI 12 ⟨Nat.le_of_ble_eq_true rfl, rfl⟩ q2182 dX2_takeBut_1 ?_
  refine zi_iconst (v := 3) dX2_takeBut_4 (by decide) ?_
  refine zi_icmp_eq 13 dX2_takeBut_5 (by decide) (fun c1 => ?_) (fun c1 => ?_)
  · replace h := x_iT h c1
    refine zi_aload_n 0 dX2_takeBut_13 rfl rfl ?_
    refine ti_getA 19 10 t_o19 q2189 dX2_takeBut_14 ?_
    refine zi_iload_n 1 dX2_takeBut_17 rfl rfl ?_
    refine zi_aload_n 0 dX2_takeBut_18 rfl rfl ?_
    refine ti_getI 13 ⟨Nat.le_of_ble_eq_true rfl, rfl⟩ q2183 dX2_takeBut_19 ?_
    obtain ⟨j2, hj2, h⟩ := x_gaE h
    refine ti_iast 19 j2 4 9 ⟨rfl, rfl⟩ hj2 dX2_takeBut_22 ?_
    refine x_lI (fun σ3 => z_V g (d + 2) YX2_takeBut 23 [(0, .ref b), (1, .int a1), (2, .int a2), (3, .int a3), (4, .int a4)] [] (t_m b σ3 μ) Q) h (fun σ3 h => ?_)
    refine zi_aload_n 0 dX2_takeBut_23 rfl rfl ?_
    refine ti_getI 13 ⟨Nat.le_of_ble_eq_true rfl, rfl⟩ q2183 dX2_takeBut_24 ?_
    refine zi_iload_n 2 dX2_takeBut_27 rfl rfl ?_
    refine zi_iload_n 3 dX2_takeBut_28 rfl rfl ?_
    obtain ⟨r5, h4, h⟩ := x_bE h
    refine zi_callS [.int (t_i σ3 13), .int a2, .int a3] mX2_in rfl q2445 rfl rfl (Nat.le_of_ble_eq_true rfl) dX2_takeBut_29 ?_
    refine w_in h4 ?_
    refine x_jI (fun (J : Option (Int32 × t_S)) => J = some (rz, σz) → z_V g (d + 2) YX2_takeBut 44 [(0, .ref b)] [] (t_m b σ3 μ) Q) h (fun  h => ?_) (fun J44 hJ44 h => ?_)
    · refine zi_aload_n 0 dX2_takeBut_44 rfl rfl ?_
      refine zi_iconst (v := 2) dX2_takeBut_45 (by decide) ?_
      refine zi_aload_n 0 dX2_takeBut_46 rfl rfl ?_
      refine ti_getI 11 ⟨Nat.le_of_ble_eq_true rfl, rfl⟩ q2181 dX2_takeBut_47 ?_
      obtain ⟨σ7, h6, h⟩ := x_bE h
      refine zi_callV [.int (2 : Int32), .int (t_i σ3 11)] mX2_addsFault rfl q2490 t_rec rfl rfl (Nat.le_of_ble_eq_true rfl) dX2_takeBut_50 ?_
      refine w_addsFault h6 ?_
      refine zi_aload_n 0 dX2_takeBut_53 rfl rfl ?_
      refine zi_iconst (v := 0) dX2_takeBut_54 (by decide) ?_
      refine ti_putZ 21 ⟨Nat.le_of_ble_eq_true rfl, rfl, rfl⟩ (tyX2_ok 21 (Nat.le_of_ble_eq_true rfl)) ⟨rfl, rfl⟩ q2191 dX2_takeBut_55 ?_
      refine x_lI (fun σ8 => z_V g (d + 2) YX2_takeBut 58 [(0, .ref b)] [] (t_m b σ8 μ) Q) h (fun σ8 h => ?_)
      refine zi_aload_n 0 dX2_takeBut_58 rfl rfl ?_
      obtain ⟨σ10, h9, h⟩ := x_bE h
      refine zi_callV [] mX2_token rfl q2460 t_rec rfl rfl (Nat.le_of_ble_eq_true rfl) dX2_takeBut_59 ?_
      refine w_token h9 ?_
      refine zi_iconst (v := 1) dX2_takeBut_62 (by decide) ?_
      refine zi_ireturn rfl rfl dX2_takeBut_63 ?_
      exact x_r2i h hQ
    refine zi_if_eq 44 dX2_takeBut_32 (by decide) (fun c11 => ?_) (fun c11 => ?_)
    · replace h := x_iT h c11
      refine zi_sub [0] rfl ?_
      exact hJ44  h
    · replace h := x_iF h c11
      refine zi_aload_n 0 dX2_takeBut_35 rfl rfl ?_
      refine ti_getI 13 ⟨Nat.le_of_ble_eq_true rfl, rfl⟩ q2183 dX2_takeBut_36 ?_
      refine zi_iload 4 dX2_takeBut_39 rfl ?_
      refine zi_icmp_ne 58 dX2_takeBut_41 (by decide) (fun c12 => ?_) (fun c12 => ?_)
      · replace h := x_iF h c12
        refine zi_aload_n 0 dX2_takeBut_58 rfl rfl ?_
        obtain ⟨σ14, h13, h⟩ := x_bE h
        refine zi_callV [] mX2_token rfl q2460 t_rec rfl rfl (Nat.le_of_ble_eq_true rfl) dX2_takeBut_59 ?_
        refine w_token h13 ?_
        refine zi_iconst (v := 1) dX2_takeBut_62 (by decide) ?_
        refine zi_ireturn rfl rfl dX2_takeBut_63 ?_
        exact x_r2i h hQ
      · replace h := x_iT h c12
        refine zi_sub [0] rfl ?_
        exact hJ44  h
  · replace h := x_iF h c1
    refine zi_aload_n 0 dX2_takeBut_8 rfl rfl ?_
    obtain ⟨r16, σ17, h15, h⟩ := x_b2E h
    refine zi_callV [] mX2_fails rfl q2486 t_rec rfl rfl (Nat.le_of_ble_eq_true rfl) dX2_takeBut_9 ?_
    refine w_fails h15 ?_
    obtain ⟨hz18, h⟩ := x_gE h
    refine zi_ireturn rfl (x_nz hz18) dX2_takeBut_12 ?_
    exact x_r2i h hQ
noncomputable def D_keepLink_2  (σ : t_S) (k49 : Int32 → Option t_S) : Nat → Int32 → Option t_S
  | 0, _ => none
  | f + 1, v1_1 =>
    x_ga (2 : Int32) 122 fun j4 =>
    if (t_a σ 18 j4) ≤ v1_1 then (k49 v1_1) else
    x_ga ((11 : Int32) + ((3 : Int32) * v1_1)) 122 fun j6 =>
    x_ga (((11 : Int32) + ((3 : Int32) * v1_1)) + (1 : Int32)) 122 fun j7 =>
    x_b (D_isOf (t_a σ 18 j6) (t_a σ 18 j7) σ) fun r9 =>
    if r9 = 0 then (x_l (v1_1 + (1 : Int32)) fun v11 =>
    D_keepLink_2 σ k49 f v11) else
    k49 v1_1
theorem w_keepLink_2  {σ : t_S}  {k49 : Int32 → Option t_S} (hk49 : ∀ (v1_2 : Int32), k49 v1_2 = some σz → z_V g (d + 2) YX2_keepLink 49 [(0, .ref b), (1, .int v1_2)] [] (t_m b σ μ) Q) (hQ : Q (.inl none) (t_m b σz μ)) : ∀ (f : Nat) (v1_1 : Int32), D_keepLink_2 σ k49 f v1_1 = some σz → z_V g (d + 2) YX2_keepLink 2 [(0, .ref b), (1, .int v1_1)] [] (t_m b σ μ) Q := by
  intro f
  induction f with
  | zero =>
    intro v1_1 h
    exact absurd h (x_n _)
  | succ f ih =>
    intro v1_1 h
    refine zi_iload_n 1 dX2_keepLink_2 rfl rfl ?_
    refine zi_aload_n 0 dX2_keepLink_3 rfl rfl ?_
    refine ti_getA 18 9 t_o18 q2188 dX2_keepLink_4 ?_
    refine zi_iconst (v := 2) dX2_keepLink_7 (by decide) ?_
    obtain ⟨j4, hj4, h⟩ := x_gaE h
    refine ti_iald 18 j4 122 8 ⟨rfl, rfl⟩ hj4 dX2_keepLink_8 ?_
    refine zi_icmp_ge 49 dX2_keepLink_9 (by decide) (fun c5 => ?_) (fun c5 => ?_)
    · replace h := x_iT h c5
      exact hk49 _ h
    · replace h := x_iF h c5
      refine zi_aload_n 0 dX2_keepLink_12 rfl rfl ?_
      refine zi_aload_n 0 dX2_keepLink_13 rfl rfl ?_
      refine ti_getA 18 9 t_o18 q2188 dX2_keepLink_14 ?_
      refine zi_bipush (v := 11) dX2_keepLink_17 (by decide) ?_
      refine zi_iconst (v := 3) dX2_keepLink_19 (by decide) ?_
      refine zi_iload_n 1 dX2_keepLink_20 rfl rfl ?_
      refine zi_imul dX2_keepLink_21 ?_
      refine zi_iadd dX2_keepLink_22 ?_
      obtain ⟨j6, hj6, h⟩ := x_gaE h
      refine ti_iald 18 j6 122 8 ⟨rfl, rfl⟩ hj6 dX2_keepLink_23 ?_
      refine zi_aload_n 0 dX2_keepLink_24 rfl rfl ?_
      refine ti_getA 18 9 t_o18 q2188 dX2_keepLink_25 ?_
      refine zi_bipush (v := 11) dX2_keepLink_28 (by decide) ?_
      refine zi_iconst (v := 3) dX2_keepLink_30 (by decide) ?_
      refine zi_iload_n 1 dX2_keepLink_31 rfl rfl ?_
      refine zi_imul dX2_keepLink_32 ?_
      refine zi_iadd dX2_keepLink_33 ?_
      refine zi_iconst (v := 1) dX2_keepLink_34 (by decide) ?_
      refine zi_iadd dX2_keepLink_35 ?_
      obtain ⟨j7, hj7, h⟩ := x_gaE h
      refine ti_iald 18 j7 122 8 ⟨rfl, rfl⟩ hj7 dX2_keepLink_36 ?_
      obtain ⟨r9, h8, h⟩ := x_bE h
      refine zi_callV [.int (t_a σ 18 j6), .int (t_a σ 18 j7)] mX2_isOf rfl q2507 t_rec rfl rfl (Nat.le_of_ble_eq_true rfl) dX2_keepLink_37 ?_
      refine w_isOf h8 ?_
      refine zi_if_ne 49 dX2_keepLink_40 (by decide) (fun c10 => ?_) (fun c10 => ?_)
      · replace h := x_iF h c10
        exact hk49 _ h
      · replace h := x_iT h c10
        refine zi_iinc (v := (v1_1 + (1 : Int32))) (lc1 := [(1, _), (0, _)]) 1 dX2_keepLink_43 rfl rfl (Nat.le_of_ble_eq_true rfl) rfl ?_
        refine x_lI (fun v11 => z_V g (d + 2) YX2_keepLink 46 [(1, .int v11), (0, .ref b)] [] (t_m b σ μ) Q) h (fun v11 h => ?_)
        refine zi_goto 2 dX2_keepLink_46 (by decide) ?_
        refine zi_sub [1, 0] rfl ?_
        exact ih _ h
noncomputable def D_keepLink  (σ : t_S) : Option t_S :=
  D_keepLink_2 σ
    (fun (v1_12 : Int32) => x_ga (2 : Int32) 122 fun j13 =>
  if (t_a σ 18 j13) ≤ v1_12 then (x_b (D_keepRow (2 : Int32) (11 : Int32) (3 : Int32) (15 : Int32) σ) fun σ16 =>
  some σ16) else
  x_ga (2 : Int32) 4 fun j17 =>
  x_ga (((11 : Int32) + ((3 : Int32) * v1_12)) + (2 : Int32)) 122 fun j18 =>
  x_l (t_sa σ 18 j18 (t_a σ 19 j17)) fun σ19 =>
  some σ19)
    x_F (0 : Int32)
theorem w_keepLink   (h : D_keepLink σ = some σz) (hQ : Q (.inl none) (t_m b σz μ)) : z_K g (d + 2) YX2_keepLink [.ref b] (t_m b σ μ) Q := by
  unfold D_keepLink at h
  refine z_K.of (by decide) rfl (Nat.le_of_ble_eq_true rfl) ?_
  refine zi_iconst (v := 0) dX2_keepLink_0 (by decide) ?_
  refine zi_istore_n (lc1 := [(1, _), (0, _)]) dX2_keepLink_1 rfl (Nat.le_of_ble_eq_true rfl) rfl ?_
  refine zi_sub [1, 0] rfl ?_
  refine w_keepLink_2 (fun v1_12 h => ?_) hQ _ _ h
  · refine zi_iload_n 1 dX2_keepLink_49 rfl rfl ?_
    refine zi_aload_n 0 dX2_keepLink_50 rfl rfl ?_
    refine ti_getA 18 9 t_o18 q2188 dX2_keepLink_51 ?_
    refine zi_iconst (v := 2) dX2_keepLink_54 (by decide) ?_
    obtain ⟨j13, hj13, h⟩ := x_gaE h
    refine ti_iald 18 j13 122 8 ⟨rfl, rfl⟩ hj13 dX2_keepLink_55 ?_
    refine zi_icmp_ge 81 dX2_keepLink_56 (by decide) (fun c14 => ?_) (fun c14 => ?_)
    · replace h := x_iT h c14
      refine zi_aload_n 0 dX2_keepLink_81 rfl rfl ?_
      refine zi_iconst (v := 2) dX2_keepLink_82 (by decide) ?_
      refine zi_bipush (v := 11) dX2_keepLink_83 (by decide) ?_
      refine zi_iconst (v := 3) dX2_keepLink_85 (by decide) ?_
      refine zi_bipush (v := 15) dX2_keepLink_86 (by decide) ?_
      obtain ⟨σ16, h15, h⟩ := x_bE h
      refine zi_callV [.int (2 : Int32), .int (11 : Int32), .int (3 : Int32), .int (15 : Int32)] mX2_keepRow rfl q2511 t_rec rfl rfl (Nat.le_of_ble_eq_true rfl) dX2_keepLink_88 ?_
      refine w_keepRow h15 ?_
      refine zi_return rfl dX2_keepLink_91 ?_
      exact x_r0 h hQ
    · replace h := x_iF h c14
      refine zi_aload_n 0 dX2_keepLink_59 rfl rfl ?_
      refine ti_getA 18 9 t_o18 q2188 dX2_keepLink_60 ?_
      refine zi_bipush (v := 11) dX2_keepLink_63 (by decide) ?_
      refine zi_iconst (v := 3) dX2_keepLink_65 (by decide) ?_
      refine zi_iload_n 1 dX2_keepLink_66 rfl rfl ?_
      refine zi_imul dX2_keepLink_67 ?_
      refine zi_iadd dX2_keepLink_68 ?_
      refine zi_iconst (v := 2) dX2_keepLink_69 (by decide) ?_
      refine zi_iadd dX2_keepLink_70 ?_
      refine zi_aload_n 0 dX2_keepLink_71 rfl rfl ?_
      refine ti_getA 19 10 t_o19 q2189 dX2_keepLink_72 ?_
      refine zi_iconst (v := 2) dX2_keepLink_75 (by decide) ?_
      obtain ⟨j17, hj17, h⟩ := x_gaE h
      refine ti_iald 19 j17 4 9 ⟨rfl, rfl⟩ hj17 dX2_keepLink_76 ?_
      obtain ⟨j18, hj18, h⟩ := x_gaE h
      refine ti_iast 18 j18 122 8 ⟨rfl, rfl⟩ hj18 dX2_keepLink_77 ?_
      refine x_lI (fun σ19 => z_V g (d + 2) YX2_keepLink 78 [(0, .ref b), (1, .int v1_12)] [] (t_m b σ19 μ) Q) h (fun σ19 h => ?_)
      refine zi_goto 91 dX2_keepLink_78 (by decide) ?_
      refine zi_return rfl dX2_keepLink_91 ?_
      exact x_r0 h hQ
noncomputable def D_takeName (a1 : Int32) (σ : t_S) : Option (Int32 × t_S) :=
  if (t_i σ 12) = (2 : Int32) then (x_l (fun (σ2 : t_S) => x_b (D_numberOf (t_w σ2)) fun r4 =>
  x_ga a1 4 fun j5 =>
  x_l (t_sa σ2 19 j5 r4) fun σ6 =>
  x_b (D_token σ6) fun σ8 =>
  some ((1 : Int32), σ8)) fun J40 =>
  if ((t_i σ 9) - (t_i σ 11)) ≤ (4 : Int32) then (J40 σ) else
  x_b (D_addsFault (2 : Int32) (t_i σ 11) σ) fun σ11 =>
  x_l (t_si σ11 21 (0 : Int32)) fun σ12 =>
  J40 σ12) else
  x_b2 (D_fails σ) fun r14 σ15 =>
  x_g (r14 = 0 ∨ r14 = 1) <|
  some (r14, σ15)
theorem w_takeName {a1 : Int32} {rz : Int32} (h : D_takeName a1 σ = some (rz, σz)) (hQ : Q (.inl (some (.int rz))) (t_m b σz μ)) : z_K g (d + 2) YX2_takeName [.ref b, .int a1] (t_m b σ μ) Q := by
  unfold D_takeName at h
  refine z_K.of (by decide) rfl (Nat.le_of_ble_eq_true rfl) ?_
  refine zi_aload_n 0 dX2_takeName_0 rfl rfl ?_
  refine ti_getI 12 ⟨Nat.le_of_ble_eq_true rfl, rfl⟩ q2182 dX2_takeName_1 ?_
  refine zi_iconst (v := 2) dX2_takeName_4 (by decide) ?_
  refine zi_icmp_eq 13 dX2_takeName_5 (by decide) (fun c1 => ?_) (fun c1 => ?_)
  · replace h := x_iT h c1
    refine zi_aload_n 0 dX2_takeName_13 rfl rfl ?_
    refine ti_getI 9 ⟨Nat.le_of_ble_eq_true rfl, rfl⟩ q2179 dX2_takeName_14 ?_
    refine zi_aload_n 0 dX2_takeName_17 rfl rfl ?_
    refine ti_getI 11 ⟨Nat.le_of_ble_eq_true rfl, rfl⟩ q2181 dX2_takeName_18 ?_
    refine zi_isub dX2_takeName_21 ?_
    refine zi_iconst (v := 4) dX2_takeName_22 (by decide) ?_
    refine x_jI (fun (J : t_S → Option (Int32 × t_S)) => ∀ (σ2 : t_S), J σ2 = some (rz, σz) → z_V g (d + 2) YX2_takeName 40 [(0, .ref b), (1, .int a1)] [] (t_m b σ2 μ) Q) h (fun σ2 h => ?_) (fun J40 hJ40 h => ?_)
    · refine zi_aload_n 0 dX2_takeName_40 rfl rfl ?_
      refine ti_getA 19 10 t_o19 q2189 dX2_takeName_41 ?_
      refine zi_iload_n 1 dX2_takeName_44 rfl rfl ?_
      refine zi_aload_n 0 dX2_takeName_45 rfl rfl ?_
      refine ti_getW q2184 dX2_takeName_46 ?_
      obtain ⟨r4, h3, h⟩ := x_bE h
      refine zi_callS [.long (t_w σ2)] mX2_numberOf rfl q2528 rfl rfl (Nat.le_of_ble_eq_true rfl) dX2_takeName_49 ?_
      refine w_numberOf h3 ?_
      obtain ⟨j5, hj5, h⟩ := x_gaE h
      refine ti_iast 19 j5 4 9 ⟨rfl, rfl⟩ hj5 dX2_takeName_52 ?_
      refine x_lI (fun σ6 => z_V g (d + 2) YX2_takeName 53 [(0, .ref b), (1, .int a1)] [] (t_m b σ6 μ) Q) h (fun σ6 h => ?_)
      refine zi_aload_n 0 dX2_takeName_53 rfl rfl ?_
      obtain ⟨σ8, h7, h⟩ := x_bE h
      refine zi_callV [] mX2_token rfl q2460 t_rec rfl rfl (Nat.le_of_ble_eq_true rfl) dX2_takeName_54 ?_
      refine w_token h7 ?_
      refine zi_iconst (v := 1) dX2_takeName_57 (by decide) ?_
      refine zi_ireturn rfl rfl dX2_takeName_58 ?_
      exact x_r2i h hQ
    refine zi_icmp_le 40 dX2_takeName_23 (by decide) (fun c9 => ?_) (fun c9 => ?_)
    · replace h := x_iT h c9
      exact hJ40 _ h
    · replace h := x_iF h c9
      refine zi_aload_n 0 dX2_takeName_26 rfl rfl ?_
      refine zi_iconst (v := 2) dX2_takeName_27 (by decide) ?_
      refine zi_aload_n 0 dX2_takeName_28 rfl rfl ?_
      refine ti_getI 11 ⟨Nat.le_of_ble_eq_true rfl, rfl⟩ q2181 dX2_takeName_29 ?_
      obtain ⟨σ11, h10, h⟩ := x_bE h
      refine zi_callV [.int (2 : Int32), .int (t_i σ 11)] mX2_addsFault rfl q2490 t_rec rfl rfl (Nat.le_of_ble_eq_true rfl) dX2_takeName_32 ?_
      refine w_addsFault h10 ?_
      refine zi_aload_n 0 dX2_takeName_35 rfl rfl ?_
      refine zi_iconst (v := 0) dX2_takeName_36 (by decide) ?_
      refine ti_putZ 21 ⟨Nat.le_of_ble_eq_true rfl, rfl, rfl⟩ (tyX2_ok 21 (Nat.le_of_ble_eq_true rfl)) ⟨rfl, rfl⟩ q2191 dX2_takeName_37 ?_
      refine x_lI (fun σ12 => z_V g (d + 2) YX2_takeName 40 [(0, .ref b), (1, .int a1)] [] (t_m b σ12 μ) Q) h (fun σ12 h => ?_)
      exact hJ40 _ h
  · replace h := x_iF h c1
    refine zi_aload_n 0 dX2_takeName_8 rfl rfl ?_
    obtain ⟨r14, σ15, h13, h⟩ := x_b2E h
    refine zi_callV [] mX2_fails rfl q2486 t_rec rfl rfl (Nat.le_of_ble_eq_true rfl) dX2_takeName_9 ?_
    refine w_fails h13 ?_
    obtain ⟨hz16, h⟩ := x_gE h
    refine zi_ireturn rfl (x_nz hz16) dX2_takeName_12 ?_
    exact x_r2i h hQ
noncomputable def D_hasNet (a1 : Int32) (σ : t_S) : Option (Int32 × t_S) :=
  x_l (t_si σ 22 a1) fun σ1 =>
  x_b (D_is (0 : Int32) a1 σ1) fun r3 =>
  if r3 = 0 then (some ((0 : Int32), σ1)) else
  x_b (D_ofNet (0 : Int32) σ1) fun r6 =>
  x_l (t_si σ1 23 r6) fun σ7 =>
  x_b (D_ofNet (1 : Int32) σ7) fun r9 =>
  x_l (t_si σ7 24 r9) fun σ10 =>
  some ((1 : Int32), σ10)
theorem w_hasNet {a1 : Int32} {rz : Int32} (h : D_hasNet a1 σ = some (rz, σz)) (hQ : Q (.inl (some (.int rz))) (t_m b σz μ)) : z_K g (d + 2) YX2_hasNet [.ref b, .int a1] (t_m b σ μ) Q := by
  unfold D_hasNet at h
  refine z_K.of (by decide) rfl (Nat.le_of_ble_eq_true rfl) ?_
  refine zi_aload_n 0 dX2_hasNet_0 rfl rfl ?_
  refine zi_iload_n 1 dX2_hasNet_1 rfl rfl ?_
  refine ti_putI 22 ⟨Nat.le_of_ble_eq_true rfl, rfl, rfl⟩ (tyX2_ok 22 (Nat.le_of_ble_eq_true rfl)) q2192 dX2_hasNet_2 ?_
  refine x_lI (fun σ1 => z_V g (d + 2) YX2_hasNet 5 [(0, .ref b), (1, .int a1)] [] (t_m b σ1 μ) Q) h (fun σ1 h => ?_)
  refine zi_aload_n 0 dX2_hasNet_5 rfl rfl ?_
  refine zi_iconst (v := 0) dX2_hasNet_6 (by decide) ?_
  refine zi_iload_n 1 dX2_hasNet_7 rfl rfl ?_
  obtain ⟨r3, h2, h⟩ := x_bE h
  refine zi_callV [.int (0 : Int32), .int a1] mX2_is rfl q2452 t_rec rfl rfl (Nat.le_of_ble_eq_true rfl) dX2_hasNet_8 ?_
  refine w_is h2 ?_
  refine zi_if_ne 16 dX2_hasNet_11 (by decide) (fun c4 => ?_) (fun c4 => ?_)
  · replace h := x_iF h c4
    refine zi_aload_n 0 dX2_hasNet_16 rfl rfl ?_
    refine zi_aload_n 0 dX2_hasNet_17 rfl rfl ?_
    refine zi_iconst (v := 0) dX2_hasNet_18 (by decide) ?_
    obtain ⟨r6, h5, h⟩ := x_bE h
    refine zi_callV [.int (0 : Int32)] mX2_ofNet rfl q2567 t_rec rfl rfl (Nat.le_of_ble_eq_true rfl) dX2_hasNet_19 ?_
    refine w_ofNet h5 ?_
    refine ti_putI 23 ⟨Nat.le_of_ble_eq_true rfl, rfl, rfl⟩ (tyX2_ok 23 (Nat.le_of_ble_eq_true rfl)) q2193 dX2_hasNet_22 ?_
    refine x_lI (fun σ7 => z_V g (d + 2) YX2_hasNet 25 [(0, .ref b), (1, .int a1)] [] (t_m b σ7 μ) Q) h (fun σ7 h => ?_)
    refine zi_aload_n 0 dX2_hasNet_25 rfl rfl ?_
    refine zi_aload_n 0 dX2_hasNet_26 rfl rfl ?_
    refine zi_iconst (v := 1) dX2_hasNet_27 (by decide) ?_
    obtain ⟨r9, h8, h⟩ := x_bE h
    refine zi_callV [.int (1 : Int32)] mX2_ofNet rfl q2567 t_rec rfl rfl (Nat.le_of_ble_eq_true rfl) dX2_hasNet_28 ?_
    refine w_ofNet h8 ?_
    refine ti_putI 24 ⟨Nat.le_of_ble_eq_true rfl, rfl, rfl⟩ (tyX2_ok 24 (Nat.le_of_ble_eq_true rfl)) q2194 dX2_hasNet_31 ?_
    refine x_lI (fun σ10 => z_V g (d + 2) YX2_hasNet 34 [(0, .ref b), (1, .int a1)] [] (t_m b σ10 μ) Q) h (fun σ10 h => ?_)
    refine zi_iconst (v := 1) dX2_hasNet_34 (by decide) ?_
    refine zi_ireturn rfl rfl dX2_hasNet_35 ?_
    exact x_r2i h hQ
  · replace h := x_iT h c4
    refine zi_iconst (v := 0) dX2_hasNet_14 (by decide) ?_
    refine zi_ireturn rfl rfl dX2_hasNet_15 ?_
    exact x_r2i h hQ
noncomputable def D_layLinks_2 (f1_1 : Int32) (k21 : t_S → Option t_S) : Nat → Int32 → t_S → Option t_S
  | 0, _, _ => none
  | f + 1, v2_2, σ3 =>
    if (36 : Int32) ≤ v2_2 then (k21 σ3) else
    x_ga v2_2 36 fun j6 =>
    x_l (t_sa σ3 25 j6 (-1 : Int32)) fun σ7 =>
    x_l (v2_2 + (1 : Int32)) fun v8 =>
    D_layLinks_2 f1_1 k21 f v8 σ7
theorem w_layLinks_2 {f1_1 : Int32}  {k21 : t_S → Option t_S} (hk21 : ∀ (σ4 : t_S), k21 σ4 = some σz → z_V g (d + 2) YX2_layLinks 21 [(0, .ref b), (1, .int f1_1)] [] (t_m b σ4 μ) Q) (hQ : Q (.inl none) (t_m b σz μ)) : ∀ (f : Nat) (v2_2 : Int32) (σ3 : t_S), D_layLinks_2 f1_1 k21 f v2_2 σ3 = some σz → z_V g (d + 2) YX2_layLinks 2 [(0, .ref b), (1, .int f1_1), (2, .int v2_2)] [] (t_m b σ3 μ) Q := by
  intro f
  induction f with
  | zero =>
    intro v2_2 σ3 h
    exact absurd h (x_n _)
  | succ f ih =>
    intro v2_2 σ3 h
    refine zi_iload_n 2 dX2_layLinks_2 rfl rfl ?_
    refine zi_bipush (v := 36) dX2_layLinks_3 (by decide) ?_
    refine zi_icmp_ge 21 dX2_layLinks_5 (by decide) (fun c5 => ?_) (fun c5 => ?_)
    · replace h := x_iT h c5
      refine zi_sub [0, 1] rfl ?_
      exact hk21 _ h
    · replace h := x_iF h c5
      refine zi_aload_n 0 dX2_layLinks_8 rfl rfl ?_
      refine ti_getA 25 11 t_o25 q2195 dX2_layLinks_9 ?_
      refine zi_iload_n 2 dX2_layLinks_12 rfl rfl ?_
      refine zi_iconst (v := -1) dX2_layLinks_13 (by decide) ?_
      obtain ⟨j6, hj6, h⟩ := x_gaE h
      refine ti_iast 25 j6 36 10 ⟨rfl, rfl⟩ hj6 dX2_layLinks_14 ?_
      refine x_lI (fun σ7 => z_V g (d + 2) YX2_layLinks 15 [(0, .ref b), (1, .int f1_1), (2, .int v2_2)] [] (t_m b σ7 μ) Q) h (fun σ7 h => ?_)
      refine zi_iinc (v := (v2_2 + (1 : Int32))) (lc1 := [(2, _), (0, _), (1, _)]) 2 dX2_layLinks_15 rfl rfl (Nat.le_of_ble_eq_true rfl) rfl ?_
      refine x_lI (fun v8 => z_V g (d + 2) YX2_layLinks 18 [(2, .int v8), (0, .ref b), (1, .int f1_1)] [] (t_m b σ7 μ) Q) h (fun v8 h => ?_)
      refine zi_goto 2 dX2_layLinks_18 (by decide) ?_
      refine zi_sub [1, 2, 0] rfl ?_
      exact ih _ _ h
noncomputable def D_layLinks_23 (f1_10 : Int32) (k86 : t_S → Option t_S) : Nat → Int32 → t_S → Option t_S
  | 0, _, _ => none
  | f + 1, v2_11, σ12 =>
    x_b (D_links σ12) fun r15 =>
    if r15 ≤ v2_11 then (k86 σ12) else
    if v2_11 = f1_10 then (x_l (v2_11 + (1 : Int32)) fun v18 =>
    D_layLinks_23 f1_10 k86 f v18 σ12) else
    x_b (D_linkAt v2_11 (0 : Int32) σ12) fun r20 =>
    x_b (D_linkAt v2_11 (1 : Int32) σ12) fun r22 =>
    x_ga (((6 : Int32) * r20) + r22) 36 fun j23 =>
    x_l (t_sa σ12 25 j23 v2_11) fun σ24 =>
    x_b (D_linkAt v2_11 (1 : Int32) σ24) fun r26 =>
    x_b (D_linkAt v2_11 (0 : Int32) σ24) fun r28 =>
    x_ga (((6 : Int32) * r26) + r28) 36 fun j29 =>
    x_l (t_sa σ24 25 j29 v2_11) fun σ30 =>
    x_l (v2_11 + (1 : Int32)) fun v31 =>
    D_layLinks_23 f1_10 k86 f v31 σ30
theorem w_layLinks_23 {f1_10 : Int32}  {k86 : t_S → Option t_S} (hk86 : ∀ (σ13 : t_S), k86 σ13 = some σz → z_V g (d + 2) YX2_layLinks 86 [] [] (t_m b σ13 μ) Q) (hQ : Q (.inl none) (t_m b σz μ)) : ∀ (f : Nat) (v2_11 : Int32) (σ12 : t_S), D_layLinks_23 f1_10 k86 f v2_11 σ12 = some σz → z_V g (d + 2) YX2_layLinks 23 [(0, .ref b), (1, .int f1_10), (2, .int v2_11)] [] (t_m b σ12 μ) Q := by
  intro f
  induction f with
  | zero =>
    intro v2_11 σ12 h
    exact absurd h (x_n _)
  | succ f ih =>
    intro v2_11 σ12 h
    refine zi_iload_n 2 dX2_layLinks_23 rfl rfl ?_
    refine zi_aload_n 0 dX2_layLinks_24 rfl rfl ?_
    obtain ⟨r15, h14, h⟩ := x_bE h
    refine zi_callV [] mX2_links rfl q2579 t_rec rfl rfl (Nat.le_of_ble_eq_true rfl) dX2_layLinks_25 ?_
    refine w_links h14 ?_
    refine zi_icmp_ge 86 dX2_layLinks_28 (by decide) (fun c16 => ?_) (fun c16 => ?_)
    · replace h := x_iT h c16
      refine zi_sub [] rfl ?_
      exact hk86 _ h
    · replace h := x_iF h c16
      refine zi_iload_n 2 dX2_layLinks_31 rfl rfl ?_
      refine zi_iload_n 1 dX2_layLinks_32 rfl rfl ?_
      refine zi_icmp_eq 80 dX2_layLinks_33 (by decide) (fun c17 => ?_) (fun c17 => ?_)
      · replace h := x_iT h c17
        refine zi_iinc (v := (v2_11 + (1 : Int32))) (lc1 := [(2, _), (0, _), (1, _)]) 2 dX2_layLinks_80 rfl rfl (Nat.le_of_ble_eq_true rfl) rfl ?_
        refine x_lI (fun v18 => z_V g (d + 2) YX2_layLinks 83 [(2, .int v18), (0, .ref b), (1, .int f1_10)] [] (t_m b σ12 μ) Q) h (fun v18 h => ?_)
        refine zi_goto 23 dX2_layLinks_83 (by decide) ?_
        refine zi_sub [1, 2, 0] rfl ?_
        exact ih _ _ h
      · replace h := x_iF h c17
        refine zi_aload_n 0 dX2_layLinks_36 rfl rfl ?_
        refine ti_getA 25 11 t_o25 q2195 dX2_layLinks_37 ?_
        refine zi_bipush (v := 6) dX2_layLinks_40 (by decide) ?_
        refine zi_aload_n 0 dX2_layLinks_42 rfl rfl ?_
        refine zi_iload_n 2 dX2_layLinks_43 rfl rfl ?_
        refine zi_iconst (v := 0) dX2_layLinks_44 (by decide) ?_
        obtain ⟨r20, h19, h⟩ := x_bE h
        refine zi_callV [.int v2_11, .int (0 : Int32)] mX2_linkAt rfl q2583 t_rec rfl rfl (Nat.le_of_ble_eq_true rfl) dX2_layLinks_45 ?_
        refine w_linkAt h19 ?_
        refine zi_imul dX2_layLinks_48 ?_
        refine zi_aload_n 0 dX2_layLinks_49 rfl rfl ?_
        refine zi_iload_n 2 dX2_layLinks_50 rfl rfl ?_
        refine zi_iconst (v := 1) dX2_layLinks_51 (by decide) ?_
        obtain ⟨r22, h21, h⟩ := x_bE h
        refine zi_callV [.int v2_11, .int (1 : Int32)] mX2_linkAt rfl q2583 t_rec rfl rfl (Nat.le_of_ble_eq_true rfl) dX2_layLinks_52 ?_
        refine w_linkAt h21 ?_
        refine zi_iadd dX2_layLinks_55 ?_
        refine zi_iload_n 2 dX2_layLinks_56 rfl rfl ?_
        obtain ⟨j23, hj23, h⟩ := x_gaE h
        refine ti_iast 25 j23 36 10 ⟨rfl, rfl⟩ hj23 dX2_layLinks_57 ?_
        refine x_lI (fun σ24 => z_V g (d + 2) YX2_layLinks 58 [(0, .ref b), (1, .int f1_10), (2, .int v2_11)] [] (t_m b σ24 μ) Q) h (fun σ24 h => ?_)
        refine zi_aload_n 0 dX2_layLinks_58 rfl rfl ?_
        refine ti_getA 25 11 t_o25 q2195 dX2_layLinks_59 ?_
        refine zi_bipush (v := 6) dX2_layLinks_62 (by decide) ?_
        refine zi_aload_n 0 dX2_layLinks_64 rfl rfl ?_
        refine zi_iload_n 2 dX2_layLinks_65 rfl rfl ?_
        refine zi_iconst (v := 1) dX2_layLinks_66 (by decide) ?_
        obtain ⟨r26, h25, h⟩ := x_bE h
        refine zi_callV [.int v2_11, .int (1 : Int32)] mX2_linkAt rfl q2583 t_rec rfl rfl (Nat.le_of_ble_eq_true rfl) dX2_layLinks_67 ?_
        refine w_linkAt h25 ?_
        refine zi_imul dX2_layLinks_70 ?_
        refine zi_aload_n 0 dX2_layLinks_71 rfl rfl ?_
        refine zi_iload_n 2 dX2_layLinks_72 rfl rfl ?_
        refine zi_iconst (v := 0) dX2_layLinks_73 (by decide) ?_
        obtain ⟨r28, h27, h⟩ := x_bE h
        refine zi_callV [.int v2_11, .int (0 : Int32)] mX2_linkAt rfl q2583 t_rec rfl rfl (Nat.le_of_ble_eq_true rfl) dX2_layLinks_74 ?_
        refine w_linkAt h27 ?_
        refine zi_iadd dX2_layLinks_77 ?_
        refine zi_iload_n 2 dX2_layLinks_78 rfl rfl ?_
        obtain ⟨j29, hj29, h⟩ := x_gaE h
        refine ti_iast 25 j29 36 10 ⟨rfl, rfl⟩ hj29 dX2_layLinks_79 ?_
        refine x_lI (fun σ30 => z_V g (d + 2) YX2_layLinks 80 [(0, .ref b), (1, .int f1_10), (2, .int v2_11)] [] (t_m b σ30 μ) Q) h (fun σ30 h => ?_)
        refine zi_iinc (v := (v2_11 + (1 : Int32))) (lc1 := [(2, _), (0, _), (1, _)]) 2 dX2_layLinks_80 rfl rfl (Nat.le_of_ble_eq_true rfl) rfl ?_
        refine x_lI (fun v31 => z_V g (d + 2) YX2_layLinks 83 [(2, .int v31), (0, .ref b), (1, .int f1_10)] [] (t_m b σ30 μ) Q) h (fun v31 h => ?_)
        refine zi_goto 23 dX2_layLinks_83 (by decide) ?_
        refine zi_sub [1, 2, 0] rfl ?_
        exact ih _ _ h
noncomputable def D_layLinks (a1 : Int32) (σ : t_S) : Option t_S :=
  D_layLinks_2 a1
    (fun (σ9 : t_S) => D_layLinks_23 a1
    (fun (σ32 : t_S) => some σ32)
    x_F (0 : Int32) σ9)
    x_F (0 : Int32) σ
theorem w_layLinks {a1 : Int32}  (h : D_layLinks a1 σ = some σz) (hQ : Q (.inl none) (t_m b σz μ)) : z_K g (d + 2) YX2_layLinks [.ref b, .int a1] (t_m b σ μ) Q := by
  unfold D_layLinks at h
  refine z_K.of (by decide) rfl (Nat.le_of_ble_eq_true rfl) ?_
  refine zi_iconst (v := 0) dX2_layLinks_0 (by decide) ?_
  refine zi_istore_n (lc1 := [(2, _), (0, _), (1, _)]) dX2_layLinks_1 rfl (Nat.le_of_ble_eq_true rfl) rfl ?_
  refine zi_sub [1, 2, 0] rfl ?_
  refine w_layLinks_2 (fun σ9 h => ?_) hQ _ _ _ h
  · refine zi_iconst (v := 0) dX2_layLinks_21 (by decide) ?_
    refine zi_istore_n (lc1 := [(2, _), (0, _), (1, _)]) dX2_layLinks_22 rfl (Nat.le_of_ble_eq_true rfl) rfl ?_
    refine zi_sub [1, 2, 0] rfl ?_
    refine w_layLinks_23 (fun σ32 h => ?_) hQ _ _ _ h
    · refine zi_return rfl dX2_layLinks_86 ?_
      exact x_r0 h hQ
noncomputable def D_ofPlace (a1 : Int32) (a2 : Int32) (σ : t_S) : Option Int32 :=
  if (300 : Int32) ≤ a1 then (x_b (D_serves σ) fun r3 =>
  if r3 ≤ a2 then (some (-2 : Int32)) else
  x_b (D_serveAt a2 ((a1 - (300 : Int32)) / (20 : Int32)) σ) fun r6 =>
  some r6) else
  x_b (D_routes σ) fun r8 =>
  if r8 ≤ a2 then (some (-2 : Int32)) else
  x_b (D_routeAt a2 ((a1 - (200 : Int32)) / (20 : Int32)) σ) fun r11 =>
  some r11
theorem w_ofPlace {a1 : Int32} {a2 : Int32} {rz : Int32} (h : D_ofPlace a1 a2 σ = some rz) (hQ : Q (.inl (some (.int rz))) (t_m b σ μ)) : z_K g (d + 2) YX2_ofPlace [.ref b, .int a1, .int a2] (t_m b σ μ) Q := by
  unfold D_ofPlace at h
  refine z_K.of (by decide) rfl (Nat.le_of_ble_eq_true rfl) ?_
  refine zi_iload_n 1 dX2_ofPlace_0 rfl rfl ?_
  refine zi_sipush (v := 300) dX2_ofPlace_1 (by decide) ?_
  refine zi_icmp_ge 34 dX2_ofPlace_4 (by decide) (fun c1 => ?_) (fun c1 => ?_)
  · replace h := x_iT h c1
    refine zi_iload_n 2 dX2_ofPlace_34 rfl rfl ?_
    refine zi_aload_n 0 dX2_ofPlace_35 rfl rfl ?_
    obtain ⟨r3, h2, h⟩ := x_bE h
    refine zi_callV [] mX2_serves rfl q2599 t_rec rfl rfl (Nat.le_of_ble_eq_true rfl) dX2_ofPlace_36 ?_
    refine w_serves h2 ?_
    refine zi_icmp_ge 58 dX2_ofPlace_39 (by decide) (fun c4 => ?_) (fun c4 => ?_)
    · replace h := x_iT h c4
      refine zi_bipush (v := -2) dX2_ofPlace_58 (by decide) ?_
      refine zi_ireturn rfl rfl dX2_ofPlace_60 ?_
      exact x_r1i h hQ
    · replace h := x_iF h c4
      refine zi_aload_n 0 dX2_ofPlace_42 rfl rfl ?_
      refine zi_iload_n 2 dX2_ofPlace_43 rfl rfl ?_
      refine zi_iload_n 1 dX2_ofPlace_44 rfl rfl ?_
      refine zi_sipush (v := 300) dX2_ofPlace_45 (by decide) ?_
      refine zi_isub dX2_ofPlace_48 ?_
      refine zi_bipush (v := 20) dX2_ofPlace_49 (by decide) ?_
      refine zi_idiv dX2_ofPlace_51 (by decide) ?_
      obtain ⟨r6, h5, h⟩ := x_bE h
      refine zi_callV [.int a2, .int ((a1 - (300 : Int32)) / (20 : Int32))] mX2_serveAt rfl q2603 t_rec rfl rfl (Nat.le_of_ble_eq_true rfl) dX2_ofPlace_52 ?_
      refine w_serveAt h5 ?_
      refine zi_goto 60 dX2_ofPlace_55 (by decide) ?_
      refine zi_ireturn rfl rfl dX2_ofPlace_60 ?_
      exact x_r1i h hQ
  · replace h := x_iF h c1
    refine zi_iload_n 2 dX2_ofPlace_7 rfl rfl ?_
    refine zi_aload_n 0 dX2_ofPlace_8 rfl rfl ?_
    obtain ⟨r8, h7, h⟩ := x_bE h
    refine zi_callV [] mX2_routes rfl q2591 t_rec rfl rfl (Nat.le_of_ble_eq_true rfl) dX2_ofPlace_9 ?_
    refine w_routes h7 ?_
    refine zi_icmp_ge 31 dX2_ofPlace_12 (by decide) (fun c9 => ?_) (fun c9 => ?_)
    · replace h := x_iT h c9
      refine zi_bipush (v := -2) dX2_ofPlace_31 (by decide) ?_
      refine zi_ireturn rfl rfl dX2_ofPlace_33 ?_
      exact x_r1i h hQ
    · replace h := x_iF h c9
      refine zi_aload_n 0 dX2_ofPlace_15 rfl rfl ?_
      refine zi_iload_n 2 dX2_ofPlace_16 rfl rfl ?_
      refine zi_iload_n 1 dX2_ofPlace_17 rfl rfl ?_
      refine zi_sipush (v := 200) dX2_ofPlace_18 (by decide) ?_
      refine zi_isub dX2_ofPlace_21 ?_
      refine zi_bipush (v := 20) dX2_ofPlace_22 (by decide) ?_
      refine zi_idiv dX2_ofPlace_24 (by decide) ?_
      obtain ⟨r11, h10, h⟩ := x_bE h
      refine zi_callV [.int a2, .int ((a1 - (200 : Int32)) / (20 : Int32))] mX2_routeAt rfl q2595 t_rec rfl rfl (Nat.le_of_ble_eq_true rfl) dX2_ofPlace_25 ?_
      refine w_routeAt h10 ?_
      refine zi_goto 33 dX2_ofPlace_28 (by decide) ?_
      refine zi_ireturn rfl rfl dX2_ofPlace_33 ?_
      exact x_r1i h hQ
noncomputable def D_hasRun (a1 : Int32) (σ : t_S) : Option (Int32 × t_S) :=
  x_l (t_si σ 75 a1) fun σ1 =>
  x_b (D_is (1 : Int32) a1 σ1) fun r3 =>
  x_g (r3 = 0 ∨ r3 = 1) <|
  some (r3, σ1)
theorem w_hasRun {a1 : Int32} {rz : Int32} (h : D_hasRun a1 σ = some (rz, σz)) (hQ : Q (.inl (some (.int rz))) (t_m b σz μ)) : z_K g (d + 2) YX2_hasRun [.ref b, .int a1] (t_m b σ μ) Q := by
  unfold D_hasRun at h
  refine z_K.of (by decide) rfl (Nat.le_of_ble_eq_true rfl) ?_
  refine zi_aload_n 0 dX2_hasRun_0 rfl rfl ?_
  refine zi_iload_n 1 dX2_hasRun_1 rfl rfl ?_
  refine ti_putI 75 ⟨Nat.le_of_ble_eq_true rfl, rfl, rfl⟩ (tyX2_ok 75 (Nat.le_of_ble_eq_true rfl)) q2245 dX2_hasRun_2 ?_
  refine x_lI (fun σ1 => z_V g (d + 2) YX2_hasRun 5 [(0, .ref b), (1, .int a1)] [] (t_m b σ1 μ) Q) h (fun σ1 h => ?_)
  refine zi_aload_n 0 dX2_hasRun_5 rfl rfl ?_
  refine zi_iconst (v := 1) dX2_hasRun_6 (by decide) ?_
  refine zi_iload_n 1 dX2_hasRun_7 rfl rfl ?_
  obtain ⟨r3, h2, h⟩ := x_bE h
  refine zi_callV [.int (1 : Int32), .int a1] mX2_is rfl q2452 t_rec rfl rfl (Nat.le_of_ble_eq_true rfl) dX2_hasRun_8 ?_
  refine w_is h2 ?_
  obtain ⟨hz4, h⟩ := x_gE h
  refine zi_ireturn rfl (x_nz hz4) dX2_hasRun_11 ?_
  exact x_r2i h hQ
noncomputable def D_sends (a1 : Int32) (a2 : Int32) (a3 : Int32) (a4 : Int32) (a5 : Int32) (a6 : Int32) (σ : t_S) : Option t_S :=
  x_b (D_isUp a2 a3 σ) fun r2 =>
  if r2 = 0 then (x_l (t_si σ 70 ((t_i σ 70) + (1 : Int32))) fun σ31 =>
  some σ31) else
  x_ga (t_i σ 45) 4096 fun j4 =>
  x_l (t_sa σ 46 j4 a1) fun σ5 =>
  x_ga (t_i σ5 45) 4096 fun j6 =>
  x_l (t_sa σ5 47 j6 a2) fun σ7 =>
  x_ga (t_i σ7 45) 4096 fun j8 =>
  x_l (t_sa σ7 48 j8 a3) fun σ9 =>
  x_ga (t_i σ9 45) 4096 fun j10 =>
  x_l (t_sa σ9 49 j10 a4) fun σ11 =>
  x_ga (t_i σ11 45) 4096 fun j12 =>
  x_l (t_sa σ11 50 j12 a5) fun σ13 =>
  x_ga (t_i σ13 45) 4096 fun j14 =>
  x_l (t_sa σ13 51 j14 a6) fun σ15 =>
  x_ga (((6 : Int32) * a2) + a3) 36 fun j16 =>
  x_b (D_linkAt (t_a σ15 25 j16) (2 : Int32) σ15) fun r18 =>
  x_ga (t_i σ15 45) 4096 fun j19 =>
  x_l (t_sa σ15 52 j19 ((t_i σ15 27) + r18)) fun σ20 =>
  x_ga (t_i σ20 45) 4096 fun j21 =>
  x_l (t_sa σ20 53 j21 (t_i σ20 71)) fun σ22 =>
  x_ga (t_i σ22 45) 4096 fun j23 =>
  x_l (t_sa σ22 54 j23 (t_i σ22 72)) fun σ24 =>
  x_ga (t_i σ24 45) 4096 fun j25 =>
  x_l (t_sa σ24 55 j25 (t_i σ24 73)) fun σ26 =>
  x_ga (t_i σ26 45) 4096 fun j27 =>
  x_l (t_sa σ26 56 j27 (t_i σ26 74)) fun σ28 =>
  x_l (t_si σ28 45 ((t_i σ28 45) + (1 : Int32))) fun σ29 =>
  x_l (t_si σ29 65 ((t_i σ29 65) + (1 : Int32))) fun σ30 =>
  some σ30
theorem w_sends {a1 : Int32} {a2 : Int32} {a3 : Int32} {a4 : Int32} {a5 : Int32} {a6 : Int32}  (h : D_sends a1 a2 a3 a4 a5 a6 σ = some σz) (hQ : Q (.inl none) (t_m b σz μ)) : z_K g (d + 2) YX2_sends [.ref b, .int a1, .int a2, .int a3, .int a4, .int a5, .int a6] (t_m b σ μ) Q := by
  unfold D_sends at h
  refine z_K.of (by decide) rfl (Nat.le_of_ble_eq_true rfl) ?_
  refine zi_aload_n 0 dX2_sends_0 rfl rfl ?_
  refine zi_iload_n 2 dX2_sends_1 rfl rfl ?_
  refine zi_iload_n 3 dX2_sends_2 rfl rfl ?_
  obtain ⟨r2, h1, h⟩ := x_bE h
  refine zi_callV [.int a2, .int a3] mX2_isUp rfl q2678 t_rec rfl rfl (Nat.le_of_ble_eq_true rfl) dX2_sends_3 ?_
  refine w_isUp h1 ?_
  refine zi_if_ne 20 dX2_sends_6 (by decide) (fun c3 => ?_) (fun c3 => ?_)
  · replace h := x_iF h c3
    refine zi_aload_n 0 dX2_sends_20 rfl rfl ?_
    refine ti_getA 46 29 t_o46 q2216 dX2_sends_21 ?_
    refine zi_aload_n 0 dX2_sends_24 rfl rfl ?_
    refine ti_getI 45 ⟨Nat.le_of_ble_eq_true rfl, rfl⟩ q2215 dX2_sends_25 ?_
    refine zi_iload_n 1 dX2_sends_28 rfl rfl ?_
    obtain ⟨j4, hj4, h⟩ := x_gaE h
    refine ti_iast 46 j4 4096 28 ⟨rfl, rfl⟩ hj4 dX2_sends_29 ?_
    refine x_lI (fun σ5 => z_V g (d + 2) YX2_sends 30 [(0, .ref b), (1, .int a1), (2, .int a2), (3, .int a3), (4, .int a4), (5, .int a5), (6, .int a6)] [] (t_m b σ5 μ) Q) h (fun σ5 h => ?_)
    refine zi_aload_n 0 dX2_sends_30 rfl rfl ?_
    refine ti_getA 47 30 t_o47 q2217 dX2_sends_31 ?_
    refine zi_aload_n 0 dX2_sends_34 rfl rfl ?_
    refine ti_getI 45 ⟨Nat.le_of_ble_eq_true rfl, rfl⟩ q2215 dX2_sends_35 ?_
    refine zi_iload_n 2 dX2_sends_38 rfl rfl ?_
    obtain ⟨j6, hj6, h⟩ := x_gaE h
    refine ti_iast 47 j6 4096 29 ⟨rfl, rfl⟩ hj6 dX2_sends_39 ?_
    refine x_lI (fun σ7 => z_V g (d + 2) YX2_sends 40 [(0, .ref b), (1, .int a1), (2, .int a2), (3, .int a3), (4, .int a4), (5, .int a5), (6, .int a6)] [] (t_m b σ7 μ) Q) h (fun σ7 h => ?_)
    refine zi_aload_n 0 dX2_sends_40 rfl rfl ?_
    refine ti_getA 48 31 t_o48 q2218 dX2_sends_41 ?_
    refine zi_aload_n 0 dX2_sends_44 rfl rfl ?_
    refine ti_getI 45 ⟨Nat.le_of_ble_eq_true rfl, rfl⟩ q2215 dX2_sends_45 ?_
    refine zi_iload_n 3 dX2_sends_48 rfl rfl ?_
    obtain ⟨j8, hj8, h⟩ := x_gaE h
    refine ti_iast 48 j8 4096 30 ⟨rfl, rfl⟩ hj8 dX2_sends_49 ?_
    refine x_lI (fun σ9 => z_V g (d + 2) YX2_sends 50 [(0, .ref b), (1, .int a1), (2, .int a2), (3, .int a3), (4, .int a4), (5, .int a5), (6, .int a6)] [] (t_m b σ9 μ) Q) h (fun σ9 h => ?_)
    refine zi_aload_n 0 dX2_sends_50 rfl rfl ?_
    refine ti_getA 49 32 t_o49 q2219 dX2_sends_51 ?_
    refine zi_aload_n 0 dX2_sends_54 rfl rfl ?_
    refine ti_getI 45 ⟨Nat.le_of_ble_eq_true rfl, rfl⟩ q2215 dX2_sends_55 ?_
    refine zi_iload 4 dX2_sends_58 rfl ?_
    obtain ⟨j10, hj10, h⟩ := x_gaE h
    refine ti_iast 49 j10 4096 31 ⟨rfl, rfl⟩ hj10 dX2_sends_60 ?_
    refine x_lI (fun σ11 => z_V g (d + 2) YX2_sends 61 [(0, .ref b), (1, .int a1), (2, .int a2), (3, .int a3), (4, .int a4), (5, .int a5), (6, .int a6)] [] (t_m b σ11 μ) Q) h (fun σ11 h => ?_)
    refine zi_aload_n 0 dX2_sends_61 rfl rfl ?_
    refine ti_getA 50 33 t_o50 q2220 dX2_sends_62 ?_
    refine zi_aload_n 0 dX2_sends_65 rfl rfl ?_
    refine ti_getI 45 ⟨Nat.le_of_ble_eq_true rfl, rfl⟩ q2215 dX2_sends_66 ?_
    refine zi_iload 5 dX2_sends_69 rfl ?_
    obtain ⟨j12, hj12, h⟩ := x_gaE h
    refine ti_iast 50 j12 4096 32 ⟨rfl, rfl⟩ hj12 dX2_sends_71 ?_
    refine x_lI (fun σ13 => z_V g (d + 2) YX2_sends 72 [(0, .ref b), (1, .int a1), (2, .int a2), (3, .int a3), (4, .int a4), (5, .int a5), (6, .int a6)] [] (t_m b σ13 μ) Q) h (fun σ13 h => ?_)
    refine zi_aload_n 0 dX2_sends_72 rfl rfl ?_
    refine ti_getA 51 34 t_o51 q2221 dX2_sends_73 ?_
    refine zi_aload_n 0 dX2_sends_76 rfl rfl ?_
    refine ti_getI 45 ⟨Nat.le_of_ble_eq_true rfl, rfl⟩ q2215 dX2_sends_77 ?_
    refine zi_iload 6 dX2_sends_80 rfl ?_
    obtain ⟨j14, hj14, h⟩ := x_gaE h
    refine ti_iast 51 j14 4096 33 ⟨rfl, rfl⟩ hj14 dX2_sends_82 ?_
    refine x_lI (fun σ15 => z_V g (d + 2) YX2_sends 83 [(0, .ref b), (1, .int a1), (2, .int a2), (3, .int a3), (4, .int a4), (5, .int a5), (6, .int a6)] [] (t_m b σ15 μ) Q) h (fun σ15 h => ?_)
    refine zi_aload_n 0 dX2_sends_83 rfl rfl ?_
    refine ti_getA 52 35 t_o52 q2222 dX2_sends_84 ?_
    refine zi_aload_n 0 dX2_sends_87 rfl rfl ?_
    refine ti_getI 45 ⟨Nat.le_of_ble_eq_true rfl, rfl⟩ q2215 dX2_sends_88 ?_
    refine zi_aload_n 0 dX2_sends_91 rfl rfl ?_
    refine ti_getI 27 ⟨Nat.le_of_ble_eq_true rfl, rfl⟩ q2197 dX2_sends_92 ?_
    refine zi_aload_n 0 dX2_sends_95 rfl rfl ?_
    refine zi_aload_n 0 dX2_sends_96 rfl rfl ?_
    refine ti_getA 25 11 t_o25 q2195 dX2_sends_97 ?_
    refine zi_bipush (v := 6) dX2_sends_100 (by decide) ?_
    refine zi_iload_n 2 dX2_sends_102 rfl rfl ?_
    refine zi_imul dX2_sends_103 ?_
    refine zi_iload_n 3 dX2_sends_104 rfl rfl ?_
    refine zi_iadd dX2_sends_105 ?_
    obtain ⟨j16, hj16, h⟩ := x_gaE h
    refine ti_iald 25 j16 36 10 ⟨rfl, rfl⟩ hj16 dX2_sends_106 ?_
    refine zi_iconst (v := 2) dX2_sends_107 (by decide) ?_
    obtain ⟨r18, h17, h⟩ := x_bE h
    refine zi_callV [.int (t_a σ15 25 j16), .int (2 : Int32)] mX2_linkAt rfl q2583 t_rec rfl rfl (Nat.le_of_ble_eq_true rfl) dX2_sends_108 ?_
    refine w_linkAt h17 ?_
    refine zi_iadd dX2_sends_111 ?_
    obtain ⟨j19, hj19, h⟩ := x_gaE h
    refine ti_iast 52 j19 4096 34 ⟨rfl, rfl⟩ hj19 dX2_sends_112 ?_
    refine x_lI (fun σ20 => z_V g (d + 2) YX2_sends 113 [(0, .ref b), (1, .int a1), (2, .int a2), (3, .int a3), (4, .int a4), (5, .int a5), (6, .int a6)] [] (t_m b σ20 μ) Q) h (fun σ20 h => ?_)
    refine zi_aload_n 0 dX2_sends_113 rfl rfl ?_
    refine ti_getA 53 36 t_o53 q2223 dX2_sends_114 ?_
    refine zi_aload_n 0 dX2_sends_117 rfl rfl ?_
    refine ti_getI 45 ⟨Nat.le_of_ble_eq_true rfl, rfl⟩ q2215 dX2_sends_118 ?_
    refine zi_aload_n 0 dX2_sends_121 rfl rfl ?_
    refine ti_getI 71 ⟨Nat.le_of_ble_eq_true rfl, rfl⟩ q2241 dX2_sends_122 ?_
    obtain ⟨j21, hj21, h⟩ := x_gaE h
    refine ti_iast 53 j21 4096 35 ⟨rfl, rfl⟩ hj21 dX2_sends_125 ?_
    refine x_lI (fun σ22 => z_V g (d + 2) YX2_sends 126 [(0, .ref b), (1, .int a1), (2, .int a2), (3, .int a3), (4, .int a4), (5, .int a5), (6, .int a6)] [] (t_m b σ22 μ) Q) h (fun σ22 h => ?_)
    refine zi_aload_n 0 dX2_sends_126 rfl rfl ?_
    refine ti_getA 54 37 t_o54 q2224 dX2_sends_127 ?_
    refine zi_aload_n 0 dX2_sends_130 rfl rfl ?_
    refine ti_getI 45 ⟨Nat.le_of_ble_eq_true rfl, rfl⟩ q2215 dX2_sends_131 ?_
    refine zi_aload_n 0 dX2_sends_134 rfl rfl ?_
    refine ti_getI 72 ⟨Nat.le_of_ble_eq_true rfl, rfl⟩ q2242 dX2_sends_135 ?_
    obtain ⟨j23, hj23, h⟩ := x_gaE h
    refine ti_iast 54 j23 4096 36 ⟨rfl, rfl⟩ hj23 dX2_sends_138 ?_
    refine x_lI (fun σ24 => z_V g (d + 2) YX2_sends 139 [(0, .ref b), (1, .int a1), (2, .int a2), (3, .int a3), (4, .int a4), (5, .int a5), (6, .int a6)] [] (t_m b σ24 μ) Q) h (fun σ24 h => ?_)
    refine zi_aload_n 0 dX2_sends_139 rfl rfl ?_
    refine ti_getA 55 38 t_o55 q2225 dX2_sends_140 ?_
    refine zi_aload_n 0 dX2_sends_143 rfl rfl ?_
    refine ti_getI 45 ⟨Nat.le_of_ble_eq_true rfl, rfl⟩ q2215 dX2_sends_144 ?_
    refine zi_aload_n 0 dX2_sends_147 rfl rfl ?_
    refine ti_getI 73 ⟨Nat.le_of_ble_eq_true rfl, rfl⟩ q2243 dX2_sends_148 ?_
    obtain ⟨j25, hj25, h⟩ := x_gaE h
    refine ti_iast 55 j25 4096 37 ⟨rfl, rfl⟩ hj25 dX2_sends_151 ?_
    refine x_lI (fun σ26 => z_V g (d + 2) YX2_sends 152 [(0, .ref b), (1, .int a1), (2, .int a2), (3, .int a3), (4, .int a4), (5, .int a5), (6, .int a6)] [] (t_m b σ26 μ) Q) h (fun σ26 h => ?_)
    refine zi_aload_n 0 dX2_sends_152 rfl rfl ?_
    refine ti_getA 56 39 t_o56 q2226 dX2_sends_153 ?_
    refine zi_aload_n 0 dX2_sends_156 rfl rfl ?_
    refine ti_getI 45 ⟨Nat.le_of_ble_eq_true rfl, rfl⟩ q2215 dX2_sends_157 ?_
    refine zi_aload_n 0 dX2_sends_160 rfl rfl ?_
    refine ti_getI 74 ⟨Nat.le_of_ble_eq_true rfl, rfl⟩ q2244 dX2_sends_161 ?_
    obtain ⟨j27, hj27, h⟩ := x_gaE h
    refine ti_iast 56 j27 4096 38 ⟨rfl, rfl⟩ hj27 dX2_sends_164 ?_
    refine x_lI (fun σ28 => z_V g (d + 2) YX2_sends 165 [(0, .ref b), (1, .int a1), (2, .int a2), (3, .int a3), (4, .int a4), (5, .int a5), (6, .int a6)] [] (t_m b σ28 μ) Q) h (fun σ28 h => ?_)
    refine zi_aload_n 0 dX2_sends_165 rfl rfl ?_
    refine zi_dup dX2_sends_166 rfl ?_
    refine ti_getI 45 ⟨Nat.le_of_ble_eq_true rfl, rfl⟩ q2215 dX2_sends_167 ?_
    refine zi_iconst (v := 1) dX2_sends_170 (by decide) ?_
    refine zi_iadd dX2_sends_171 ?_
    refine ti_putI 45 ⟨Nat.le_of_ble_eq_true rfl, rfl, rfl⟩ (tyX2_ok 45 (Nat.le_of_ble_eq_true rfl)) q2215 dX2_sends_172 ?_
    refine x_lI (fun σ29 => z_V g (d + 2) YX2_sends 175 [(0, .ref b), (1, .int a1), (2, .int a2), (3, .int a3), (4, .int a4), (5, .int a5), (6, .int a6)] [] (t_m b σ29 μ) Q) h (fun σ29 h => ?_)
    refine zi_aload_n 0 dX2_sends_175 rfl rfl ?_
    refine zi_dup dX2_sends_176 rfl ?_
    refine ti_getI 65 ⟨Nat.le_of_ble_eq_true rfl, rfl⟩ q2235 dX2_sends_177 ?_
    refine zi_iconst (v := 1) dX2_sends_180 (by decide) ?_
    refine zi_iadd dX2_sends_181 ?_
    refine ti_putI 65 ⟨Nat.le_of_ble_eq_true rfl, rfl, rfl⟩ (tyX2_ok 65 (Nat.le_of_ble_eq_true rfl)) q2235 dX2_sends_182 ?_
    refine x_lI (fun σ30 => z_V g (d + 2) YX2_sends 185 [(0, .ref b), (1, .int a1), (2, .int a2), (3, .int a3), (4, .int a4), (5, .int a5), (6, .int a6)] [] (t_m b σ30 μ) Q) h (fun σ30 h => ?_)
    refine zi_return rfl dX2_sends_185 ?_
    exact x_r0 h hQ
  · replace h := x_iT h c3
    refine zi_aload_n 0 dX2_sends_9 rfl rfl ?_
    refine zi_dup dX2_sends_10 rfl ?_
    refine ti_getI 70 ⟨Nat.le_of_ble_eq_true rfl, rfl⟩ q2240 dX2_sends_11 ?_
    refine zi_iconst (v := 1) dX2_sends_14 (by decide) ?_
    refine zi_iadd dX2_sends_15 ?_
    refine ti_putI 70 ⟨Nat.le_of_ble_eq_true rfl, rfl, rfl⟩ (tyX2_ok 70 (Nat.le_of_ble_eq_true rfl)) q2240 dX2_sends_16 ?_
    refine x_lI (fun σ31 => z_V g (d + 2) YX2_sends 19 [(0, .ref b), (1, .int a1), (2, .int a2), (3, .int a3), (4, .int a4), (5, .int a5), (6, .int a6)] [] (t_m b σ31 μ) Q) h (fun σ31 h => ?_)
    refine zi_return rfl dX2_sends_19 ?_
    exact x_r0 h hQ
noncomputable def D_serveFor_5 (f1_1 : Int32) (f2_2 : Int32) (σ : t_S) (k91 : Int32 → Option Int32) : Nat → Int32 → Int32 → Option Int32
  | 0, _, _ => none
  | f + 1, v3_3, v4_4 =>
    x_b (D_serves σ) fun r8 =>
    if r8 ≤ v4_4 then (k91 v3_3) else
    x_b (D_serveAt v4_4 (0 : Int32) σ) fun r11 =>
    x_l (fun (s12 : Int32) => if s12 = 0 then (x_l (v4_4 + (1 : Int32)) fun v14 =>
    D_serveFor_5 f1_1 f2_2 σ k91 f v3_3 v14) else
    x_l (x_l (v4_4 + (1 : Int32)) fun v15 =>
    D_serveFor_5 f1_1 f2_2 σ k91 f v4_4 v15) fun J78 =>
    if v3_3 = (-1 : Int32) then (J78) else
    x_b (D_serveAt v4_4 (1 : Int32) σ) fun r18 =>
    x_b (D_lettersOf r18) fun r20 =>
    x_b (D_serveAt v3_3 (1 : Int32) σ) fun r22 =>
    x_b (D_lettersOf r22) fun r24 =>
    if r20 ≤ r24 then (x_l (v4_4 + (1 : Int32)) fun v26 =>
    D_serveFor_5 f1_1 f2_2 σ k91 f v3_3 v26) else
    J78) fun J44 =>
    x_l (J44 (0 : Int32)) fun J43 =>
    if r11 = f1_1 then (x_b (D_serveAt v4_4 (1 : Int32) σ) fun r29 =>
    x_b (D_isBeginning r29 f2_2) fun r31 =>
    if r31 = 0 then (J43) else
    J44 (1 : Int32)) else
    J43
theorem w_serveFor_5 {f1_1 : Int32} {f2_2 : Int32} {σ : t_S} {rz : Int32} {k91 : Int32 → Option Int32} (hk91 : ∀ (v3_5 : Int32), k91 v3_5 = some rz → z_V g (d + 2) YX2_serveFor 91 [(3, .int v3_5)] [] (t_m b σ μ) Q) (hQ : Q (.inl (some (.int rz))) (t_m b σ μ)) : ∀ (f : Nat) (v3_3 : Int32) (v4_4 : Int32), D_serveFor_5 f1_1 f2_2 σ k91 f v3_3 v4_4 = some rz → z_V g (d + 2) YX2_serveFor 5 [(0, .ref b), (1, .int f1_1), (2, .int f2_2), (3, .int v3_3), (4, .int v4_4)] [] (t_m b σ μ) Q := by
  intro f
  induction f with
  | zero =>
    intro v3_3 v4_4 h
    exact absurd h (x_n _)
  | succ f ih =>
    intro v3_3 v4_4 h
    refine zi_iload 4 dX2_serveFor_5 rfl ?_
    refine zi_aload_n 0 dX2_serveFor_7 rfl rfl ?_
    obtain ⟨r8, h7, h⟩ := x_bE h
    refine zi_callV [] mX2_serves rfl q2599 t_rec rfl rfl (Nat.le_of_ble_eq_true rfl) dX2_serveFor_8 ?_
    refine w_serves h7 ?_
    refine zi_icmp_ge 91 dX2_serveFor_11 (by decide) (fun c9 => ?_) (fun c9 => ?_)
    · replace h := x_iT h c9
      refine zi_sub [3] rfl ?_
      exact hk91 _ h
    · replace h := x_iF h c9
      refine zi_aload_n 0 dX2_serveFor_14 rfl rfl ?_
      refine zi_iload 4 dX2_serveFor_15 rfl ?_
      refine zi_iconst (v := 0) dX2_serveFor_17 (by decide) ?_
      obtain ⟨r11, h10, h⟩ := x_bE h
      refine zi_callV [.int v4_4, .int (0 : Int32)] mX2_serveAt rfl q2603 t_rec rfl rfl (Nat.le_of_ble_eq_true rfl) dX2_serveFor_18 ?_
      refine w_serveAt h10 ?_
      refine zi_iload_n 1 dX2_serveFor_21 rfl rfl ?_
      refine x_jI (fun (J : Int32 → Option Int32) => ∀ (s12 : Int32), J s12 = some rz → z_V g (d + 2) YX2_serveFor 44 [(0, .ref b), (1, .int f1_1), (2, .int f2_2), (3, .int v3_3), (4, .int v4_4)] [.int s12] (t_m b σ μ) Q) h (fun s12 h => ?_) (fun J44 hJ44 h => ?_)
      · refine zi_istore (lc1 := [(5, _), (0, _), (1, _), (2, _), (3, _), (4, _)]) dX2_serveFor_44 (Nat.le_of_ble_eq_true rfl) rfl ?_
        refine zi_iload 0 dX2_serveFor_46 rfl ?_
        refine zi_if_eq 83 dX2_serveFor_48 (by decide) (fun c13 => ?_) (fun c13 => ?_)
        · replace h := x_iT h c13
          refine zi_iload_n 4 dX2_serveFor_83 rfl rfl ?_
          refine zi_istore_n (lc1 := [(3, _), (5, _), (0, _), (1, _), (2, _), (4, _)]) dX2_serveFor_84 rfl (Nat.le_of_ble_eq_true rfl) rfl ?_
          refine zi_iinc (v := (v4_4 + (1 : Int32))) (lc1 := [(4, _), (3, _), (5, _), (0, _), (1, _), (2, _)]) 5 dX2_serveFor_85 rfl rfl (Nat.le_of_ble_eq_true rfl) rfl ?_
          refine x_lI (fun v14 => z_V g (d + 2) YX2_serveFor 88 [(4, .int v14), (3, .int v3_3), (5, .int s12), (0, .ref b), (1, .int f1_1), (2, .int f2_2)] [] (t_m b σ μ) Q) h (fun v14 h => ?_)
          refine zi_goto 5 dX2_serveFor_88 (by decide) ?_
          refine zi_sub [3, 4, 5, 1, 0] rfl ?_
          exact ih _ _ h
        · replace h := x_iF h c13
          refine zi_iload_n 4 dX2_serveFor_51 rfl rfl ?_
          refine zi_iconst (v := -1) dX2_serveFor_52 (by decide) ?_
          refine x_jI (fun (J : Option Int32) => J = some rz → z_V g (d + 2) YX2_serveFor 78 [(0, .ref b), (1, .int f1_1), (2, .int f2_2), (4, .int v4_4)] [] (t_m b σ μ) Q) h (fun  h => ?_) (fun J78 hJ78 h => ?_)
          · refine zi_iload 3 dX2_serveFor_78 rfl ?_
            refine zi_goto 84 dX2_serveFor_80 (by decide) ?_
            refine zi_istore_n (lc1 := [(3, _), (0, _), (1, _), (2, _), (4, _)]) dX2_serveFor_84 rfl (Nat.le_of_ble_eq_true rfl) rfl ?_
            refine zi_iinc (v := (v4_4 + (1 : Int32))) (lc1 := [(4, _), (3, _), (0, _), (1, _), (2, _)]) 4 dX2_serveFor_85 rfl rfl (Nat.le_of_ble_eq_true rfl) rfl ?_
            refine x_lI (fun v15 => z_V g (d + 2) YX2_serveFor 88 [(4, .int v15), (3, .int v4_4), (0, .ref b), (1, .int f1_1), (2, .int f2_2)] [] (t_m b σ μ) Q) h (fun v15 h => ?_)
            refine zi_goto 5 dX2_serveFor_88 (by decide) ?_
            refine zi_sub [2, 3, 4, 1, 0] rfl ?_
            exact ih _ _ h
          refine zi_icmp_eq 78 dX2_serveFor_53 (by decide) (fun c16 => ?_) (fun c16 => ?_)
          · replace h := x_iT h c16
            refine zi_sub [1, 2, 3, 5] rfl ?_
            exact hJ78  h
          · replace h := x_iF h c16
            refine zi_aload_n 1 dX2_serveFor_56 rfl rfl ?_
            refine zi_iload 5 dX2_serveFor_57 rfl ?_
            refine zi_iconst (v := 1) dX2_serveFor_59 (by decide) ?_
            obtain ⟨r18, h17, h⟩ := x_bE h
            refine zi_callV [.int v4_4, .int (1 : Int32)] mX2_serveAt rfl q2603 t_rec rfl rfl (Nat.le_of_ble_eq_true rfl) dX2_serveFor_60 ?_
            refine w_serveAt h17 ?_
            obtain ⟨r20, h19, h⟩ := x_bE h
            refine zi_callS [.int r18] mX2_lettersOf rfl q2712 rfl rfl (Nat.le_of_ble_eq_true rfl) dX2_serveFor_63 ?_
            refine w_lettersOf h19 ?_
            refine zi_aload_n 1 dX2_serveFor_66 rfl rfl ?_
            refine zi_iload_n 4 dX2_serveFor_67 rfl rfl ?_
            refine zi_iconst (v := 1) dX2_serveFor_68 (by decide) ?_
            obtain ⟨r22, h21, h⟩ := x_bE h
            refine zi_callV [.int v3_3, .int (1 : Int32)] mX2_serveAt rfl q2603 t_rec rfl rfl (Nat.le_of_ble_eq_true rfl) dX2_serveFor_69 ?_
            refine w_serveAt h21 ?_
            obtain ⟨r24, h23, h⟩ := x_bE h
            refine zi_callS [.int r22] mX2_lettersOf rfl q2712 rfl rfl (Nat.le_of_ble_eq_true rfl) dX2_serveFor_72 ?_
            refine w_lettersOf h23 ?_
            refine zi_icmp_le 83 dX2_serveFor_75 (by decide) (fun c25 => ?_) (fun c25 => ?_)
            · replace h := x_iT h c25
              refine zi_iload_n 4 dX2_serveFor_83 rfl rfl ?_
              refine zi_istore_n (lc1 := [(3, _), (5, _), (0, _), (1, _), (2, _), (4, _)]) dX2_serveFor_84 rfl (Nat.le_of_ble_eq_true rfl) rfl ?_
              refine zi_iinc (v := (v4_4 + (1 : Int32))) (lc1 := [(4, _), (3, _), (5, _), (0, _), (1, _), (2, _)]) 5 dX2_serveFor_85 rfl rfl (Nat.le_of_ble_eq_true rfl) rfl ?_
              refine x_lI (fun v26 => z_V g (d + 2) YX2_serveFor 88 [(4, .int v26), (3, .int v3_3), (5, .int s12), (0, .ref b), (1, .int f1_1), (2, .int f2_2)] [] (t_m b σ μ) Q) h (fun v26 h => ?_)
              refine zi_goto 5 dX2_serveFor_88 (by decide) ?_
              refine zi_sub [3, 4, 5, 1, 0] rfl ?_
              exact ih _ _ h
            · replace h := x_iF h c25
              refine zi_sub [1, 2, 3, 5] rfl ?_
              exact hJ78  h
      refine x_jI (fun (J : Option Int32) => J = some rz → z_V g (d + 2) YX2_serveFor 43 [(0, .ref b), (1, .int f1_1), (2, .int f2_2), (3, .int v3_3), (4, .int v4_4)] [] (t_m b σ μ) Q) h (fun  h => ?_) (fun J43 hJ43 h => ?_)
      · refine zi_iconst (v := 0) dX2_serveFor_43 (by decide) ?_
        exact hJ44 _ h
      refine zi_icmp_ne 43 dX2_serveFor_22 (by decide) (fun c27 => ?_) (fun c27 => ?_)
      · replace h := x_iF h c27
        exact hJ43  h
      · replace h := x_iT h c27
        refine zi_aload_n 0 dX2_serveFor_25 rfl rfl ?_
        refine zi_iload 4 dX2_serveFor_26 rfl ?_
        refine zi_iconst (v := 1) dX2_serveFor_28 (by decide) ?_
        obtain ⟨r29, h28, h⟩ := x_bE h
        refine zi_callV [.int v4_4, .int (1 : Int32)] mX2_serveAt rfl q2603 t_rec rfl rfl (Nat.le_of_ble_eq_true rfl) dX2_serveFor_29 ?_
        refine w_serveAt h28 ?_
        refine zi_iload_n 2 dX2_serveFor_32 rfl rfl ?_
        obtain ⟨r31, h30, h⟩ := x_bE h
        refine zi_callS [.int r29, .int f2_2] mX2_isBeginning rfl q2709 rfl rfl (Nat.le_of_ble_eq_true rfl) dX2_serveFor_33 ?_
        refine w_isBeginning h30 ?_
        refine zi_if_eq 43 dX2_serveFor_36 (by decide) (fun c32 => ?_) (fun c32 => ?_)
        · replace h := x_iT h c32
          exact hJ43  h
        · replace h := x_iF h c32
          refine zi_iconst (v := 1) dX2_serveFor_39 (by decide) ?_
          refine zi_goto 44 dX2_serveFor_40 (by decide) ?_
          exact hJ44 _ h
noncomputable def D_serveFor (a1 : Int32) (a2 : Int32) (σ : t_S) : Option Int32 :=
  D_serveFor_5 a1 a2 σ
    (fun (v3_33 : Int32) => some v3_33)
    x_F (-1 : Int32) (0 : Int32)
theorem w_serveFor {a1 : Int32} {a2 : Int32} {rz : Int32} (h : D_serveFor a1 a2 σ = some rz) (hQ : Q (.inl (some (.int rz))) (t_m b σ μ)) : z_K g (d + 2) YX2_serveFor [.ref b, .int a1, .int a2] (t_m b σ μ) Q := by
  unfold D_serveFor at h
  refine z_K.of (by decide) rfl (Nat.le_of_ble_eq_true rfl) ?_
  refine zi_iconst (v := -1) dX2_serveFor_0 (by decide) ?_
  refine zi_istore_n (lc1 := [(3, _), (0, _), (1, _), (2, _)]) dX2_serveFor_1 rfl (Nat.le_of_ble_eq_true rfl) rfl ?_
  refine zi_iconst (v := 0) dX2_serveFor_2 (by decide) ?_
  refine zi_istore (lc1 := [(4, _), (3, _), (0, _), (1, _), (2, _)]) dX2_serveFor_3 (Nat.le_of_ble_eq_true rfl) rfl ?_
  refine zi_sub [2, 3, 4, 1, 0] rfl ?_
  refine w_serveFor_5 (fun v3_33 h => ?_) hQ _ _ _ h
  · refine zi_iload_n 0 dX2_serveFor_91 rfl rfl ?_
    refine zi_ireturn rfl rfl dX2_serveFor_92 ?_
    exact x_r1i h hQ
noncomputable def D_longestAt_5 (f1_1 : Int32) (f2_2 : Int32) (σ : t_S) (k76 : Int32 → Option Int32) : Nat → Int32 → Int32 → Option Int32
  | 0, _, _ => none
  | f + 1, v3_3, v4_4 =>
    x_b (D_routes σ) fun r8 =>
    if r8 ≤ v4_4 then (k76 v3_3) else
    x_b (D_routeAt v4_4 (0 : Int32) σ) fun r11 =>
    x_l (fun (s12 : Int32) => if s12 = 0 then (x_l (v4_4 + (1 : Int32)) fun v14 =>
    D_longestAt_5 f1_1 f2_2 σ k76 f v3_3 v14) else
    x_b (D_routeAt v4_4 (1 : Int32) σ) fun r16 =>
    x_b (D_lettersOf r16) fun r18 =>
    x_b (D_greater v3_3 r18) fun r20 =>
    x_l (v4_4 + (1 : Int32)) fun v21 =>
    D_longestAt_5 f1_1 f2_2 σ k76 f r20 v21) fun J44 =>
    x_l (J44 (0 : Int32)) fun J43 =>
    if r11 = f1_1 then (x_b (D_routeAt v4_4 (1 : Int32) σ) fun r24 =>
    x_b (D_isBeginning r24 f2_2) fun r26 =>
    if r26 = 0 then (J43) else
    J44 (1 : Int32)) else
    J43
theorem w_longestAt_5 {f1_1 : Int32} {f2_2 : Int32} {σ : t_S} {rz : Int32} {k76 : Int32 → Option Int32} (hk76 : ∀ (v3_5 : Int32), k76 v3_5 = some rz → z_V g (d + 2) YX2_longestAt 76 [(3, .int v3_5)] [] (t_m b σ μ) Q) (hQ : Q (.inl (some (.int rz))) (t_m b σ μ)) : ∀ (f : Nat) (v3_3 : Int32) (v4_4 : Int32), D_longestAt_5 f1_1 f2_2 σ k76 f v3_3 v4_4 = some rz → z_V g (d + 2) YX2_longestAt 5 [(0, .ref b), (1, .int f1_1), (2, .int f2_2), (3, .int v3_3), (4, .int v4_4)] [] (t_m b σ μ) Q := by
  intro f
  induction f with
  | zero =>
    intro v3_3 v4_4 h
    exact absurd h (x_n _)
  | succ f ih =>
    intro v3_3 v4_4 h
    refine zi_iload 4 dX2_longestAt_5 rfl ?_
    refine zi_aload_n 0 dX2_longestAt_7 rfl rfl ?_
    obtain ⟨r8, h7, h⟩ := x_bE h
    refine zi_callV [] mX2_routes rfl q2591 t_rec rfl rfl (Nat.le_of_ble_eq_true rfl) dX2_longestAt_8 ?_
    refine w_routes h7 ?_
    refine zi_icmp_ge 76 dX2_longestAt_11 (by decide) (fun c9 => ?_) (fun c9 => ?_)
    · replace h := x_iT h c9
      refine zi_sub [3] rfl ?_
      exact hk76 _ h
    · replace h := x_iF h c9
      refine zi_aload_n 0 dX2_longestAt_14 rfl rfl ?_
      refine zi_iload 4 dX2_longestAt_15 rfl ?_
      refine zi_iconst (v := 0) dX2_longestAt_17 (by decide) ?_
      obtain ⟨r11, h10, h⟩ := x_bE h
      refine zi_callV [.int v4_4, .int (0 : Int32)] mX2_routeAt rfl q2595 t_rec rfl rfl (Nat.le_of_ble_eq_true rfl) dX2_longestAt_18 ?_
      refine w_routeAt h10 ?_
      refine zi_iload_n 1 dX2_longestAt_21 rfl rfl ?_
      refine x_jI (fun (J : Int32 → Option Int32) => ∀ (s12 : Int32), J s12 = some rz → z_V g (d + 2) YX2_longestAt 44 [(0, .ref b), (1, .int f1_1), (2, .int f2_2), (3, .int v3_3), (4, .int v4_4)] [.int s12] (t_m b σ μ) Q) h (fun s12 h => ?_) (fun J44 hJ44 h => ?_)
      · refine zi_istore (lc1 := [(5, _), (0, _), (1, _), (2, _), (3, _), (4, _)]) dX2_longestAt_44 (Nat.le_of_ble_eq_true rfl) rfl ?_
        refine zi_iload 0 dX2_longestAt_46 rfl ?_
        refine zi_if_eq 68 dX2_longestAt_48 (by decide) (fun c13 => ?_) (fun c13 => ?_)
        · replace h := x_iT h c13
          refine zi_iload_n 4 dX2_longestAt_68 rfl rfl ?_
          refine zi_istore_n (lc1 := [(3, _), (5, _), (0, _), (1, _), (2, _), (4, _)]) dX2_longestAt_69 rfl (Nat.le_of_ble_eq_true rfl) rfl ?_
          refine zi_iinc (v := (v4_4 + (1 : Int32))) (lc1 := [(4, _), (3, _), (5, _), (0, _), (1, _), (2, _)]) 5 dX2_longestAt_70 rfl rfl (Nat.le_of_ble_eq_true rfl) rfl ?_
          refine x_lI (fun v14 => z_V g (d + 2) YX2_longestAt 73 [(4, .int v14), (3, .int v3_3), (5, .int s12), (0, .ref b), (1, .int f1_1), (2, .int f2_2)] [] (t_m b σ μ) Q) h (fun v14 h => ?_)
          refine zi_goto 5 dX2_longestAt_73 (by decide) ?_
          refine zi_sub [3, 4, 5, 1, 0] rfl ?_
          exact ih _ _ h
        · replace h := x_iF h c13
          refine zi_iload_n 4 dX2_longestAt_51 rfl rfl ?_
          refine zi_aload_n 1 dX2_longestAt_52 rfl rfl ?_
          refine zi_iload 5 dX2_longestAt_53 rfl ?_
          refine zi_iconst (v := 1) dX2_longestAt_55 (by decide) ?_
          obtain ⟨r16, h15, h⟩ := x_bE h
          refine zi_callV [.int v4_4, .int (1 : Int32)] mX2_routeAt rfl q2595 t_rec rfl rfl (Nat.le_of_ble_eq_true rfl) dX2_longestAt_56 ?_
          refine w_routeAt h15 ?_
          obtain ⟨r18, h17, h⟩ := x_bE h
          refine zi_callS [.int r16] mX2_lettersOf rfl q2712 rfl rfl (Nat.le_of_ble_eq_true rfl) dX2_longestAt_59 ?_
          refine w_lettersOf h17 ?_
          obtain ⟨r20, h19, h⟩ := x_bE h
          refine zi_callS [.int v3_3, .int r18] mX2_greater rfl q2499 rfl rfl (Nat.le_of_ble_eq_true rfl) dX2_longestAt_62 ?_
          refine w_greater h19 ?_
          refine zi_goto 69 dX2_longestAt_65 (by decide) ?_
          refine zi_istore_n (lc1 := [(3, _), (5, _), (0, _), (1, _), (2, _), (4, _)]) dX2_longestAt_69 rfl (Nat.le_of_ble_eq_true rfl) rfl ?_
          refine zi_iinc (v := (v4_4 + (1 : Int32))) (lc1 := [(4, _), (3, _), (5, _), (0, _), (1, _), (2, _)]) 5 dX2_longestAt_70 rfl rfl (Nat.le_of_ble_eq_true rfl) rfl ?_
          refine x_lI (fun v21 => z_V g (d + 2) YX2_longestAt 73 [(4, .int v21), (3, .int r20), (5, .int s12), (0, .ref b), (1, .int f1_1), (2, .int f2_2)] [] (t_m b σ μ) Q) h (fun v21 h => ?_)
          refine zi_goto 5 dX2_longestAt_73 (by decide) ?_
          refine zi_sub [3, 4, 5, 1, 0] rfl ?_
          exact ih _ _ h
      refine x_jI (fun (J : Option Int32) => J = some rz → z_V g (d + 2) YX2_longestAt 43 [(0, .ref b), (1, .int f1_1), (2, .int f2_2), (3, .int v3_3), (4, .int v4_4)] [] (t_m b σ μ) Q) h (fun  h => ?_) (fun J43 hJ43 h => ?_)
      · refine zi_iconst (v := 0) dX2_longestAt_43 (by decide) ?_
        exact hJ44 _ h
      refine zi_icmp_ne 43 dX2_longestAt_22 (by decide) (fun c22 => ?_) (fun c22 => ?_)
      · replace h := x_iF h c22
        exact hJ43  h
      · replace h := x_iT h c22
        refine zi_aload_n 0 dX2_longestAt_25 rfl rfl ?_
        refine zi_iload 4 dX2_longestAt_26 rfl ?_
        refine zi_iconst (v := 1) dX2_longestAt_28 (by decide) ?_
        obtain ⟨r24, h23, h⟩ := x_bE h
        refine zi_callV [.int v4_4, .int (1 : Int32)] mX2_routeAt rfl q2595 t_rec rfl rfl (Nat.le_of_ble_eq_true rfl) dX2_longestAt_29 ?_
        refine w_routeAt h23 ?_
        refine zi_iload_n 2 dX2_longestAt_32 rfl rfl ?_
        obtain ⟨r26, h25, h⟩ := x_bE h
        refine zi_callS [.int r24, .int f2_2] mX2_isBeginning rfl q2709 rfl rfl (Nat.le_of_ble_eq_true rfl) dX2_longestAt_33 ?_
        refine w_isBeginning h25 ?_
        refine zi_if_eq 43 dX2_longestAt_36 (by decide) (fun c27 => ?_) (fun c27 => ?_)
        · replace h := x_iT h c27
          exact hJ43  h
        · replace h := x_iF h c27
          refine zi_iconst (v := 1) dX2_longestAt_39 (by decide) ?_
          refine zi_goto 44 dX2_longestAt_40 (by decide) ?_
          exact hJ44 _ h
noncomputable def D_longestAt (a1 : Int32) (a2 : Int32) (σ : t_S) : Option Int32 :=
  D_longestAt_5 a1 a2 σ
    (fun (v3_28 : Int32) => some v3_28)
    x_F (0 : Int32) (0 : Int32)
theorem w_longestAt {a1 : Int32} {a2 : Int32} {rz : Int32} (h : D_longestAt a1 a2 σ = some rz) (hQ : Q (.inl (some (.int rz))) (t_m b σ μ)) : z_K g (d + 2) YX2_longestAt [.ref b, .int a1, .int a2] (t_m b σ μ) Q := by
  unfold D_longestAt at h
  refine z_K.of (by decide) rfl (Nat.le_of_ble_eq_true rfl) ?_
  refine zi_iconst (v := 0) dX2_longestAt_0 (by decide) ?_
  refine zi_istore_n (lc1 := [(3, _), (0, _), (1, _), (2, _)]) dX2_longestAt_1 rfl (Nat.le_of_ble_eq_true rfl) rfl ?_
  refine zi_iconst (v := 0) dX2_longestAt_2 (by decide) ?_
  refine zi_istore (lc1 := [(4, _), (3, _), (0, _), (1, _), (2, _)]) dX2_longestAt_3 (Nat.le_of_ble_eq_true rfl) rfl ?_
  refine zi_sub [2, 3, 4, 1, 0] rfl ?_
  refine w_longestAt_5 (fun v3_28 h => ?_) hQ _ _ _ h
  · refine zi_iload_n 0 dX2_longestAt_76 rfl rfl ?_
    refine zi_ireturn rfl rfl dX2_longestAt_77 ?_
    exact x_r1i h hQ
noncomputable def D_isRoute (a1 : Int32) (a2 : Int32) (a3 : Int32) (a4 : Int32) (σ : t_S) : Option Int32 :=
  x_b (D_routeAt a1 (0 : Int32) σ) fun r2 =>
  if r2 = a2 then (x_b (D_routeAt a1 (1 : Int32) σ) fun r5 =>
  x_b (D_lettersOf r5) fun r7 =>
  if r7 = a4 then (x_b (D_routeAt a1 (1 : Int32) σ) fun r10 =>
  x_b (D_isBeginning r10 a3) fun r12 =>
  if r12 = 0 then (some (0 : Int32)) else
  some (1 : Int32)) else
  some (0 : Int32)) else
  some (0 : Int32)
theorem w_isRoute {a1 : Int32} {a2 : Int32} {a3 : Int32} {a4 : Int32} {rz : Int32} (h : D_isRoute a1 a2 a3 a4 σ = some rz) (hQ : Q (.inl (some (.int rz))) (t_m b σ μ)) : z_K g (d + 2) YX2_isRoute [.ref b, .int a1, .int a2, .int a3, .int a4] (t_m b σ μ) Q := by
  unfold D_isRoute at h
  refine z_K.of (by decide) rfl (Nat.le_of_ble_eq_true rfl) ?_
  refine zi_aload_n 0 dX2_isRoute_0 rfl rfl ?_
  refine zi_iload_n 1 dX2_isRoute_1 rfl rfl ?_
  refine zi_iconst (v := 0) dX2_isRoute_2 (by decide) ?_
  obtain ⟨r2, h1, h⟩ := x_bE h
  refine zi_callV [.int a1, .int (0 : Int32)] mX2_routeAt rfl q2595 t_rec rfl rfl (Nat.le_of_ble_eq_true rfl) dX2_isRoute_3 ?_
  refine w_routeAt h1 ?_
  refine zi_iload_n 2 dX2_isRoute_6 rfl rfl ?_
  refine zi_icmp_ne 41 dX2_isRoute_7 (by decide) (fun c3 => ?_) (fun c3 => ?_)
  · replace h := x_iF h c3
    refine zi_iconst (v := 0) dX2_isRoute_41 (by decide) ?_
    refine zi_ireturn rfl rfl dX2_isRoute_42 ?_
    exact x_r1i h hQ
  · replace h := x_iT h c3
    refine zi_aload_n 0 dX2_isRoute_10 rfl rfl ?_
    refine zi_iload_n 1 dX2_isRoute_11 rfl rfl ?_
    refine zi_iconst (v := 1) dX2_isRoute_12 (by decide) ?_
    obtain ⟨r5, h4, h⟩ := x_bE h
    refine zi_callV [.int a1, .int (1 : Int32)] mX2_routeAt rfl q2595 t_rec rfl rfl (Nat.le_of_ble_eq_true rfl) dX2_isRoute_13 ?_
    refine w_routeAt h4 ?_
    obtain ⟨r7, h6, h⟩ := x_bE h
    refine zi_callS [.int r5] mX2_lettersOf rfl q2712 rfl rfl (Nat.le_of_ble_eq_true rfl) dX2_isRoute_16 ?_
    refine w_lettersOf h6 ?_
    refine zi_iload 4 dX2_isRoute_19 rfl ?_
    refine zi_icmp_ne 41 dX2_isRoute_21 (by decide) (fun c8 => ?_) (fun c8 => ?_)
    · replace h := x_iF h c8
      refine zi_iconst (v := 0) dX2_isRoute_41 (by decide) ?_
      refine zi_ireturn rfl rfl dX2_isRoute_42 ?_
      exact x_r1i h hQ
    · replace h := x_iT h c8
      refine zi_aload_n 0 dX2_isRoute_24 rfl rfl ?_
      refine zi_iload_n 1 dX2_isRoute_25 rfl rfl ?_
      refine zi_iconst (v := 1) dX2_isRoute_26 (by decide) ?_
      obtain ⟨r10, h9, h⟩ := x_bE h
      refine zi_callV [.int a1, .int (1 : Int32)] mX2_routeAt rfl q2595 t_rec rfl rfl (Nat.le_of_ble_eq_true rfl) dX2_isRoute_27 ?_
      refine w_routeAt h9 ?_
      refine zi_iload_n 3 dX2_isRoute_30 rfl rfl ?_
      obtain ⟨r12, h11, h⟩ := x_bE h
      refine zi_callS [.int r10, .int a3] mX2_isBeginning rfl q2709 rfl rfl (Nat.le_of_ble_eq_true rfl) dX2_isRoute_31 ?_
      refine w_isBeginning h11 ?_
      refine zi_if_eq 41 dX2_isRoute_34 (by decide) (fun c13 => ?_) (fun c13 => ?_)
      · replace h := x_iT h c13
        refine zi_iconst (v := 0) dX2_isRoute_41 (by decide) ?_
        refine zi_ireturn rfl rfl dX2_isRoute_42 ?_
        exact x_r1i h hQ
      · replace h := x_iF h c13
        refine zi_iconst (v := 1) dX2_isRoute_37 (by decide) ?_
        refine zi_goto 42 dX2_isRoute_38 (by decide) ?_
        refine zi_ireturn rfl rfl dX2_isRoute_42 ?_
        exact x_r1i h hQ
noncomputable def D_changes (a1 : Int32) (a2 : Int32) (a3 : Int32) (σ : t_S) : Option (Int32 × t_S) :=
  x_b (D_isNode a1 σ) fun r2 =>
  x_l (fun (s3 : Int32) => if s3 = (-1 : Int32) then (some ((0 : Int32), σ)) else
  x_b (D_has (t_i σ 26) s3) fun r6 =>
  if r6 = a3 then (some ((0 : Int32), σ)) else
  if a3 = 0 then (x_l (t_si σ 26 ((t_i σ 26) &&& (((1 : Int32) <<< (s3 &&& 31)) ^^^ (-1 : Int32)))) fun σ9 =>
  some ((1 : Int32), σ9)) else
  x_l (t_si σ 26 ((t_i σ 26) ||| ((1 : Int32) <<< (s3 &&& 31)))) fun σ10 =>
  some ((1 : Int32), σ10)) fun J31 =>
  x_l (J31 (-1 : Int32)) fun J30 =>
  if r2 = 0 then (J30) else
  x_b (D_isNode a2 σ) fun r13 =>
  if r13 = 0 then (J30) else
  x_ga (((6 : Int32) * a1) + a2) 36 fun j15 =>
  J31 (t_a σ 25 j15)
theorem w_changes {a1 : Int32} {a2 : Int32} {a3 : Int32} {rz : Int32} (h : D_changes a1 a2 a3 σ = some (rz, σz)) (hQ : Q (.inl (some (.int rz))) (t_m b σz μ)) : z_K g (d + 2) YX2_changes [.ref b, .int a1, .int a2, .int a3] (t_m b σ μ) Q := by
  unfold D_changes at h
  refine z_K.of (by decide) rfl (Nat.le_of_ble_eq_true rfl) ?_
  refine zi_aload_n 0 dX2_changes_0 rfl rfl ?_
  refine zi_iload_n 1 dX2_changes_1 rfl rfl ?_
  obtain ⟨r2, h1, h⟩ := x_bE h
  refine zi_callV [.int a1] mX2_isNode rfl q2571 t_rec rfl rfl (Nat.le_of_ble_eq_true rfl) dX2_changes_2 ?_
  refine w_isNode h1 ?_
  refine x_jI (fun (J : Int32 → Option (Int32 × t_S)) => ∀ (s3 : Int32), J s3 = some (rz, σz) → z_V g (d + 2) YX2_changes 31 [(0, .ref b), (3, .int a3)] [.int s3] (t_m b σ μ) Q) h (fun s3 h => ?_) (fun J31 hJ31 h => ?_)
  · refine zi_istore (lc1 := [(4, _), (0, _), (3, _)]) dX2_changes_31 (Nat.le_of_ble_eq_true rfl) rfl ?_
    refine zi_iload 0 dX2_changes_33 rfl ?_
    refine zi_iconst (v := -1) dX2_changes_35 (by decide) ?_
    refine zi_icmp_eq 52 dX2_changes_36 (by decide) (fun c4 => ?_) (fun c4 => ?_)
    · replace h := x_iT h c4
      refine zi_iconst (v := 0) dX2_changes_52 (by decide) ?_
      refine zi_ireturn rfl rfl dX2_changes_53 ?_
      exact x_r2i h hQ
    · replace h := x_iF h c4
      refine zi_aload_n 1 dX2_changes_39 rfl rfl ?_
      refine ti_getI 26 ⟨Nat.le_of_ble_eq_true rfl, rfl⟩ q2196 dX2_changes_40 ?_
      refine zi_iload 0 dX2_changes_43 rfl ?_
      obtain ⟨r6, h5, h⟩ := x_bE h
      refine zi_callS [.int (t_i σ 26), .int s3] mX2_has rfl q2682 rfl rfl (Nat.le_of_ble_eq_true rfl) dX2_changes_45 ?_
      refine w_has h5 ?_
      refine zi_iload_n 2 dX2_changes_48 rfl rfl ?_
      refine zi_icmp_ne 54 dX2_changes_49 (by decide) (fun c7 => ?_) (fun c7 => ?_)
      · replace h := x_iF h c7
        refine zi_aload_n 1 dX2_changes_54 rfl rfl ?_
        refine zi_iload_n 2 dX2_changes_55 rfl rfl ?_
        refine zi_if_eq 71 dX2_changes_56 (by decide) (fun c8 => ?_) (fun c8 => ?_)
        · replace h := x_iT h c8
          refine zi_aload_n 1 dX2_changes_71 rfl rfl ?_
          refine ti_getI 26 ⟨Nat.le_of_ble_eq_true rfl, rfl⟩ q2196 dX2_changes_72 ?_
          refine zi_iconst (v := 1) dX2_changes_75 (by decide) ?_
          refine zi_iload 0 dX2_changes_76 rfl ?_
          refine zi_ishl dX2_changes_78 ?_
          refine zi_iconst (v := -1) dX2_changes_79 (by decide) ?_
          refine zi_ixor dX2_changes_80 ?_
          refine zi_iand dX2_changes_81 ?_
          refine ti_putI 26 ⟨Nat.le_of_ble_eq_true rfl, rfl, rfl⟩ (tyX2_ok 26 (Nat.le_of_ble_eq_true rfl)) q2196 dX2_changes_82 ?_
          refine x_lI (fun σ9 => z_V g (d + 2) YX2_changes 85 [(4, .int s3), (0, .ref b), (3, .int a3)] [] (t_m b σ9 μ) Q) h (fun σ9 h => ?_)
          refine zi_iconst (v := 1) dX2_changes_85 (by decide) ?_
          refine zi_ireturn rfl rfl dX2_changes_86 ?_
          exact x_r2i h hQ
        · replace h := x_iF h c8
          refine zi_aload_n 1 dX2_changes_59 rfl rfl ?_
          refine ti_getI 26 ⟨Nat.le_of_ble_eq_true rfl, rfl⟩ q2196 dX2_changes_60 ?_
          refine zi_iconst (v := 1) dX2_changes_63 (by decide) ?_
          refine zi_iload 0 dX2_changes_64 rfl ?_
          refine zi_ishl dX2_changes_66 ?_
          refine zi_ior dX2_changes_67 ?_
          refine zi_goto 82 dX2_changes_68 (by decide) ?_
          refine ti_putI 26 ⟨Nat.le_of_ble_eq_true rfl, rfl, rfl⟩ (tyX2_ok 26 (Nat.le_of_ble_eq_true rfl)) q2196 dX2_changes_82 ?_
          refine x_lI (fun σ10 => z_V g (d + 2) YX2_changes 85 [(4, .int s3), (0, .ref b), (3, .int a3)] [] (t_m b σ10 μ) Q) h (fun σ10 h => ?_)
          refine zi_iconst (v := 1) dX2_changes_85 (by decide) ?_
          refine zi_ireturn rfl rfl dX2_changes_86 ?_
          exact x_r2i h hQ
      · replace h := x_iT h c7
        refine zi_iconst (v := 0) dX2_changes_52 (by decide) ?_
        refine zi_ireturn rfl rfl dX2_changes_53 ?_
        exact x_r2i h hQ
  refine x_jI (fun (J : Option (Int32 × t_S)) => J = some (rz, σz) → z_V g (d + 2) YX2_changes 30 [(0, .ref b), (3, .int a3)] [] (t_m b σ μ) Q) h (fun  h => ?_) (fun J30 hJ30 h => ?_)
  · refine zi_iconst (v := -1) dX2_changes_30 (by decide) ?_
    exact hJ31 _ h
  refine zi_if_eq 30 dX2_changes_5 (by decide) (fun c11 => ?_) (fun c11 => ?_)
  · replace h := x_iT h c11
    refine zi_sub [0, 3] rfl ?_
    exact hJ30  h
  · replace h := x_iF h c11
    refine zi_aload_n 0 dX2_changes_8 rfl rfl ?_
    refine zi_iload_n 2 dX2_changes_9 rfl rfl ?_
    obtain ⟨r13, h12, h⟩ := x_bE h
    refine zi_callV [.int a2] mX2_isNode rfl q2571 t_rec rfl rfl (Nat.le_of_ble_eq_true rfl) dX2_changes_10 ?_
    refine w_isNode h12 ?_
    refine zi_if_eq 30 dX2_changes_13 (by decide) (fun c14 => ?_) (fun c14 => ?_)
    · replace h := x_iT h c14
      refine zi_sub [0, 3] rfl ?_
      exact hJ30  h
    · replace h := x_iF h c14
      refine zi_aload_n 0 dX2_changes_16 rfl rfl ?_
      refine ti_getA 25 11 t_o25 q2195 dX2_changes_17 ?_
      refine zi_bipush (v := 6) dX2_changes_20 (by decide) ?_
      refine zi_iload_n 1 dX2_changes_22 rfl rfl ?_
      refine zi_imul dX2_changes_23 ?_
      refine zi_iload_n 2 dX2_changes_24 rfl rfl ?_
      refine zi_iadd dX2_changes_25 ?_
      obtain ⟨j15, hj15, h⟩ := x_gaE h
      refine ti_iald 25 j15 36 10 ⟨rfl, rfl⟩ hj15 dX2_changes_26 ?_
      refine zi_goto 31 dX2_changes_27 (by decide) ?_
      refine zi_sub [0, 3] rfl ?_
      exact hJ31 _ h
noncomputable def D_ofState (a1 : Int32) (σ : t_S) : Option Int32 :=
  if a1 < (100 : Int32) then (x_l (a1 - a1 / (10 : Int32) * (10 : Int32)) fun v2 =>
  x_l (fun (s3 : Int32) => if s3 = 0 then (some (t_i σ 27)) else
  if s3 = 1 then (some (t_i σ 45)) else
  if s3 = 2 then (x_b (D_entriesAll σ) fun r8 =>
  some r8) else
  if s3 = 3 then (x_b (D_ones (t_i σ 26)) fun r11 =>
  some r11) else
  if s3 = 10 then (x_b (D_isNode v2 σ) fun r14 =>
  if r14 = 0 then (some (-2 : Int32)) else
  x_ga v2 6 fun j16 =>
  some (t_a σ 34 j16)) else
  if s3 = 20 then (x_b (D_isNode v2 σ) fun r19 =>
  if r19 = 0 then (some (-2 : Int32)) else
  x_ga v2 6 fun j21 =>
  some (t_a σ 30 j21)) else
  if s3 = 30 then (x_b (D_isNode v2 σ) fun r24 =>
  if r24 = 0 then (some (-2 : Int32)) else
  x_ga v2 6 fun j26 =>
  x_b (D_onesL (t_l σ 28 j26)) fun r28 =>
  some r28) else
  some (-2 : Int32)) fun J74 =>
  if (10 : Int32) ≤ a1 then (J74 ((10 : Int32) * (a1 / (10 : Int32)))) else
  J74 a1) else
  x_l ((a1 - (100 : Int32)) / (10 : Int32)) fun v30 =>
  x_l (a1 - a1 / (10 : Int32) * (10 : Int32)) fun v31 =>
  x_b (D_isNode v30 σ) fun r33 =>
  if r33 = 0 then (some (-2 : Int32)) else
  x_b (D_isNode v31 σ) fun r36 =>
  if r36 = 0 then (some (-2 : Int32)) else
  x_ga (((6 : Int32) * v30) + v31) 36 fun j38 =>
  some (t_a σ 29 j38)
theorem w_ofState {a1 : Int32} {rz : Int32} (h : D_ofState a1 σ = some rz) (hQ : Q (.inl (some (.int rz))) (t_m b σ μ)) : z_K g (d + 2) YX2_ofState [.ref b, .int a1] (t_m b σ μ) Q := by
  unfold D_ofState at h
  refine z_K.of (by decide) rfl (Nat.le_of_ble_eq_true rfl) ?_
  refine zi_iload_n 1 dX2_ofState_0 rfl rfl ?_
  refine zi_bipush (v := 100) dX2_ofState_1 (by decide) ?_
  refine zi_icmp_lt 52 dX2_ofState_3 (by decide) (fun c1 => ?_) (fun c1 => ?_)
  · replace h := x_iT h c1
    refine zi_iload_n 1 dX2_ofState_52 rfl rfl ?_
    refine zi_bipush (v := 10) dX2_ofState_53 (by decide) ?_
    refine zi_irem dX2_ofState_55 (by decide) ?_
    refine zi_istore_n (lc1 := [(2, _), (0, _), (1, _)]) dX2_ofState_56 rfl (Nat.le_of_ble_eq_true rfl) rfl ?_
    refine x_lI (fun v2 => z_V g (d + 2) YX2_ofState 57 [(2, .int v2), (0, .ref b), (1, .int a1)] [] (t_m b σ μ) Q) h (fun v2 h => ?_)
    refine zi_iload_n 2 dX2_ofState_57 rfl rfl ?_
    refine zi_bipush (v := 10) dX2_ofState_58 (by decide) ?_
    refine x_jI (fun (J : Int32 → Option Int32) => ∀ (s3 : Int32), J s3 = some rz → z_V g (d + 2) YX2_ofState 74 [(0, .ref b), (2, .int v2)] [.int s3] (t_m b σ μ) Q) h (fun s3 h => ?_) (fun J74 hJ74 h => ?_)
    · rcases Decidable.em (s3 = (0 : Int32)) with c4 | c4
      · replace h := x_iT h c4
        refine zi_lookup 140 dX2_ofState_74 (by decide) (by rw [c4] <;> rfl) (by decide) ?_
        refine zi_aload_n 0 dX2_ofState_140 rfl rfl ?_
        refine ti_getI 27 ⟨Nat.le_of_ble_eq_true rfl, rfl⟩ q2197 dX2_ofState_141 ?_
        refine zi_ireturn rfl rfl dX2_ofState_144 ?_
        exact x_r1i h hQ
      replace h := x_iF h c4
      rcases Decidable.em (s3 = (1 : Int32)) with c5 | c5
      · replace h := x_iT h c5
        refine zi_lookup 145 dX2_ofState_74 (by decide) (by rw [c5] <;> rfl) (by decide) ?_
        refine zi_aload_n 0 dX2_ofState_145 rfl rfl ?_
        refine ti_getI 45 ⟨Nat.le_of_ble_eq_true rfl, rfl⟩ q2215 dX2_ofState_146 ?_
        refine zi_ireturn rfl rfl dX2_ofState_149 ?_
        exact x_r1i h hQ
      replace h := x_iF h c5
      rcases Decidable.em (s3 = (2 : Int32)) with c6 | c6
      · replace h := x_iT h c6
        refine zi_lookup 150 dX2_ofState_74 (by decide) (by rw [c6] <;> rfl) (by decide) ?_
        refine zi_aload_n 0 dX2_ofState_150 rfl rfl ?_
        obtain ⟨r8, h7, h⟩ := x_bE h
        refine zi_callV [] mX2_entriesAll rfl q2788 t_rec rfl rfl (Nat.le_of_ble_eq_true rfl) dX2_ofState_151 ?_
        refine w_entriesAll h7 ?_
        refine zi_ireturn rfl rfl dX2_ofState_154 ?_
        exact x_r1i h hQ
      replace h := x_iF h c6
      rcases Decidable.em (s3 = (3 : Int32)) with c9 | c9
      · replace h := x_iT h c9
        refine zi_lookup 155 dX2_ofState_74 (by decide) (by rw [c9] <;> rfl) (by decide) ?_
        refine zi_aload_n 0 dX2_ofState_155 rfl rfl ?_
        refine ti_getI 26 ⟨Nat.le_of_ble_eq_true rfl, rfl⟩ q2196 dX2_ofState_156 ?_
        obtain ⟨r11, h10, h⟩ := x_bE h
        refine zi_callS [.int (t_i σ 26)] mX2_ones rfl q2804 rfl rfl (Nat.le_of_ble_eq_true rfl) dX2_ofState_159 ?_
        refine w_ones h10 ?_
        refine zi_ireturn rfl rfl dX2_ofState_162 ?_
        exact x_r1i h hQ
      replace h := x_iF h c9
      rcases Decidable.em (s3 = (10 : Int32)) with c12 | c12
      · replace h := x_iT h c12
        refine zi_lookup 163 dX2_ofState_74 (by decide) (by rw [c12] <;> rfl) (by decide) ?_
        refine zi_aload_n 0 dX2_ofState_163 rfl rfl ?_
        refine zi_iload_n 1 dX2_ofState_164 rfl rfl ?_
        obtain ⟨r14, h13, h⟩ := x_bE h
        refine zi_callV [.int v2] mX2_isNode rfl q2571 t_rec rfl rfl (Nat.le_of_ble_eq_true rfl) dX2_ofState_165 ?_
        refine w_isNode h13 ?_
        refine zi_if_eq 180 dX2_ofState_168 (by decide) (fun c15 => ?_) (fun c15 => ?_)
        · replace h := x_iT h c15
          refine zi_bipush (v := -2) dX2_ofState_180 (by decide) ?_
          refine zi_ireturn rfl rfl dX2_ofState_182 ?_
          exact x_r1i h hQ
        · replace h := x_iF h c15
          refine zi_aload_n 0 dX2_ofState_171 rfl rfl ?_
          refine ti_getA 34 18 t_o34 q2204 dX2_ofState_172 ?_
          refine zi_iload_n 1 dX2_ofState_175 rfl rfl ?_
          obtain ⟨j16, hj16, h⟩ := x_gaE h
          refine ti_iald 34 j16 6 17 ⟨rfl, rfl⟩ hj16 dX2_ofState_176 ?_
          refine zi_goto 182 dX2_ofState_177 (by decide) ?_
          refine zi_ireturn rfl rfl dX2_ofState_182 ?_
          exact x_r1i h hQ
      replace h := x_iF h c12
      rcases Decidable.em (s3 = (20 : Int32)) with c17 | c17
      · replace h := x_iT h c17
        refine zi_lookup 183 dX2_ofState_74 (by decide) (by rw [c17] <;> rfl) (by decide) ?_
        refine zi_aload_n 0 dX2_ofState_183 rfl rfl ?_
        refine zi_iload_n 1 dX2_ofState_184 rfl rfl ?_
        obtain ⟨r19, h18, h⟩ := x_bE h
        refine zi_callV [.int v2] mX2_isNode rfl q2571 t_rec rfl rfl (Nat.le_of_ble_eq_true rfl) dX2_ofState_185 ?_
        refine w_isNode h18 ?_
        refine zi_if_eq 200 dX2_ofState_188 (by decide) (fun c20 => ?_) (fun c20 => ?_)
        · replace h := x_iT h c20
          refine zi_bipush (v := -2) dX2_ofState_200 (by decide) ?_
          refine zi_ireturn rfl rfl dX2_ofState_202 ?_
          exact x_r1i h hQ
        · replace h := x_iF h c20
          refine zi_aload_n 0 dX2_ofState_191 rfl rfl ?_
          refine ti_getA 30 14 t_o30 q2200 dX2_ofState_192 ?_
          refine zi_iload_n 1 dX2_ofState_195 rfl rfl ?_
          obtain ⟨j21, hj21, h⟩ := x_gaE h
          refine ti_iald 30 j21 6 13 ⟨rfl, rfl⟩ hj21 dX2_ofState_196 ?_
          refine zi_goto 202 dX2_ofState_197 (by decide) ?_
          refine zi_ireturn rfl rfl dX2_ofState_202 ?_
          exact x_r1i h hQ
      replace h := x_iF h c17
      rcases Decidable.em (s3 = (30 : Int32)) with c22 | c22
      · replace h := x_iT h c22
        refine zi_lookup 203 dX2_ofState_74 (by decide) (by rw [c22] <;> rfl) (by decide) ?_
        refine zi_aload_n 0 dX2_ofState_203 rfl rfl ?_
        refine zi_iload_n 1 dX2_ofState_204 rfl rfl ?_
        obtain ⟨r24, h23, h⟩ := x_bE h
        refine zi_callV [.int v2] mX2_isNode rfl q2571 t_rec rfl rfl (Nat.le_of_ble_eq_true rfl) dX2_ofState_205 ?_
        refine w_isNode h23 ?_
        refine zi_if_eq 223 dX2_ofState_208 (by decide) (fun c25 => ?_) (fun c25 => ?_)
        · replace h := x_iT h c25
          refine zi_bipush (v := -2) dX2_ofState_223 (by decide) ?_
          refine zi_ireturn rfl rfl dX2_ofState_225 ?_
          exact x_r1i h hQ
        · replace h := x_iF h c25
          refine zi_aload_n 0 dX2_ofState_211 rfl rfl ?_
          refine ti_getA 28 12 t_o28 q2198 dX2_ofState_212 ?_
          refine zi_iload_n 1 dX2_ofState_215 rfl rfl ?_
          obtain ⟨j26, hj26, h⟩ := x_gaE h
          refine ti_lald 28 j26 6 11 ⟨rfl, rfl⟩ hj26 dX2_ofState_216 ?_
          obtain ⟨r28, h27, h⟩ := x_bE h
          refine zi_callS [.long (t_l σ 28 j26)] mX2_onesL rfl q2807 rfl rfl (Nat.le_of_ble_eq_true rfl) dX2_ofState_217 ?_
          refine w_onesL h27 ?_
          refine zi_goto 225 dX2_ofState_220 (by decide) ?_
          refine zi_ireturn rfl rfl dX2_ofState_225 ?_
          exact x_r1i h hQ
      replace h := x_iF h c22
      have hO := x_swL (v := s3) [(0, 66), (1, 71), (2, 76), (3, 81), (10, 89), (20, 109), (30, 129)] 152 (fun q hq => by
        rcases (by simpa using hq : q = (0, 66) ∨ q = (1, 71) ∨ q = (2, 76) ∨ q = (3, 81) ∨ q = (10, 89) ∨ q = (20, 109) ∨ q = (30, 129)) with rfl | rfl | rfl | rfl | rfl | rfl | rfl
        · exact x_swN c4 (by decide)
        · exact x_swN c5 (by decide)
        · exact x_swN c6 (by decide)
        · exact x_swN c9 (by decide)
        · exact x_swN c12 (by decide)
        · exact x_swN c17 (by decide)
        · exact x_swN c22 (by decide))
      refine zi_lookup 226 dX2_ofState_74 (by decide) hO (by decide) ?_
      refine zi_bipush (v := -2) dX2_ofState_226 (by decide) ?_
      refine zi_ireturn rfl rfl dX2_ofState_228 ?_
      exact x_r1i h hQ
    refine zi_icmp_ge 67 dX2_ofState_60 (by decide) (fun c29 => ?_) (fun c29 => ?_)
    · replace h := x_iT h c29
      refine zi_bipush (v := 10) dX2_ofState_67 (by decide) ?_
      refine zi_iload_n 2 dX2_ofState_69 rfl rfl ?_
      refine zi_bipush (v := 10) dX2_ofState_70 (by decide) ?_
      refine zi_idiv dX2_ofState_72 (by decide) ?_
      refine zi_imul dX2_ofState_73 ?_
      refine zi_sub [1, 0] rfl ?_
      exact hJ74 _ h
    · replace h := x_iF h c29
      refine zi_iload_n 2 dX2_ofState_63 rfl rfl ?_
      refine zi_goto 74 dX2_ofState_64 (by decide) ?_
      refine zi_sub [1, 0] rfl ?_
      exact hJ74 _ h
  · replace h := x_iF h c1
    refine zi_iload_n 1 dX2_ofState_6 rfl rfl ?_
    refine zi_bipush (v := 100) dX2_ofState_7 (by decide) ?_
    refine zi_isub dX2_ofState_9 ?_
    refine zi_bipush (v := 10) dX2_ofState_10 (by decide) ?_
    refine zi_idiv dX2_ofState_12 (by decide) ?_
    refine zi_istore_n (lc1 := [(2, _), (0, _), (1, _)]) dX2_ofState_13 rfl (Nat.le_of_ble_eq_true rfl) rfl ?_
    refine x_lI (fun v30 => z_V g (d + 2) YX2_ofState 14 [(2, .int v30), (0, .ref b), (1, .int a1)] [] (t_m b σ μ) Q) h (fun v30 h => ?_)
    refine zi_iload_n 2 dX2_ofState_14 rfl rfl ?_
    refine zi_bipush (v := 10) dX2_ofState_15 (by decide) ?_
    refine zi_irem dX2_ofState_17 (by decide) ?_
    refine zi_istore_n (lc1 := [(3, _), (2, _), (0, _), (1, _)]) dX2_ofState_18 rfl (Nat.le_of_ble_eq_true rfl) rfl ?_
    refine x_lI (fun v31 => z_V g (d + 2) YX2_ofState 19 [(3, .int v31), (2, .int v30), (0, .ref b), (1, .int a1)] [] (t_m b σ μ) Q) h (fun v31 h => ?_)
    refine zi_aload_n 2 dX2_ofState_19 rfl rfl ?_
    refine zi_iload_n 1 dX2_ofState_20 rfl rfl ?_
    obtain ⟨r33, h32, h⟩ := x_bE h
    refine zi_callV [.int v30] mX2_isNode rfl q2571 t_rec rfl rfl (Nat.le_of_ble_eq_true rfl) dX2_ofState_21 ?_
    refine w_isNode h32 ?_
    refine zi_if_eq 49 dX2_ofState_24 (by decide) (fun c34 => ?_) (fun c34 => ?_)
    · replace h := x_iT h c34
      refine zi_bipush (v := -2) dX2_ofState_49 (by decide) ?_
      refine zi_ireturn rfl rfl dX2_ofState_51 ?_
      exact x_r1i h hQ
    · replace h := x_iF h c34
      refine zi_aload_n 2 dX2_ofState_27 rfl rfl ?_
      refine zi_iload_n 0 dX2_ofState_28 rfl rfl ?_
      obtain ⟨r36, h35, h⟩ := x_bE h
      refine zi_callV [.int v31] mX2_isNode rfl q2571 t_rec rfl rfl (Nat.le_of_ble_eq_true rfl) dX2_ofState_29 ?_
      refine w_isNode h35 ?_
      refine zi_if_eq 49 dX2_ofState_32 (by decide) (fun c37 => ?_) (fun c37 => ?_)
      · replace h := x_iT h c37
        refine zi_bipush (v := -2) dX2_ofState_49 (by decide) ?_
        refine zi_ireturn rfl rfl dX2_ofState_51 ?_
        exact x_r1i h hQ
      · replace h := x_iF h c37
        refine zi_aload_n 2 dX2_ofState_35 rfl rfl ?_
        refine ti_getA 29 13 t_o29 q2199 dX2_ofState_36 ?_
        refine zi_bipush (v := 6) dX2_ofState_39 (by decide) ?_
        refine zi_iload_n 1 dX2_ofState_41 rfl rfl ?_
        refine zi_imul dX2_ofState_42 ?_
        refine zi_iload_n 0 dX2_ofState_43 rfl rfl ?_
        refine zi_iadd dX2_ofState_44 ?_
        obtain ⟨j38, hj38, h⟩ := x_gaE h
        refine ti_iald 29 j38 36 12 ⟨rfl, rfl⟩ hj38 dX2_ofState_45 ?_
        refine zi_goto 51 dX2_ofState_46 (by decide) ?_
        refine zi_ireturn rfl rfl dX2_ofState_51 ?_
        exact x_r1i h hQ
noncomputable def D_rowsAt_45 (f1_21 : Int32) (f2_22 : Int32) (f3_23 : Int32) (f4_24 : Int32) (σ : t_S) (k81 : Int32 → Option (Int32 × t_S)) : Nat → Int32 → Int32 → Option (Int32 × t_S)
  | 0, _, _ => none
  | f + 1, v5_25, v6_26 =>
    if f2_22 ≤ v6_26 then (k81 v5_25) else
    x_l (x_l (v6_26 + (1 : Int32)) fun v30 =>
    D_rowsAt_45 f1_21 f2_22 f3_23 f4_24 σ k81 f (1 : Int32) v30) fun J68 =>
    if v5_25 = 0 then (x_ga v6_26 48 fun j32 =>
    if (t_a σ 77 j32) = f4_24 then (J68) else
    x_l (v6_26 + (1 : Int32)) fun v34 =>
    D_rowsAt_45 f1_21 f2_22 f3_23 f4_24 σ k81 f (0 : Int32) v34) else
    J68
theorem w_rowsAt_45 {f1_21 : Int32} {f2_22 : Int32} {f3_23 : Int32} {f4_24 : Int32} {σ : t_S} {rz : Int32} {k81 : Int32 → Option (Int32 × t_S)} (hk81 : ∀ (v5_27 : Int32), k81 v5_27 = some (rz, σz) → z_V g (d + 2) YX2_rowsAt 81 [(0, .ref b), (1, .int f1_21), (2, .int f2_22), (3, .int f3_23), (4, .int f4_24), (5, .int v5_27)] [] (t_m b σ μ) Q) (hQ : Q (.inl (some (.int rz))) (t_m b σz μ)) : ∀ (f : Nat) (v5_25 : Int32) (v6_26 : Int32), D_rowsAt_45 f1_21 f2_22 f3_23 f4_24 σ k81 f v5_25 v6_26 = some (rz, σz) → z_V g (d + 2) YX2_rowsAt 45 [(0, .ref b), (1, .int f1_21), (2, .int f2_22), (3, .int f3_23), (4, .int f4_24), (5, .int v5_25), (6, .int v6_26)] [] (t_m b σ μ) Q := by
  intro f
  induction f with
  | zero =>
    intro v5_25 v6_26 h
    exact absurd h (x_n _)
  | succ f ih =>
    intro v5_25 v6_26 h
    refine zi_iload 6 dX2_rowsAt_45 rfl ?_
    refine zi_iload_n 2 dX2_rowsAt_47 rfl rfl ?_
    refine zi_icmp_ge 81 dX2_rowsAt_48 (by decide) (fun c29 => ?_) (fun c29 => ?_)
    · replace h := x_iT h c29
      refine zi_sub [0, 1, 2, 3, 4, 5] rfl ?_
      exact hk81 _ h
    · replace h := x_iF h c29
      refine zi_iload 5 dX2_rowsAt_51 rfl ?_
      refine x_jI (fun (J : Option (Int32 × t_S)) => J = some (rz, σz) → z_V g (d + 2) YX2_rowsAt 68 [(0, .ref b), (1, .int f1_21), (2, .int f2_22), (3, .int f3_23), (4, .int f4_24), (6, .int v6_26)] [] (t_m b σ μ) Q) h (fun  h => ?_) (fun J68 hJ68 h => ?_)
      · refine zi_iconst (v := 1) dX2_rowsAt_68 (by decide) ?_
        refine zi_goto 73 dX2_rowsAt_69 (by decide) ?_
        refine zi_istore (lc1 := [(5, _), (0, _), (1, _), (2, _), (3, _), (4, _), (6, _)]) dX2_rowsAt_73 (Nat.le_of_ble_eq_true rfl) rfl ?_
        refine zi_iinc (v := (v6_26 + (1 : Int32))) (lc1 := [(6, _), (5, _), (0, _), (1, _), (2, _), (3, _), (4, _)]) 6 dX2_rowsAt_75 rfl rfl (Nat.le_of_ble_eq_true rfl) rfl ?_
        refine x_lI (fun v30 => z_V g (d + 2) YX2_rowsAt 78 [(6, .int v30), (5, .int (1 : Int32)), (0, .ref b), (1, .int f1_21), (2, .int f2_22), (3, .int f3_23), (4, .int f4_24)] [] (t_m b σ μ) Q) h (fun v30 h => ?_)
        refine zi_goto 45 dX2_rowsAt_78 (by decide) ?_
        refine zi_sub [2, 3, 4, 5, 6, 1, 0] rfl ?_
        exact ih _ _ h
      refine zi_if_ne 68 dX2_rowsAt_53 (by decide) (fun c31 => ?_) (fun c31 => ?_)
      · replace h := x_iF h c31
        refine zi_sub [0, 1, 2, 3, 4, 6] rfl ?_
        exact hJ68  h
      · replace h := x_iT h c31
        refine zi_aload_n 0 dX2_rowsAt_56 rfl rfl ?_
        refine ti_getA 77 48 t_o77 q2247 dX2_rowsAt_57 ?_
        refine zi_iload 6 dX2_rowsAt_60 rfl ?_
        obtain ⟨j32, hj32, h⟩ := x_gaE h
        refine ti_iald 77 j32 48 47 ⟨rfl, rfl⟩ hj32 dX2_rowsAt_62 ?_
        refine zi_iload 4 dX2_rowsAt_63 rfl ?_
        refine zi_icmp_ne 72 dX2_rowsAt_65 (by decide) (fun c33 => ?_) (fun c33 => ?_)
        · replace h := x_iF h c33
          refine zi_iconst (v := 0) dX2_rowsAt_72 (by decide) ?_
          refine zi_istore (lc1 := [(5, _), (0, _), (1, _), (2, _), (3, _), (4, _), (6, _)]) dX2_rowsAt_73 (Nat.le_of_ble_eq_true rfl) rfl ?_
          refine zi_iinc (v := (v6_26 + (1 : Int32))) (lc1 := [(6, _), (5, _), (0, _), (1, _), (2, _), (3, _), (4, _)]) 6 dX2_rowsAt_75 rfl rfl (Nat.le_of_ble_eq_true rfl) rfl ?_
          refine x_lI (fun v34 => z_V g (d + 2) YX2_rowsAt 78 [(6, .int v34), (5, .int (0 : Int32)), (0, .ref b), (1, .int f1_21), (2, .int f2_22), (3, .int f3_23), (4, .int f4_24)] [] (t_m b σ μ) Q) h (fun v34 h => ?_)
          refine zi_goto 45 dX2_rowsAt_78 (by decide) ?_
          refine zi_sub [2, 3, 4, 5, 6, 1, 0] rfl ?_
          exact ih _ _ h
        · replace h := x_iT h c33
          refine zi_sub [0, 1, 2, 3, 4, 6] rfl ?_
          exact hJ68  h
noncomputable def D_rowsAt_34 (f1_13 : Int32) (f3_15 : Int32) (k126 : Int32 → t_S → Option (Int32 × t_S)) : Nat → Int32 → Int32 → t_S → Option (Int32 × t_S)
  | 0, _, _, _ => none
  | f + 1, v2_14, v4_16, σ17 =>
    if v4_16 ≤ 0 then (k126 v2_14 σ17) else
    D_rowsAt_45 f1_13 v2_14 f3_15 v4_16 σ17
      (fun (v5_35 : Int32) => x_l (fun (s36 : Int32) (s37 : Int32) => x_ga s36 48 fun j38 =>
    x_l (t_sa σ17 77 j38 s37) fun σ39 =>
    x_l (fun (s40 : Int32) (s41 : Int32) => x_l (s40 + s41) fun v42 =>
    x_l (v4_16 / (27 : Int32)) fun v43 =>
    D_rowsAt_34 f1_13 f3_15 k126 f v42 v43 σ39) fun J114 =>
    if v5_35 = 0 then (J114 v2_14 (1 : Int32)) else
    J114 v2_14 (0 : Int32)) fun J102 =>
    if v5_35 = 0 then (J102 v2_14 v4_16) else
    x_ga v2_14 48 fun j46 =>
    J102 v2_14 (t_a σ17 77 j46))
      x_F (0 : Int32) (0 : Int32)
theorem w_rowsAt_34 {f1_13 : Int32} {f3_15 : Int32} {rz : Int32} {k126 : Int32 → t_S → Option (Int32 × t_S)} (hk126 : ∀ (v2_18 : Int32) (σ19 : t_S), k126 v2_18 σ19 = some (rz, σz) → z_V g (d + 2) YX2_rowsAt 126 [(0, .ref b), (1, .int f1_13), (2, .int v2_18), (3, .int f3_15)] [] (t_m b σ19 μ) Q) (hQ : Q (.inl (some (.int rz))) (t_m b σz μ)) : ∀ (f : Nat) (v2_14 : Int32) (v4_16 : Int32) (σ17 : t_S), D_rowsAt_34 f1_13 f3_15 k126 f v2_14 v4_16 σ17 = some (rz, σz) → z_V g (d + 2) YX2_rowsAt 34 [(0, .ref b), (1, .int f1_13), (2, .int v2_14), (3, .int f3_15), (4, .int v4_16)] [] (t_m b σ17 μ) Q := by
  intro f
  induction f with
  | zero =>
    intro v2_14 v4_16 σ17 h
    exact absurd h (x_n _)
  | succ f ih =>
    intro v2_14 v4_16 σ17 h
    refine zi_iload 4 dX2_rowsAt_34 rfl ?_
    refine zi_if_le 126 dX2_rowsAt_36 (by decide) (fun c20 => ?_) (fun c20 => ?_)
    · replace h := x_iT h c20
      refine zi_sub [0, 1, 2, 3] rfl ?_
      exact hk126 _ _ h
    · replace h := x_iF h c20
      refine zi_iconst (v := 0) dX2_rowsAt_39 (by decide) ?_
      refine zi_istore (lc1 := [(5, _), (0, _), (1, _), (2, _), (3, _), (4, _)]) dX2_rowsAt_40 (Nat.le_of_ble_eq_true rfl) rfl ?_
      refine zi_iconst (v := 0) dX2_rowsAt_42 (by decide) ?_
      refine zi_istore (lc1 := [(6, _), (5, _), (0, _), (1, _), (2, _), (3, _), (4, _)]) dX2_rowsAt_43 (Nat.le_of_ble_eq_true rfl) rfl ?_
      refine zi_sub [2, 3, 4, 5, 6, 1, 0] rfl ?_
      refine w_rowsAt_45 (fun v5_35 h => ?_) hQ _ _ _ h
      · refine zi_aload_n 0 dX2_rowsAt_81 rfl rfl ?_
        refine ti_getA 77 48 t_o77 q2247 dX2_rowsAt_82 ?_
        refine zi_iload_n 2 dX2_rowsAt_85 rfl rfl ?_
        refine zi_iload 5 dX2_rowsAt_86 rfl ?_
        refine x_jI (fun (J : Int32 → Int32 → Option (Int32 × t_S)) => ∀ (s36 : Int32) (s37 : Int32), J s36 s37 = some (rz, σz) → z_V g (d + 2) YX2_rowsAt 102 [(0, .ref b), (1, .int f1_13), (2, .int v2_14), (3, .int f3_15), (4, .int v4_16), (5, .int v5_35)] [.int s37, .int s36, .ref (b + 48)] (t_m b σ17 μ) Q) h (fun s36 s37 h => ?_) (fun J102 hJ102 h => ?_)
        · obtain ⟨j38, hj38, h⟩ := x_gaE h
          refine ti_iast 77 j38 48 47 ⟨rfl, rfl⟩ hj38 dX2_rowsAt_102 ?_
          refine x_lI (fun σ39 => z_V g (d + 2) YX2_rowsAt 103 [(0, .ref b), (1, .int f1_13), (2, .int v2_14), (3, .int f3_15), (4, .int v4_16), (5, .int v5_35)] [] (t_m b σ39 μ) Q) h (fun σ39 h => ?_)
          refine zi_iload_n 2 dX2_rowsAt_103 rfl rfl ?_
          refine zi_iload 5 dX2_rowsAt_104 rfl ?_
          refine x_jI (fun (J : Int32 → Int32 → Option (Int32 × t_S)) => ∀ (s40 : Int32) (s41 : Int32), J s40 s41 = some (rz, σz) → z_V g (d + 2) YX2_rowsAt 114 [(0, .ref b), (1, .int f1_13), (3, .int f3_15), (4, .int v4_16)] [.int s41, .int s40] (t_m b σ39 μ) Q) h (fun s40 s41 h => ?_) (fun J114 hJ114 h => ?_)
          · refine zi_iadd dX2_rowsAt_114 ?_
            refine zi_istore_n (lc1 := [(2, _), (0, _), (1, _), (3, _), (4, _)]) dX2_rowsAt_115 rfl (Nat.le_of_ble_eq_true rfl) rfl ?_
            refine x_lI (fun v42 => z_V g (d + 2) YX2_rowsAt 116 [(2, .int v42), (0, .ref b), (1, .int f1_13), (3, .int f3_15), (4, .int v4_16)] [] (t_m b σ39 μ) Q) h (fun v42 h => ?_)
            refine zi_iload 4 dX2_rowsAt_116 rfl ?_
            refine zi_bipush (v := 27) dX2_rowsAt_118 (by decide) ?_
            refine zi_idiv dX2_rowsAt_120 (by decide) ?_
            refine zi_istore (lc1 := [(4, _), (2, _), (0, _), (1, _), (3, _)]) dX2_rowsAt_121 (Nat.le_of_ble_eq_true rfl) rfl ?_
            refine x_lI (fun v43 => z_V g (d + 2) YX2_rowsAt 123 [(4, .int v43), (2, .int v42), (0, .ref b), (1, .int f1_13), (3, .int f3_15)] [] (t_m b σ39 μ) Q) h (fun v43 h => ?_)
            refine zi_goto 34 dX2_rowsAt_123 (by decide) ?_
            refine zi_sub [2, 3, 1, 4, 0] rfl ?_
            exact ih _ _ _ h
          refine zi_if_eq 113 dX2_rowsAt_106 (by decide) (fun c44 => ?_) (fun c44 => ?_)
          · replace h := x_iT h c44
            refine zi_iconst (v := 1) dX2_rowsAt_113 (by decide) ?_
            refine zi_sub [0, 1, 3, 4] rfl ?_
            exact hJ114 _ _ h
          · replace h := x_iF h c44
            refine zi_iconst (v := 0) dX2_rowsAt_109 (by decide) ?_
            refine zi_goto 114 dX2_rowsAt_110 (by decide) ?_
            refine zi_sub [0, 1, 3, 4] rfl ?_
            exact hJ114 _ _ h
        refine zi_if_eq 100 dX2_rowsAt_88 (by decide) (fun c45 => ?_) (fun c45 => ?_)
        · replace h := x_iT h c45
          refine zi_iload 4 dX2_rowsAt_100 rfl ?_
          exact hJ102 _ _ h
        · replace h := x_iF h c45
          refine zi_aload_n 0 dX2_rowsAt_91 rfl rfl ?_
          refine ti_getA 77 48 t_o77 q2247 dX2_rowsAt_92 ?_
          refine zi_iload_n 2 dX2_rowsAt_95 rfl rfl ?_
          obtain ⟨j46, hj46, h⟩ := x_gaE h
          refine ti_iald 77 j46 48 47 ⟨rfl, rfl⟩ hj46 dX2_rowsAt_96 ?_
          refine zi_goto 102 dX2_rowsAt_97 (by decide) ?_
          exact hJ102 _ _ h
noncomputable def D_rowsAt_4 (f1_1 : Int32) (k132 : Int32 → t_S → Option (Int32 × t_S)) : Nat → Int32 → Int32 → t_S → Option (Int32 × t_S)
  | 0, _, _, _ => none
  | f + 1, v2_2, v3_3, σ4 =>
    x_b (D_routes σ4) fun r8 =>
    if r8 ≤ v3_3 then (k132 v2_2 σ4) else
    x_b (D_routeAt v3_3 (0 : Int32) σ4) fun r11 =>
    x_l (fun (s12 : Int32) => D_rowsAt_34 f1_1 v3_3
      (fun (v2_47 : Int32) (σ48 : t_S) => x_l (v3_3 + (1 : Int32)) fun v49 =>
    D_rowsAt_4 f1_1 k132 f v2_47 v49 σ48)
      x_F v2_2 s12 σ4) fun J32 =>
    if r11 = f1_1 then (x_b (D_routeAt v3_3 (1 : Int32) σ4) fun r52 =>
    J32 r52) else
    J32 (0 : Int32)
theorem w_rowsAt_4 {f1_1 : Int32} {rz : Int32} {k132 : Int32 → t_S → Option (Int32 × t_S)} (hk132 : ∀ (v2_5 : Int32) (σ6 : t_S), k132 v2_5 σ6 = some (rz, σz) → z_V g (d + 2) YX2_rowsAt 132 [(2, .int v2_5)] [] (t_m b σ6 μ) Q) (hQ : Q (.inl (some (.int rz))) (t_m b σz μ)) : ∀ (f : Nat) (v2_2 : Int32) (v3_3 : Int32) (σ4 : t_S), D_rowsAt_4 f1_1 k132 f v2_2 v3_3 σ4 = some (rz, σz) → z_V g (d + 2) YX2_rowsAt 4 [(0, .ref b), (1, .int f1_1), (2, .int v2_2), (3, .int v3_3)] [] (t_m b σ4 μ) Q := by
  intro f
  induction f with
  | zero =>
    intro v2_2 v3_3 σ4 h
    exact absurd h (x_n _)
  | succ f ih =>
    intro v2_2 v3_3 σ4 h
    refine zi_iload_n 3 dX2_rowsAt_4 rfl rfl ?_
    refine zi_aload_n 0 dX2_rowsAt_5 rfl rfl ?_
    obtain ⟨r8, h7, h⟩ := x_bE h
    refine zi_callV [] mX2_routes rfl q2591 t_rec rfl rfl (Nat.le_of_ble_eq_true rfl) dX2_rowsAt_6 ?_
    refine w_routes h7 ?_
    refine zi_icmp_ge 132 dX2_rowsAt_9 (by decide) (fun c9 => ?_) (fun c9 => ?_)
    · replace h := x_iT h c9
      refine zi_sub [2] rfl ?_
      exact hk132 _ _ h
    · replace h := x_iF h c9
      refine zi_aload_n 0 dX2_rowsAt_12 rfl rfl ?_
      refine zi_iload_n 3 dX2_rowsAt_13 rfl rfl ?_
      refine zi_iconst (v := 0) dX2_rowsAt_14 (by decide) ?_
      obtain ⟨r11, h10, h⟩ := x_bE h
      refine zi_callV [.int v3_3, .int (0 : Int32)] mX2_routeAt rfl q2595 t_rec rfl rfl (Nat.le_of_ble_eq_true rfl) dX2_rowsAt_15 ?_
      refine w_routeAt h10 ?_
      refine zi_iload_n 1 dX2_rowsAt_18 rfl rfl ?_
      refine x_jI (fun (J : Int32 → Option (Int32 × t_S)) => ∀ (s12 : Int32), J s12 = some (rz, σz) → z_V g (d + 2) YX2_rowsAt 32 [(0, .ref b), (1, .int f1_1), (2, .int v2_2), (3, .int v3_3)] [.int s12] (t_m b σ4 μ) Q) h (fun s12 h => ?_) (fun J32 hJ32 h => ?_)
      · refine zi_istore (lc1 := [(4, _), (0, _), (1, _), (2, _), (3, _)]) dX2_rowsAt_32 (Nat.le_of_ble_eq_true rfl) rfl ?_
        refine zi_sub [1, 2, 3, 4, 0] rfl ?_
        refine w_rowsAt_34 (fun v2_47 σ48 h => ?_) hQ _ _ _ _ h
        · refine zi_iinc (v := (v3_3 + (1 : Int32))) (lc1 := [(3, _), (0, _), (1, _), (2, _)]) 3 dX2_rowsAt_126 rfl rfl (Nat.le_of_ble_eq_true rfl) rfl ?_
          refine x_lI (fun v49 => z_V g (d + 2) YX2_rowsAt 129 [(3, .int v49), (0, .ref b), (1, .int f1_1), (2, .int v2_47)] [] (t_m b σ48 μ) Q) h (fun v49 h => ?_)
          refine zi_goto 4 dX2_rowsAt_129 (by decide) ?_
          refine zi_sub [1, 2, 3, 0] rfl ?_
          exact ih _ _ _ h
      refine zi_icmp_ne 31 dX2_rowsAt_19 (by decide) (fun c50 => ?_) (fun c50 => ?_)
      · replace h := x_iF h c50
        refine zi_iconst (v := 0) dX2_rowsAt_31 (by decide) ?_
        exact hJ32 _ h
      · replace h := x_iT h c50
        refine zi_aload_n 0 dX2_rowsAt_22 rfl rfl ?_
        refine zi_iload_n 3 dX2_rowsAt_23 rfl rfl ?_
        refine zi_iconst (v := 1) dX2_rowsAt_24 (by decide) ?_
        obtain ⟨r52, h51, h⟩ := x_bE h
        refine zi_callV [.int v3_3, .int (1 : Int32)] mX2_routeAt rfl q2595 t_rec rfl rfl (Nat.le_of_ble_eq_true rfl) dX2_rowsAt_25 ?_
        refine w_routeAt h51 ?_
        refine zi_goto 32 dX2_rowsAt_28 (by decide) ?_
        exact hJ32 _ h
noncomputable def D_rowsAt (a1 : Int32) (σ : t_S) : Option (Int32 × t_S) :=
  D_rowsAt_4 a1
    (fun (v2_53 : Int32) (σ54 : t_S) => some (v2_53, σ54))
    x_F (0 : Int32) (0 : Int32) σ
theorem w_rowsAt {a1 : Int32} {rz : Int32} (h : D_rowsAt a1 σ = some (rz, σz)) (hQ : Q (.inl (some (.int rz))) (t_m b σz μ)) : z_K g (d + 2) YX2_rowsAt [.ref b, .int a1] (t_m b σ μ) Q := by
  unfold D_rowsAt at h
  refine z_K.of (by decide) rfl (Nat.le_of_ble_eq_true rfl) ?_
  refine zi_iconst (v := 0) dX2_rowsAt_0 (by decide) ?_
  refine zi_istore_n (lc1 := [(2, _), (0, _), (1, _)]) dX2_rowsAt_1 rfl (Nat.le_of_ble_eq_true rfl) rfl ?_
  refine zi_iconst (v := 0) dX2_rowsAt_2 (by decide) ?_
  refine zi_istore_n (lc1 := [(3, _), (2, _), (0, _), (1, _)]) dX2_rowsAt_3 rfl (Nat.le_of_ble_eq_true rfl) rfl ?_
  refine zi_sub [2, 3, 1, 0] rfl ?_
  refine w_rowsAt_4 (fun v2_53 σ54 h => ?_) hQ _ _ _ _ h
  · refine zi_iload_n 0 dX2_rowsAt_132 rfl rfl ?_
    refine zi_ireturn rfl rfl dX2_rowsAt_133 ?_
    exact x_r2i h hQ
noncomputable def D_hasLog (a1 : Int32) (σ : t_S) : Option (Int32 × t_S) :=
  x_l (t_si σ 81 a1) fun σ1 =>
  x_b (D_is (2 : Int32) a1 σ1) fun r3 =>
  x_g (r3 = 0 ∨ r3 = 1) <|
  some (r3, σ1)
theorem w_hasLog {a1 : Int32} {rz : Int32} (h : D_hasLog a1 σ = some (rz, σz)) (hQ : Q (.inl (some (.int rz))) (t_m b σz μ)) : z_K g (d + 2) YX2_hasLog [.ref b, .int a1] (t_m b σ μ) Q := by
  unfold D_hasLog at h
  refine z_K.of (by decide) rfl (Nat.le_of_ble_eq_true rfl) ?_
  refine zi_aload_n 0 dX2_hasLog_0 rfl rfl ?_
  refine zi_iload_n 1 dX2_hasLog_1 rfl rfl ?_
  refine ti_putI 81 ⟨Nat.le_of_ble_eq_true rfl, rfl, rfl⟩ (tyX2_ok 81 (Nat.le_of_ble_eq_true rfl)) q2251 dX2_hasLog_2 ?_
  refine x_lI (fun σ1 => z_V g (d + 2) YX2_hasLog 5 [(0, .ref b), (1, .int a1)] [] (t_m b σ1 μ) Q) h (fun σ1 h => ?_)
  refine zi_aload_n 0 dX2_hasLog_5 rfl rfl ?_
  refine zi_iconst (v := 2) dX2_hasLog_6 (by decide) ?_
  refine zi_iload_n 1 dX2_hasLog_7 rfl rfl ?_
  obtain ⟨r3, h2, h⟩ := x_bE h
  refine zi_callV [.int (2 : Int32), .int a1] mX2_is rfl q2452 t_rec rfl rfl (Nat.le_of_ble_eq_true rfl) dX2_hasLog_8 ?_
  refine w_is h2 ?_
  obtain ⟨hz4, h⟩ := x_gE h
  refine zi_ireturn rfl (x_nz hz4) dX2_hasLog_11 ?_
  exact x_r2i h hQ
noncomputable def D_linksAt_4 (f1_1 : Int32) (σ : t_S) (k46 : Int32 → Option Int32) : Nat → Int32 → Int32 → Option Int32
  | 0, _, _ => none
  | f + 1, v2_2, v3_3 =>
    x_b (D_links σ) fun r7 =>
    if r7 ≤ v3_3 then (k46 v2_2) else
    x_b (D_linkAt v3_3 (0 : Int32) σ) fun r10 =>
    x_l (fun (s11 : Int32) => x_l (s11 + (1 : Int32)) fun v12 =>
    x_l (v3_3 + (1 : Int32)) fun v13 =>
    D_linksAt_4 f1_1 σ k46 f v12 v13) fun J33 =>
    if r10 = f1_1 then (J33 v2_2) else
    x_b (D_linkAt v3_3 (1 : Int32) σ) fun r16 =>
    if r16 = f1_1 then (J33 v2_2) else
    x_l (v2_2 + (0 : Int32)) fun v18 =>
    x_l (v3_3 + (1 : Int32)) fun v19 =>
    D_linksAt_4 f1_1 σ k46 f v18 v19
theorem w_linksAt_4 {f1_1 : Int32} {σ : t_S} {rz : Int32} {k46 : Int32 → Option Int32} (hk46 : ∀ (v2_4 : Int32), k46 v2_4 = some rz → z_V g (d + 2) YX2_linksAt 46 [(2, .int v2_4)] [] (t_m b σ μ) Q) (hQ : Q (.inl (some (.int rz))) (t_m b σ μ)) : ∀ (f : Nat) (v2_2 : Int32) (v3_3 : Int32), D_linksAt_4 f1_1 σ k46 f v2_2 v3_3 = some rz → z_V g (d + 2) YX2_linksAt 4 [(0, .ref b), (1, .int f1_1), (2, .int v2_2), (3, .int v3_3)] [] (t_m b σ μ) Q := by
  intro f
  induction f with
  | zero =>
    intro v2_2 v3_3 h
    exact absurd h (x_n _)
  | succ f ih =>
    intro v2_2 v3_3 h
    refine zi_iload_n 3 dX2_linksAt_4 rfl rfl ?_
    refine zi_aload_n 0 dX2_linksAt_5 rfl rfl ?_
    obtain ⟨r7, h6, h⟩ := x_bE h
    refine zi_callV [] mX2_links rfl q2579 t_rec rfl rfl (Nat.le_of_ble_eq_true rfl) dX2_linksAt_6 ?_
    refine w_links h6 ?_
    refine zi_icmp_ge 46 dX2_linksAt_9 (by decide) (fun c8 => ?_) (fun c8 => ?_)
    · replace h := x_iT h c8
      refine zi_sub [2] rfl ?_
      exact hk46 _ h
    · replace h := x_iF h c8
      refine zi_iload_n 2 dX2_linksAt_12 rfl rfl ?_
      refine zi_aload_n 0 dX2_linksAt_13 rfl rfl ?_
      refine zi_iload_n 3 dX2_linksAt_14 rfl rfl ?_
      refine zi_iconst (v := 0) dX2_linksAt_15 (by decide) ?_
      obtain ⟨r10, h9, h⟩ := x_bE h
      refine zi_callV [.int v3_3, .int (0 : Int32)] mX2_linkAt rfl q2583 t_rec rfl rfl (Nat.le_of_ble_eq_true rfl) dX2_linksAt_16 ?_
      refine w_linkAt h9 ?_
      refine zi_iload_n 1 dX2_linksAt_19 rfl rfl ?_
      refine x_jI (fun (J : Int32 → Option Int32) => ∀ (s11 : Int32), J s11 = some rz → z_V g (d + 2) YX2_linksAt 33 [(0, .ref b), (1, .int f1_1), (3, .int v3_3)] [.int s11] (t_m b σ μ) Q) h (fun s11 h => ?_) (fun J33 hJ33 h => ?_)
      · refine zi_iconst (v := 1) dX2_linksAt_33 (by decide) ?_
        refine zi_goto 38 dX2_linksAt_34 (by decide) ?_
        refine zi_iadd dX2_linksAt_38 ?_
        refine zi_istore_n (lc1 := [(2, _), (0, _), (1, _), (3, _)]) dX2_linksAt_39 rfl (Nat.le_of_ble_eq_true rfl) rfl ?_
        refine x_lI (fun v12 => z_V g (d + 2) YX2_linksAt 40 [(2, .int v12), (0, .ref b), (1, .int f1_1), (3, .int v3_3)] [] (t_m b σ μ) Q) h (fun v12 h => ?_)
        refine zi_iinc (v := (v3_3 + (1 : Int32))) (lc1 := [(3, _), (2, _), (0, _), (1, _)]) 3 dX2_linksAt_40 rfl rfl (Nat.le_of_ble_eq_true rfl) rfl ?_
        refine x_lI (fun v13 => z_V g (d + 2) YX2_linksAt 43 [(3, .int v13), (2, .int v12), (0, .ref b), (1, .int f1_1)] [] (t_m b σ μ) Q) h (fun v13 h => ?_)
        refine zi_goto 4 dX2_linksAt_43 (by decide) ?_
        refine zi_sub [2, 3, 1, 0] rfl ?_
        exact ih _ _ h
      refine zi_icmp_eq 33 dX2_linksAt_20 (by decide) (fun c14 => ?_) (fun c14 => ?_)
      · replace h := x_iT h c14
        refine zi_sub [0, 1, 3] rfl ?_
        exact hJ33 _ h
      · replace h := x_iF h c14
        refine zi_aload_n 0 dX2_linksAt_23 rfl rfl ?_
        refine zi_iload_n 3 dX2_linksAt_24 rfl rfl ?_
        refine zi_iconst (v := 1) dX2_linksAt_25 (by decide) ?_
        obtain ⟨r16, h15, h⟩ := x_bE h
        refine zi_callV [.int v3_3, .int (1 : Int32)] mX2_linkAt rfl q2583 t_rec rfl rfl (Nat.le_of_ble_eq_true rfl) dX2_linksAt_26 ?_
        refine w_linkAt h15 ?_
        refine zi_iload_n 1 dX2_linksAt_29 rfl rfl ?_
        refine zi_icmp_ne 37 dX2_linksAt_30 (by decide) (fun c17 => ?_) (fun c17 => ?_)
        · replace h := x_iF h c17
          refine zi_iconst (v := 0) dX2_linksAt_37 (by decide) ?_
          refine zi_iadd dX2_linksAt_38 ?_
          refine zi_istore_n (lc1 := [(2, _), (0, _), (1, _), (3, _)]) dX2_linksAt_39 rfl (Nat.le_of_ble_eq_true rfl) rfl ?_
          refine x_lI (fun v18 => z_V g (d + 2) YX2_linksAt 40 [(2, .int v18), (0, .ref b), (1, .int f1_1), (3, .int v3_3)] [] (t_m b σ μ) Q) h (fun v18 h => ?_)
          refine zi_iinc (v := (v3_3 + (1 : Int32))) (lc1 := [(3, _), (2, _), (0, _), (1, _)]) 3 dX2_linksAt_40 rfl rfl (Nat.le_of_ble_eq_true rfl) rfl ?_
          refine x_lI (fun v19 => z_V g (d + 2) YX2_linksAt 43 [(3, .int v19), (2, .int v18), (0, .ref b), (1, .int f1_1)] [] (t_m b σ μ) Q) h (fun v19 h => ?_)
          refine zi_goto 4 dX2_linksAt_43 (by decide) ?_
          refine zi_sub [2, 3, 1, 0] rfl ?_
          exact ih _ _ h
        · replace h := x_iT h c17
          refine zi_sub [0, 1, 3] rfl ?_
          exact hJ33 _ h
noncomputable def D_linksAt (a1 : Int32) (σ : t_S) : Option Int32 :=
  D_linksAt_4 a1 σ
    (fun (v2_20 : Int32) => some v2_20)
    x_F (0 : Int32) (0 : Int32)
theorem w_linksAt {a1 : Int32} {rz : Int32} (h : D_linksAt a1 σ = some rz) (hQ : Q (.inl (some (.int rz))) (t_m b σ μ)) : z_K g (d + 2) YX2_linksAt [.ref b, .int a1] (t_m b σ μ) Q := by
  unfold D_linksAt at h
  refine z_K.of (by decide) rfl (Nat.le_of_ble_eq_true rfl) ?_
  refine zi_iconst (v := 0) dX2_linksAt_0 (by decide) ?_
  refine zi_istore_n (lc1 := [(2, _), (0, _), (1, _)]) dX2_linksAt_1 rfl (Nat.le_of_ble_eq_true rfl) rfl ?_
  refine zi_iconst (v := 0) dX2_linksAt_2 (by decide) ?_
  refine zi_istore_n (lc1 := [(3, _), (2, _), (0, _), (1, _)]) dX2_linksAt_3 rfl (Nat.le_of_ble_eq_true rfl) rfl ?_
  refine zi_sub [2, 3, 1, 0] rfl ?_
  refine w_linksAt_4 (fun v2_20 h => ?_) hQ _ _ _ h
  · refine zi_iload_n 0 dX2_linksAt_46 rfl rfl ?_
    refine zi_ireturn rfl rfl dX2_linksAt_47 ?_
    exact x_r1i h hQ
noncomputable def D_isServed_2 (f1_1 : Int32) (σ : t_S) (k56 : Option Int32) : Nat → Int32 → Option Int32
  | 0, _ => none
  | f + 1, v2_2 =>
    x_b (D_serves σ) fun r5 =>
    if r5 ≤ v2_2 then (k56) else
    if v2_2 = f1_1 then (x_l (v2_2 + (1 : Int32)) fun v8 =>
    D_isServed_2 f1_1 σ k56 f v8) else
    x_b (D_serveAt v2_2 (0 : Int32) σ) fun r10 =>
    x_b (D_serveAt f1_1 (0 : Int32) σ) fun r12 =>
    if r10 = r12 then (x_b (D_serveAt v2_2 (1 : Int32) σ) fun r16 =>
    x_b (D_serveAt f1_1 (1 : Int32) σ) fun r18 =>
    x_b (D_isBeginning r16 r18) fun r20 =>
    if r20 = 0 then (x_l (v2_2 + (1 : Int32)) fun v22 =>
    D_isServed_2 f1_1 σ k56 f v22) else
    some (1 : Int32)) else
    x_l (v2_2 + (1 : Int32)) fun v14 =>
    D_isServed_2 f1_1 σ k56 f v14
theorem w_isServed_2 {f1_1 : Int32} {σ : t_S} {rz : Int32} {k56 : Option Int32} (hk56 : k56 = some rz → z_V g (d + 2) YX2_isServed 56 [] [] (t_m b σ μ) Q) (hQ : Q (.inl (some (.int rz))) (t_m b σ μ)) : ∀ (f : Nat) (v2_2 : Int32), D_isServed_2 f1_1 σ k56 f v2_2 = some rz → z_V g (d + 2) YX2_isServed 2 [(0, .ref b), (1, .int f1_1), (2, .int v2_2)] [] (t_m b σ μ) Q := by
  intro f
  induction f with
  | zero =>
    intro v2_2 h
    exact absurd h (x_n _)
  | succ f ih =>
    intro v2_2 h
    refine zi_iload_n 2 dX2_isServed_2 rfl rfl ?_
    refine zi_aload_n 0 dX2_isServed_3 rfl rfl ?_
    obtain ⟨r5, h4, h⟩ := x_bE h
    refine zi_callV [] mX2_serves rfl q2599 t_rec rfl rfl (Nat.le_of_ble_eq_true rfl) dX2_isServed_4 ?_
    refine w_serves h4 ?_
    refine zi_icmp_ge 56 dX2_isServed_7 (by decide) (fun c6 => ?_) (fun c6 => ?_)
    · replace h := x_iT h c6
      refine zi_sub [] rfl ?_
      exact hk56  h
    · replace h := x_iF h c6
      refine zi_iload_n 2 dX2_isServed_10 rfl rfl ?_
      refine zi_iload_n 1 dX2_isServed_11 rfl rfl ?_
      refine zi_icmp_eq 50 dX2_isServed_12 (by decide) (fun c7 => ?_) (fun c7 => ?_)
      · replace h := x_iT h c7
        refine zi_iinc (v := (v2_2 + (1 : Int32))) (lc1 := [(2, _), (0, _), (1, _)]) 2 dX2_isServed_50 rfl rfl (Nat.le_of_ble_eq_true rfl) rfl ?_
        refine x_lI (fun v8 => z_V g (d + 2) YX2_isServed 53 [(2, .int v8), (0, .ref b), (1, .int f1_1)] [] (t_m b σ μ) Q) h (fun v8 h => ?_)
        refine zi_goto 2 dX2_isServed_53 (by decide) ?_
        refine zi_sub [1, 2, 0] rfl ?_
        exact ih _ h
      · replace h := x_iF h c7
        refine zi_aload_n 0 dX2_isServed_15 rfl rfl ?_
        refine zi_iload_n 2 dX2_isServed_16 rfl rfl ?_
        refine zi_iconst (v := 0) dX2_isServed_17 (by decide) ?_
        obtain ⟨r10, h9, h⟩ := x_bE h
        refine zi_callV [.int v2_2, .int (0 : Int32)] mX2_serveAt rfl q2603 t_rec rfl rfl (Nat.le_of_ble_eq_true rfl) dX2_isServed_18 ?_
        refine w_serveAt h9 ?_
        refine zi_aload_n 0 dX2_isServed_21 rfl rfl ?_
        refine zi_iload_n 1 dX2_isServed_22 rfl rfl ?_
        refine zi_iconst (v := 0) dX2_isServed_23 (by decide) ?_
        obtain ⟨r12, h11, h⟩ := x_bE h
        refine zi_callV [.int f1_1, .int (0 : Int32)] mX2_serveAt rfl q2603 t_rec rfl rfl (Nat.le_of_ble_eq_true rfl) dX2_isServed_24 ?_
        refine w_serveAt h11 ?_
        refine zi_icmp_ne 50 dX2_isServed_27 (by decide) (fun c13 => ?_) (fun c13 => ?_)
        · replace h := x_iF h c13
          refine zi_iinc (v := (v2_2 + (1 : Int32))) (lc1 := [(2, _), (0, _), (1, _)]) 2 dX2_isServed_50 rfl rfl (Nat.le_of_ble_eq_true rfl) rfl ?_
          refine x_lI (fun v14 => z_V g (d + 2) YX2_isServed 53 [(2, .int v14), (0, .ref b), (1, .int f1_1)] [] (t_m b σ μ) Q) h (fun v14 h => ?_)
          refine zi_goto 2 dX2_isServed_53 (by decide) ?_
          refine zi_sub [1, 2, 0] rfl ?_
          exact ih _ h
        · replace h := x_iT h c13
          refine zi_aload_n 0 dX2_isServed_30 rfl rfl ?_
          refine zi_iload_n 2 dX2_isServed_31 rfl rfl ?_
          refine zi_iconst (v := 1) dX2_isServed_32 (by decide) ?_
          obtain ⟨r16, h15, h⟩ := x_bE h
          refine zi_callV [.int v2_2, .int (1 : Int32)] mX2_serveAt rfl q2603 t_rec rfl rfl (Nat.le_of_ble_eq_true rfl) dX2_isServed_33 ?_
          refine w_serveAt h15 ?_
          refine zi_aload_n 0 dX2_isServed_36 rfl rfl ?_
          refine zi_iload_n 1 dX2_isServed_37 rfl rfl ?_
          refine zi_iconst (v := 1) dX2_isServed_38 (by decide) ?_
          obtain ⟨r18, h17, h⟩ := x_bE h
          refine zi_callV [.int f1_1, .int (1 : Int32)] mX2_serveAt rfl q2603 t_rec rfl rfl (Nat.le_of_ble_eq_true rfl) dX2_isServed_39 ?_
          refine w_serveAt h17 ?_
          obtain ⟨r20, h19, h⟩ := x_bE h
          refine zi_callS [.int r16, .int r18] mX2_isBeginning rfl q2709 rfl rfl (Nat.le_of_ble_eq_true rfl) dX2_isServed_42 ?_
          refine w_isBeginning h19 ?_
          refine zi_if_eq 50 dX2_isServed_45 (by decide) (fun c21 => ?_) (fun c21 => ?_)
          · replace h := x_iT h c21
            refine zi_iinc (v := (v2_2 + (1 : Int32))) (lc1 := [(2, _), (0, _), (1, _)]) 2 dX2_isServed_50 rfl rfl (Nat.le_of_ble_eq_true rfl) rfl ?_
            refine x_lI (fun v22 => z_V g (d + 2) YX2_isServed 53 [(2, .int v22), (0, .ref b), (1, .int f1_1)] [] (t_m b σ μ) Q) h (fun v22 h => ?_)
            refine zi_goto 2 dX2_isServed_53 (by decide) ?_
            refine zi_sub [1, 2, 0] rfl ?_
            exact ih _ h
          · replace h := x_iF h c21
            refine zi_iconst (v := 1) dX2_isServed_48 (by decide) ?_
            refine zi_ireturn rfl rfl dX2_isServed_49 ?_
            exact x_r1i h hQ
noncomputable def D_isServed (a1 : Int32) (σ : t_S) : Option Int32 :=
  D_isServed_2 a1 σ
    (some (0 : Int32))
    x_F (0 : Int32)
theorem w_isServed {a1 : Int32} {rz : Int32} (h : D_isServed a1 σ = some rz) (hQ : Q (.inl (some (.int rz))) (t_m b σ μ)) : z_K g (d + 2) YX2_isServed [.ref b, .int a1] (t_m b σ μ) Q := by
  unfold D_isServed at h
  refine z_K.of (by decide) rfl (Nat.le_of_ble_eq_true rfl) ?_
  refine zi_iconst (v := 0) dX2_isServed_0 (by decide) ?_
  refine zi_istore_n (lc1 := [(2, _), (0, _), (1, _)]) dX2_isServed_1 rfl (Nat.le_of_ble_eq_true rfl) rfl ?_
  refine zi_sub [1, 2, 0] rfl ?_
  refine w_isServed_2 (fun  h => ?_) hQ _ _ h
  · refine zi_iconst (v := 0) dX2_isServed_56 (by decide) ?_
    refine zi_ireturn rfl rfl dX2_isServed_57 ?_
    exact x_r1i h hQ
noncomputable def D_isHidden_2 (f1_1 : Int32) (σ : t_S) (k60 : Option Int32) : Nat → Int32 → Option Int32
  | 0, _ => none
  | f + 1, v2_2 =>
    if f1_1 ≤ v2_2 then (k60) else
    x_b (D_routeAt v2_2 (0 : Int32) σ) fun r6 =>
    x_b (D_routeAt f1_1 (0 : Int32) σ) fun r8 =>
    if r6 = r8 then (x_b (D_routeAt v2_2 (1 : Int32) σ) fun r12 =>
    x_b (D_routeAt f1_1 (1 : Int32) σ) fun r14 =>
    if r12 = r14 then (x_b (D_routeAt v2_2 (2 : Int32) σ) fun r18 =>
    x_b (D_routeAt f1_1 (2 : Int32) σ) fun r20 =>
    if r18 = r20 then (some (1 : Int32)) else
    x_l (v2_2 + (1 : Int32)) fun v22 =>
    D_isHidden_2 f1_1 σ k60 f v22) else
    x_l (v2_2 + (1 : Int32)) fun v16 =>
    D_isHidden_2 f1_1 σ k60 f v16) else
    x_l (v2_2 + (1 : Int32)) fun v10 =>
    D_isHidden_2 f1_1 σ k60 f v10
theorem w_isHidden_2 {f1_1 : Int32} {σ : t_S} {rz : Int32} {k60 : Option Int32} (hk60 : k60 = some rz → z_V g (d + 2) YX2_isHidden 60 [] [] (t_m b σ μ) Q) (hQ : Q (.inl (some (.int rz))) (t_m b σ μ)) : ∀ (f : Nat) (v2_2 : Int32), D_isHidden_2 f1_1 σ k60 f v2_2 = some rz → z_V g (d + 2) YX2_isHidden 2 [(0, .ref b), (1, .int f1_1), (2, .int v2_2)] [] (t_m b σ μ) Q := by
  intro f
  induction f with
  | zero =>
    intro v2_2 h
    exact absurd h (x_n _)
  | succ f ih =>
    intro v2_2 h
    refine zi_iload_n 2 dX2_isHidden_2 rfl rfl ?_
    refine zi_iload_n 1 dX2_isHidden_3 rfl rfl ?_
    refine zi_icmp_ge 60 dX2_isHidden_4 (by decide) (fun c4 => ?_) (fun c4 => ?_)
    · replace h := x_iT h c4
      refine zi_sub [] rfl ?_
      exact hk60  h
    · replace h := x_iF h c4
      refine zi_aload_n 0 dX2_isHidden_7 rfl rfl ?_
      refine zi_iload_n 2 dX2_isHidden_8 rfl rfl ?_
      refine zi_iconst (v := 0) dX2_isHidden_9 (by decide) ?_
      obtain ⟨r6, h5, h⟩ := x_bE h
      refine zi_callV [.int v2_2, .int (0 : Int32)] mX2_routeAt rfl q2595 t_rec rfl rfl (Nat.le_of_ble_eq_true rfl) dX2_isHidden_10 ?_
      refine w_routeAt h5 ?_
      refine zi_aload_n 0 dX2_isHidden_13 rfl rfl ?_
      refine zi_iload_n 1 dX2_isHidden_14 rfl rfl ?_
      refine zi_iconst (v := 0) dX2_isHidden_15 (by decide) ?_
      obtain ⟨r8, h7, h⟩ := x_bE h
      refine zi_callV [.int f1_1, .int (0 : Int32)] mX2_routeAt rfl q2595 t_rec rfl rfl (Nat.le_of_ble_eq_true rfl) dX2_isHidden_16 ?_
      refine w_routeAt h7 ?_
      refine zi_icmp_ne 54 dX2_isHidden_19 (by decide) (fun c9 => ?_) (fun c9 => ?_)
      · replace h := x_iF h c9
        refine zi_iinc (v := (v2_2 + (1 : Int32))) (lc1 := [(2, _), (0, _), (1, _)]) 2 dX2_isHidden_54 rfl rfl (Nat.le_of_ble_eq_true rfl) rfl ?_
        refine x_lI (fun v10 => z_V g (d + 2) YX2_isHidden 57 [(2, .int v10), (0, .ref b), (1, .int f1_1)] [] (t_m b σ μ) Q) h (fun v10 h => ?_)
        refine zi_goto 2 dX2_isHidden_57 (by decide) ?_
        refine zi_sub [1, 2, 0] rfl ?_
        exact ih _ h
      · replace h := x_iT h c9
        refine zi_aload_n 0 dX2_isHidden_22 rfl rfl ?_
        refine zi_iload_n 2 dX2_isHidden_23 rfl rfl ?_
        refine zi_iconst (v := 1) dX2_isHidden_24 (by decide) ?_
        obtain ⟨r12, h11, h⟩ := x_bE h
        refine zi_callV [.int v2_2, .int (1 : Int32)] mX2_routeAt rfl q2595 t_rec rfl rfl (Nat.le_of_ble_eq_true rfl) dX2_isHidden_25 ?_
        refine w_routeAt h11 ?_
        refine zi_aload_n 0 dX2_isHidden_28 rfl rfl ?_
        refine zi_iload_n 1 dX2_isHidden_29 rfl rfl ?_
        refine zi_iconst (v := 1) dX2_isHidden_30 (by decide) ?_
        obtain ⟨r14, h13, h⟩ := x_bE h
        refine zi_callV [.int f1_1, .int (1 : Int32)] mX2_routeAt rfl q2595 t_rec rfl rfl (Nat.le_of_ble_eq_true rfl) dX2_isHidden_31 ?_
        refine w_routeAt h13 ?_
        refine zi_icmp_ne 54 dX2_isHidden_34 (by decide) (fun c15 => ?_) (fun c15 => ?_)
        · replace h := x_iF h c15
          refine zi_iinc (v := (v2_2 + (1 : Int32))) (lc1 := [(2, _), (0, _), (1, _)]) 2 dX2_isHidden_54 rfl rfl (Nat.le_of_ble_eq_true rfl) rfl ?_
          refine x_lI (fun v16 => z_V g (d + 2) YX2_isHidden 57 [(2, .int v16), (0, .ref b), (1, .int f1_1)] [] (t_m b σ μ) Q) h (fun v16 h => ?_)
          refine zi_goto 2 dX2_isHidden_57 (by decide) ?_
          refine zi_sub [1, 2, 0] rfl ?_
          exact ih _ h
        · replace h := x_iT h c15
          refine zi_aload_n 0 dX2_isHidden_37 rfl rfl ?_
          refine zi_iload_n 2 dX2_isHidden_38 rfl rfl ?_
          refine zi_iconst (v := 2) dX2_isHidden_39 (by decide) ?_
          obtain ⟨r18, h17, h⟩ := x_bE h
          refine zi_callV [.int v2_2, .int (2 : Int32)] mX2_routeAt rfl q2595 t_rec rfl rfl (Nat.le_of_ble_eq_true rfl) dX2_isHidden_40 ?_
          refine w_routeAt h17 ?_
          refine zi_aload_n 0 dX2_isHidden_43 rfl rfl ?_
          refine zi_iload_n 1 dX2_isHidden_44 rfl rfl ?_
          refine zi_iconst (v := 2) dX2_isHidden_45 (by decide) ?_
          obtain ⟨r20, h19, h⟩ := x_bE h
          refine zi_callV [.int f1_1, .int (2 : Int32)] mX2_routeAt rfl q2595 t_rec rfl rfl (Nat.le_of_ble_eq_true rfl) dX2_isHidden_46 ?_
          refine w_routeAt h19 ?_
          refine zi_icmp_ne 54 dX2_isHidden_49 (by decide) (fun c21 => ?_) (fun c21 => ?_)
          · replace h := x_iF h c21
            refine zi_iinc (v := (v2_2 + (1 : Int32))) (lc1 := [(2, _), (0, _), (1, _)]) 2 dX2_isHidden_54 rfl rfl (Nat.le_of_ble_eq_true rfl) rfl ?_
            refine x_lI (fun v22 => z_V g (d + 2) YX2_isHidden 57 [(2, .int v22), (0, .ref b), (1, .int f1_1)] [] (t_m b σ μ) Q) h (fun v22 h => ?_)
            refine zi_goto 2 dX2_isHidden_57 (by decide) ?_
            refine zi_sub [1, 2, 0] rfl ?_
            exact ih _ h
          · replace h := x_iT h c21
            refine zi_iconst (v := 1) dX2_isHidden_52 (by decide) ?_
            refine zi_ireturn rfl rfl dX2_isHidden_53 ?_
            exact x_r1i h hQ
noncomputable def D_isHidden (a1 : Int32) (σ : t_S) : Option Int32 :=
  D_isHidden_2 a1 σ
    (some (0 : Int32))
    x_F (0 : Int32)
theorem w_isHidden {a1 : Int32} {rz : Int32} (h : D_isHidden a1 σ = some rz) (hQ : Q (.inl (some (.int rz))) (t_m b σ μ)) : z_K g (d + 2) YX2_isHidden [.ref b, .int a1] (t_m b σ μ) Q := by
  unfold D_isHidden at h
  refine z_K.of (by decide) rfl (Nat.le_of_ble_eq_true rfl) ?_
  refine zi_iconst (v := 0) dX2_isHidden_0 (by decide) ?_
  refine zi_istore_n (lc1 := [(2, _), (0, _), (1, _)]) dX2_isHidden_1 rfl (Nat.le_of_ble_eq_true rfl) rfl ?_
  refine zi_sub [1, 2, 0] rfl ?_
  refine w_isHidden_2 (fun  h => ?_) hQ _ _ h
  · refine zi_iconst (v := 0) dX2_isHidden_60 (by decide) ?_
    refine zi_ireturn rfl rfl dX2_isHidden_61 ?_
    exact x_r1i h hQ
noncomputable def D_image (a1 : Int32) (σ : t_S) : Option (Int32 × t_S) :=
  x_l (t_si σ 0 (0 : Int32)) fun σ1 =>
  x_b (D_in a1 (0 : Int32) (2 : Int32)) fun r3 =>
  if r3 = 0 then (some ((0 : Int32), σ1)) else
  x_b (D_copyAll (0 : Int32) (a1 + (1 : Int32)) σ1) fun σ6 =>
  x_ga a1 3 fun j7 =>
  x_l (t_sa σ6 86 j7 ((1 : Int32) &&& 1)) fun σ8 =>
  some ((1 : Int32), σ8)
theorem w_image {a1 : Int32} {rz : Int32} (h : D_image a1 σ = some (rz, σz)) (hQ : Q (.inl (some (.int rz))) (t_m b σz μ)) : z_K g (d + 2) YX2_image [.ref b, .int a1] (t_m b σ μ) Q := by
  unfold D_image at h
  refine z_K.of (by decide) rfl (Nat.le_of_ble_eq_true rfl) ?_
  refine zi_aload_n 0 dX2_image_0 rfl rfl ?_
  refine zi_iconst (v := 0) dX2_image_1 (by decide) ?_
  refine ti_putI 0 ⟨Nat.le_of_ble_eq_true rfl, rfl, rfl⟩ (tyX2_ok 0 (Nat.le_of_ble_eq_true rfl)) q2170 dX2_image_2 ?_
  refine x_lI (fun σ1 => z_V g (d + 2) YX2_image 5 [(0, .ref b), (1, .int a1)] [] (t_m b σ1 μ) Q) h (fun σ1 h => ?_)
  refine zi_iload_n 1 dX2_image_5 rfl rfl ?_
  refine zi_iconst (v := 0) dX2_image_6 (by decide) ?_
  refine zi_iconst (v := 2) dX2_image_7 (by decide) ?_
  obtain ⟨r3, h2, h⟩ := x_bE h
  refine zi_callS [.int a1, .int (0 : Int32), .int (2 : Int32)] mX2_in rfl q2445 rfl rfl (Nat.le_of_ble_eq_true rfl) dX2_image_8 ?_
  refine w_in h2 ?_
  refine zi_if_ne 16 dX2_image_11 (by decide) (fun c4 => ?_) (fun c4 => ?_)
  · replace h := x_iF h c4
    refine zi_aload_n 0 dX2_image_16 rfl rfl ?_
    refine zi_iconst (v := 0) dX2_image_17 (by decide) ?_
    refine zi_iload_n 1 dX2_image_18 rfl rfl ?_
    refine zi_iconst (v := 1) dX2_image_19 (by decide) ?_
    refine zi_iadd dX2_image_20 ?_
    obtain ⟨σ6, h5, h⟩ := x_bE h
    refine zi_callV [.int (0 : Int32), .int (a1 + (1 : Int32))] mX2_copyAll rfl q2937 t_rec rfl rfl (Nat.le_of_ble_eq_true rfl) dX2_image_21 ?_
    refine w_copyAll h5 ?_
    refine zi_aload_n 0 dX2_image_24 rfl rfl ?_
    refine ti_getA 86 52 t_o86 q2256 dX2_image_25 ?_
    refine zi_iload_n 1 dX2_image_28 rfl rfl ?_
    refine zi_iconst (v := 1) dX2_image_29 (by decide) ?_
    obtain ⟨j7, hj7, h⟩ := x_gaE h
    refine ti_zast (y := ((1 : Int32) &&& 1)) 86 j7 3 51 ⟨rfl, rfl⟩ hj7 rfl dX2_image_30 ?_
    refine x_lI (fun σ8 => z_V g (d + 2) YX2_image 31 [(0, .ref b), (1, .int a1)] [] (t_m b σ8 μ) Q) h (fun σ8 h => ?_)
    refine zi_iconst (v := 1) dX2_image_31 (by decide) ?_
    refine zi_ireturn rfl rfl dX2_image_32 ?_
    exact x_r2i h hQ
  · replace h := x_iT h c4
    refine zi_iconst (v := 0) dX2_image_14 (by decide) ?_
    refine zi_ireturn rfl rfl dX2_image_15 ?_
    exact x_r2i h hQ
noncomputable def D_again (a1 : Int32) (σ : t_S) : Option (Int32 × t_S) :=
  x_l (t_si σ 0 (0 : Int32)) fun σ1 =>
  x_b (D_in a1 (0 : Int32) (2 : Int32)) fun r3 =>
  if r3 = 0 then (some ((0 : Int32), σ1)) else
  x_ga a1 3 fun j5 =>
  if (t_a σ1 86 j5) = 0 then (some ((0 : Int32), σ1)) else
  x_b (D_copyAll (a1 + (1 : Int32)) (0 : Int32) σ1) fun σ8 =>
  some ((1 : Int32), σ8)
theorem w_again {a1 : Int32} {rz : Int32} (h : D_again a1 σ = some (rz, σz)) (hQ : Q (.inl (some (.int rz))) (t_m b σz μ)) : z_K g (d + 2) YX2_again [.ref b, .int a1] (t_m b σ μ) Q := by
  unfold D_again at h
  refine z_K.of (by decide) rfl (Nat.le_of_ble_eq_true rfl) ?_
  refine zi_aload_n 0 dX2_again_0 rfl rfl ?_
  refine zi_iconst (v := 0) dX2_again_1 (by decide) ?_
  refine ti_putI 0 ⟨Nat.le_of_ble_eq_true rfl, rfl, rfl⟩ (tyX2_ok 0 (Nat.le_of_ble_eq_true rfl)) q2170 dX2_again_2 ?_
  refine x_lI (fun σ1 => z_V g (d + 2) YX2_again 5 [(0, .ref b), (1, .int a1)] [] (t_m b σ1 μ) Q) h (fun σ1 h => ?_)
  refine zi_iload_n 1 dX2_again_5 rfl rfl ?_
  refine zi_iconst (v := 0) dX2_again_6 (by decide) ?_
  refine zi_iconst (v := 2) dX2_again_7 (by decide) ?_
  obtain ⟨r3, h2, h⟩ := x_bE h
  refine zi_callS [.int a1, .int (0 : Int32), .int (2 : Int32)] mX2_in rfl q2445 rfl rfl (Nat.le_of_ble_eq_true rfl) dX2_again_8 ?_
  refine w_in h2 ?_
  refine zi_if_eq 23 dX2_again_11 (by decide) (fun c4 => ?_) (fun c4 => ?_)
  · replace h := x_iT h c4
    refine zi_iconst (v := 0) dX2_again_23 (by decide) ?_
    refine zi_ireturn rfl rfl dX2_again_24 ?_
    exact x_r2i h hQ
  · replace h := x_iF h c4
    refine zi_aload_n 0 dX2_again_14 rfl rfl ?_
    refine ti_getA 86 52 t_o86 q2256 dX2_again_15 ?_
    refine zi_iload_n 1 dX2_again_18 rfl rfl ?_
    obtain ⟨j5, hj5, h⟩ := x_gaE h
    refine ti_zald 86 j5 3 51 ⟨rfl, rfl⟩ hj5 dX2_again_19 ?_
    refine zi_if_ne 25 dX2_again_20 (by decide) (fun c6 => ?_) (fun c6 => ?_)
    · replace h := x_iF h c6
      refine zi_aload_n 0 dX2_again_25 rfl rfl ?_
      refine zi_iload_n 1 dX2_again_26 rfl rfl ?_
      refine zi_iconst (v := 1) dX2_again_27 (by decide) ?_
      refine zi_iadd dX2_again_28 ?_
      refine zi_iconst (v := 0) dX2_again_29 (by decide) ?_
      obtain ⟨σ8, h7, h⟩ := x_bE h
      refine zi_callV [.int (a1 + (1 : Int32)), .int (0 : Int32)] mX2_copyAll rfl q2937 t_rec rfl rfl (Nat.le_of_ble_eq_true rfl) dX2_again_30 ?_
      refine w_copyAll h7 ?_
      refine zi_iconst (v := 1) dX2_again_33 (by decide) ?_
      refine zi_ireturn rfl rfl dX2_again_34 ?_
      exact x_r2i h hQ
    · replace h := x_iT h c6
      refine zi_iconst (v := 0) dX2_again_23 (by decide) ?_
      refine zi_ireturn rfl rfl dX2_again_24 ?_
      exact x_r2i h hQ
noncomputable def D_take (a1 : Int32) (a2 : Int32) (a3 : Int32) (σ : t_S) : Option (Int32 × t_S) :=
  x_b2 (D_takeBut a1 a2 a3 (-1 : Int32) σ) fun r2 σ3 =>
  x_g (r2 = 0 ∨ r2 = 1) <|
  some (r2, σ3)
theorem w_take {a1 : Int32} {a2 : Int32} {a3 : Int32} {rz : Int32} (h : D_take a1 a2 a3 σ = some (rz, σz)) (hQ : Q (.inl (some (.int rz))) (t_m b σz μ)) : z_K g (d + 3) YX2_take [.ref b, .int a1, .int a2, .int a3] (t_m b σ μ) Q := by
  unfold D_take at h
  refine z_K.of (by decide) rfl (Nat.le_of_ble_eq_true rfl) ?_
  refine zi_aload_n 0 dX2_take_0 rfl rfl ?_
  refine zi_iload_n 1 dX2_take_1 rfl rfl ?_
  refine zi_iload_n 2 dX2_take_2 rfl rfl ?_
  refine zi_iload_n 3 dX2_take_3 rfl rfl ?_
  refine zi_iconst (v := -1) dX2_take_4 (by decide) ?_
  obtain ⟨r2, σ3, h1, h⟩ := x_b2E h
  refine zi_callV [.int a1, .int a2, .int a3, .int (-1 : Int32)] mX2_takeBut rfl q2482 t_rec rfl rfl (Nat.le_of_ble_eq_true rfl) dX2_take_5 ?_
  refine w_takeBut h1 ?_
  obtain ⟨hz4, h⟩ := x_gE h
  refine zi_ireturn rfl (x_nz hz4) dX2_take_8 ?_
  exact x_r2i h hQ
noncomputable def D_takeNode (a1 : Int32) (a2 : Int32) (σ : t_S) : Option (Int32 × t_S) :=
  x_b2 (D_takeBut a1 (0 : Int32) (5 : Int32) a2 σ) fun r2 σ3 =>
  if r2 = 0 then (some ((0 : Int32), σ3)) else
  x_ga a1 4 fun j5 =>
  x_b (D_greater (t_i σ3 20) (t_a σ3 19 j5)) fun r7 =>
  x_l (t_si σ3 20 r7) fun σ8 =>
  some ((1 : Int32), σ8)
theorem w_takeNode {a1 : Int32} {a2 : Int32} {rz : Int32} (h : D_takeNode a1 a2 σ = some (rz, σz)) (hQ : Q (.inl (some (.int rz))) (t_m b σz μ)) : z_K g (d + 3) YX2_takeNode [.ref b, .int a1, .int a2] (t_m b σ μ) Q := by
  unfold D_takeNode at h
  refine z_K.of (by decide) rfl (Nat.le_of_ble_eq_true rfl) ?_
  refine zi_aload_n 0 dX2_takeNode_0 rfl rfl ?_
  refine zi_iload_n 1 dX2_takeNode_1 rfl rfl ?_
  refine zi_iconst (v := 0) dX2_takeNode_2 (by decide) ?_
  refine zi_iconst (v := 5) dX2_takeNode_3 (by decide) ?_
  refine zi_iload_n 2 dX2_takeNode_4 rfl rfl ?_
  obtain ⟨r2, σ3, h1, h⟩ := x_b2E h
  refine zi_callV [.int a1, .int (0 : Int32), .int (5 : Int32), .int a2] mX2_takeBut rfl q2482 t_rec rfl rfl (Nat.le_of_ble_eq_true rfl) dX2_takeNode_5 ?_
  refine w_takeBut h1 ?_
  refine zi_if_ne 13 dX2_takeNode_8 (by decide) (fun c4 => ?_) (fun c4 => ?_)
  · replace h := x_iF h c4
    refine zi_aload_n 0 dX2_takeNode_13 rfl rfl ?_
    refine zi_aload_n 0 dX2_takeNode_14 rfl rfl ?_
    refine ti_getI 20 ⟨Nat.le_of_ble_eq_true rfl, rfl⟩ q2190 dX2_takeNode_15 ?_
    refine zi_aload_n 0 dX2_takeNode_18 rfl rfl ?_
    refine ti_getA 19 10 t_o19 q2189 dX2_takeNode_19 ?_
    refine zi_iload_n 1 dX2_takeNode_22 rfl rfl ?_
    obtain ⟨j5, hj5, h⟩ := x_gaE h
    refine ti_iald 19 j5 4 9 ⟨rfl, rfl⟩ hj5 dX2_takeNode_23 ?_
    obtain ⟨r7, h6, h⟩ := x_bE h
    refine zi_callS [.int (t_i σ3 20), .int (t_a σ3 19 j5)] mX2_greater rfl q2499 rfl rfl (Nat.le_of_ble_eq_true rfl) dX2_takeNode_24 ?_
    refine w_greater h6 ?_
    refine ti_putI 20 ⟨Nat.le_of_ble_eq_true rfl, rfl, rfl⟩ (tyX2_ok 20 (Nat.le_of_ble_eq_true rfl)) q2190 dX2_takeNode_27 ?_
    refine x_lI (fun σ8 => z_V g (d + 3) YX2_takeNode 30 [(0, .ref b), (1, .int a1), (2, .int a2)] [] (t_m b σ8 μ) Q) h (fun σ8 h => ?_)
    refine zi_iconst (v := 1) dX2_takeNode_30 (by decide) ?_
    refine zi_ireturn rfl rfl dX2_takeNode_31 ?_
    exact x_r2i h hQ
  · replace h := x_iT h c4
    refine zi_iconst (v := 0) dX2_takeNode_11 (by decide) ?_
    refine zi_ireturn rfl rfl dX2_takeNode_12 ?_
    exact x_r2i h hQ
noncomputable def D_net (a1 : Int32) (a2 : Int32) (σ : t_S) : Option (Int32 × t_S) :=
  x_l (t_si σ 0 (0 : Int32)) fun σ1 =>
  x_b2 (D_hasNet a1 σ1) fun r3 σ4 =>
  if r3 = 0 then (some ((-2 : Int32), σ4)) else
  x_b (D_in a2 (0 : Int32) (4 : Int32)) fun r7 =>
  if r7 = 0 then (x_b (D_in a2 (10 : Int32) (15 : Int32)) fun r10 =>
  if r10 = 0 then (x_b (D_in a2 (100 : Int32) (199 : Int32)) fun r13 =>
  if r13 = 0 then (x_b (D_in a2 (200 : Int32) (279 : Int32)) fun r16 =>
  x_l (x_b (D_ofPlace a2 (a2 - a2 / (20 : Int32) * (20 : Int32)) σ4) fun r18 =>
  some (r18, σ4)) fun J184 =>
  if r16 = 0 then (x_b (D_in a2 (300 : Int32) (359 : Int32)) fun r21 =>
  if r21 = 0 then (some ((-2 : Int32), σ4)) else
  J184) else
  J184) else
  x_l ((a2 - (100 : Int32)) / (10 : Int32)) fun v23 =>
  x_l (a2 - a2 / (10 : Int32) * (10 : Int32)) fun v24 =>
  x_b (D_isNode v23 σ4) fun r26 =>
  if r26 = 0 then (some ((-2 : Int32), σ4)) else
  x_b (D_isNode v24 σ4) fun r29 =>
  if r29 = 0 then (some ((-2 : Int32), σ4)) else
  x_b (D_layLinks (-1 : Int32) σ4) fun σ32 =>
  x_ga (((6 : Int32) * v23) + v24) 36 fun j33 =>
  if (t_a σ32 25 j33) = (-1 : Int32) then (some ((-1 : Int32), σ32)) else
  x_ga (((6 : Int32) * v23) + v24) 36 fun j35 =>
  x_b (D_linkAt (t_a σ32 25 j35) (2 : Int32) σ32) fun r37 =>
  some (r37, σ32)) else
  x_b (D_isNode (a2 - (10 : Int32)) σ4) fun r39 =>
  if r39 = 0 then (some ((-2 : Int32), σ4)) else
  x_b (D_ofNet (((5 : Int32) + a2) - (10 : Int32)) σ4) fun r42 =>
  some (r42, σ4)) else
  x_b (D_ofNet a2 σ4) fun r44 =>
  some (r44, σ4)
theorem w_net {a1 : Int32} {a2 : Int32} {rz : Int32} (h : D_net a1 a2 σ = some (rz, σz)) (hQ : Q (.inl (some (.int rz))) (t_m b σz μ)) : z_K g (d + 3) YX2_net [.ref b, .int a1, .int a2] (t_m b σ μ) Q := by
  unfold D_net at h
  refine z_K.of (by decide) rfl (Nat.le_of_ble_eq_true rfl) ?_
  refine zi_aload_n 0 dX2_net_0 rfl rfl ?_
  refine zi_iconst (v := 0) dX2_net_1 (by decide) ?_
  refine ti_putI 0 ⟨Nat.le_of_ble_eq_true rfl, rfl, rfl⟩ (tyX2_ok 0 (Nat.le_of_ble_eq_true rfl)) q2170 dX2_net_2 ?_
  refine x_lI (fun σ1 => z_V g (d + 3) YX2_net 5 [(0, .ref b), (1, .int a1), (2, .int a2)] [] (t_m b σ1 μ) Q) h (fun σ1 h => ?_)
  refine zi_aload_n 0 dX2_net_5 rfl rfl ?_
  refine zi_iload_n 1 dX2_net_6 rfl rfl ?_
  obtain ⟨r3, σ4, h2, h⟩ := x_b2E h
  refine zi_callV [.int a1] mX2_hasNet rfl q2563 t_rec rfl rfl (Nat.le_of_ble_eq_true rfl) dX2_net_7 ?_
  refine w_hasNet h2 ?_
  refine zi_if_ne 16 dX2_net_10 (by decide) (fun c5 => ?_) (fun c5 => ?_)
  · replace h := x_iF h c5
    refine zi_iload_n 2 dX2_net_16 rfl rfl ?_
    refine zi_iconst (v := 0) dX2_net_17 (by decide) ?_
    refine zi_iconst (v := 4) dX2_net_18 (by decide) ?_
    obtain ⟨r7, h6, h⟩ := x_bE h
    refine zi_callS [.int a2, .int (0 : Int32), .int (4 : Int32)] mX2_in rfl q2445 rfl rfl (Nat.le_of_ble_eq_true rfl) dX2_net_19 ?_
    refine w_in h6 ?_
    refine zi_if_eq 31 dX2_net_22 (by decide) (fun c8 => ?_) (fun c8 => ?_)
    · replace h := x_iT h c8
      refine zi_iload_n 2 dX2_net_31 rfl rfl ?_
      refine zi_bipush (v := 10) dX2_net_32 (by decide) ?_
      refine zi_bipush (v := 15) dX2_net_34 (by decide) ?_
      obtain ⟨r10, h9, h⟩ := x_bE h
      refine zi_callS [.int a2, .int (10 : Int32), .int (15 : Int32)] mX2_in rfl q2445 rfl rfl (Nat.le_of_ble_eq_true rfl) dX2_net_36 ?_
      refine w_in h9 ?_
      refine zi_if_eq 69 dX2_net_39 (by decide) (fun c11 => ?_) (fun c11 => ?_)
      · replace h := x_iT h c11
        refine zi_iload_n 2 dX2_net_69 rfl rfl ?_
        refine zi_bipush (v := 100) dX2_net_70 (by decide) ?_
        refine zi_sipush (v := 199) dX2_net_72 (by decide) ?_
        obtain ⟨r13, h12, h⟩ := x_bE h
        refine zi_callS [.int a2, .int (100 : Int32), .int (199 : Int32)] mX2_in rfl q2445 rfl rfl (Nat.le_of_ble_eq_true rfl) dX2_net_75 ?_
        refine w_in h12 ?_
        refine zi_if_eq 158 dX2_net_78 (by decide) (fun c14 => ?_) (fun c14 => ?_)
        · replace h := x_iT h c14
          refine zi_iload_n 2 dX2_net_158 rfl rfl ?_
          refine zi_sipush (v := 200) dX2_net_159 (by decide) ?_
          refine zi_sipush (v := 279) dX2_net_162 (by decide) ?_
          obtain ⟨r16, h15, h⟩ := x_bE h
          refine zi_callS [.int a2, .int (200 : Int32), .int (279 : Int32)] mX2_in rfl q2445 rfl rfl (Nat.le_of_ble_eq_true rfl) dX2_net_165 ?_
          refine w_in h15 ?_
          refine x_jI (fun (J : Option (Int32 × t_S)) => J = some (rz, σz) → z_V g (d + 3) YX2_net 184 [(0, .ref b), (2, .int a2)] [] (t_m b σ4 μ) Q) h (fun  h => ?_) (fun J184 hJ184 h => ?_)
          · refine zi_aload_n 0 dX2_net_184 rfl rfl ?_
            refine zi_iload_n 1 dX2_net_185 rfl rfl ?_
            refine zi_iload_n 1 dX2_net_186 rfl rfl ?_
            refine zi_bipush (v := 20) dX2_net_187 (by decide) ?_
            refine zi_irem dX2_net_189 (by decide) ?_
            obtain ⟨r18, h17, h⟩ := x_bE h
            refine zi_callV [.int a2, .int (a2 - a2 / (20 : Int32) * (20 : Int32))] mX2_ofPlace rfl q2587 t_rec rfl rfl (Nat.le_of_ble_eq_true rfl) dX2_net_190 ?_
            refine w_ofPlace h17 ?_
            refine zi_goto 198 dX2_net_193 (by decide) ?_
            refine zi_ireturn rfl rfl dX2_net_198 ?_
            exact x_r2i h hQ
          refine zi_if_ne 184 dX2_net_168 (by decide) (fun c19 => ?_) (fun c19 => ?_)
          · replace h := x_iF h c19
            refine zi_sub [0, 2] rfl ?_
            exact hJ184  h
          · replace h := x_iT h c19
            refine zi_iload_n 2 dX2_net_171 rfl rfl ?_
            refine zi_sipush (v := 300) dX2_net_172 (by decide) ?_
            refine zi_sipush (v := 359) dX2_net_175 (by decide) ?_
            obtain ⟨r21, h20, h⟩ := x_bE h
            refine zi_callS [.int a2, .int (300 : Int32), .int (359 : Int32)] mX2_in rfl q2445 rfl rfl (Nat.le_of_ble_eq_true rfl) dX2_net_178 ?_
            refine w_in h20 ?_
            refine zi_if_eq 196 dX2_net_181 (by decide) (fun c22 => ?_) (fun c22 => ?_)
            · replace h := x_iT h c22
              refine zi_bipush (v := -2) dX2_net_196 (by decide) ?_
              refine zi_ireturn rfl rfl dX2_net_198 ?_
              exact x_r2i h hQ
            · replace h := x_iF h c22
              refine zi_sub [0, 2] rfl ?_
              exact hJ184  h
        · replace h := x_iF h c14
          refine zi_iload_n 2 dX2_net_81 rfl rfl ?_
          refine zi_bipush (v := 100) dX2_net_82 (by decide) ?_
          refine zi_isub dX2_net_84 ?_
          refine zi_bipush (v := 10) dX2_net_85 (by decide) ?_
          refine zi_idiv dX2_net_87 (by decide) ?_
          refine zi_istore_n (lc1 := [(3, _), (0, _), (1, _), (2, _)]) dX2_net_88 rfl (Nat.le_of_ble_eq_true rfl) rfl ?_
          refine x_lI (fun v23 => z_V g (d + 3) YX2_net 89 [(3, .int v23), (0, .ref b), (1, .int a1), (2, .int a2)] [] (t_m b σ4 μ) Q) h (fun v23 h => ?_)
          refine zi_iload_n 3 dX2_net_89 rfl rfl ?_
          refine zi_bipush (v := 10) dX2_net_90 (by decide) ?_
          refine zi_irem dX2_net_92 (by decide) ?_
          refine zi_istore (lc1 := [(4, _), (3, _), (0, _), (1, _), (2, _)]) dX2_net_93 (Nat.le_of_ble_eq_true rfl) rfl ?_
          refine x_lI (fun v24 => z_V g (d + 3) YX2_net 95 [(4, .int v24), (3, .int v23), (0, .ref b), (1, .int a1), (2, .int a2)] [] (t_m b σ4 μ) Q) h (fun v24 h => ?_)
          refine zi_aload_n 2 dX2_net_95 rfl rfl ?_
          refine zi_iload_n 1 dX2_net_96 rfl rfl ?_
          obtain ⟨r26, h25, h⟩ := x_bE h
          refine zi_callV [.int v23] mX2_isNode rfl q2571 t_rec rfl rfl (Nat.le_of_ble_eq_true rfl) dX2_net_97 ?_
          refine w_isNode h25 ?_
          refine zi_if_eq 112 dX2_net_100 (by decide) (fun c27 => ?_) (fun c27 => ?_)
          · replace h := x_iT h c27
            refine zi_bipush (v := -2) dX2_net_112 (by decide) ?_
            refine zi_ireturn rfl rfl dX2_net_114 ?_
            exact x_r2i h hQ
          · replace h := x_iF h c27
            refine zi_aload_n 2 dX2_net_103 rfl rfl ?_
            refine zi_iload 0 dX2_net_104 rfl ?_
            obtain ⟨r29, h28, h⟩ := x_bE h
            refine zi_callV [.int v24] mX2_isNode rfl q2571 t_rec rfl rfl (Nat.le_of_ble_eq_true rfl) dX2_net_106 ?_
            refine w_isNode h28 ?_
            refine zi_if_ne 115 dX2_net_109 (by decide) (fun c30 => ?_) (fun c30 => ?_)
            · replace h := x_iF h c30
              refine zi_aload_n 2 dX2_net_115 rfl rfl ?_
              refine zi_iconst (v := -1) dX2_net_116 (by decide) ?_
              obtain ⟨σ32, h31, h⟩ := x_bE h
              refine zi_callV [.int (-1 : Int32)] mX2_layLinks rfl q2575 t_rec rfl rfl (Nat.le_of_ble_eq_true rfl) dX2_net_117 ?_
              refine w_layLinks h31 ?_
              refine zi_aload_n 2 dX2_net_120 rfl rfl ?_
              refine ti_getA 25 11 t_o25 q2195 dX2_net_121 ?_
              refine zi_bipush (v := 6) dX2_net_124 (by decide) ?_
              refine zi_iload_n 1 dX2_net_126 rfl rfl ?_
              refine zi_imul dX2_net_127 ?_
              refine zi_iload 0 dX2_net_128 rfl ?_
              refine zi_iadd dX2_net_130 ?_
              obtain ⟨j33, hj33, h⟩ := x_gaE h
              refine ti_iald 25 j33 36 10 ⟨rfl, rfl⟩ hj33 dX2_net_131 ?_
              refine zi_iconst (v := -1) dX2_net_132 (by decide) ?_
              refine zi_icmp_ne 140 dX2_net_133 (by decide) (fun c34 => ?_) (fun c34 => ?_)
              · replace h := x_iF h c34
                refine zi_aload_n 2 dX2_net_140 rfl rfl ?_
                refine zi_aload_n 2 dX2_net_141 rfl rfl ?_
                refine ti_getA 25 11 t_o25 q2195 dX2_net_142 ?_
                refine zi_bipush (v := 6) dX2_net_145 (by decide) ?_
                refine zi_iload_n 1 dX2_net_147 rfl rfl ?_
                refine zi_imul dX2_net_148 ?_
                refine zi_iload 0 dX2_net_149 rfl ?_
                refine zi_iadd dX2_net_151 ?_
                obtain ⟨j35, hj35, h⟩ := x_gaE h
                refine ti_iald 25 j35 36 10 ⟨rfl, rfl⟩ hj35 dX2_net_152 ?_
                refine zi_iconst (v := 2) dX2_net_153 (by decide) ?_
                obtain ⟨r37, h36, h⟩ := x_bE h
                refine zi_callV [.int (t_a σ32 25 j35), .int (2 : Int32)] mX2_linkAt rfl q2583 t_rec rfl rfl (Nat.le_of_ble_eq_true rfl) dX2_net_154 ?_
                refine w_linkAt h36 ?_
                refine zi_ireturn rfl rfl dX2_net_157 ?_
                exact x_r2i h hQ
              · replace h := x_iT h c34
                refine zi_iconst (v := -1) dX2_net_136 (by decide) ?_
                refine zi_goto 157 dX2_net_137 (by decide) ?_
                refine zi_ireturn rfl rfl dX2_net_157 ?_
                exact x_r2i h hQ
            · replace h := x_iT h c30
              refine zi_bipush (v := -2) dX2_net_112 (by decide) ?_
              refine zi_ireturn rfl rfl dX2_net_114 ?_
              exact x_r2i h hQ
      · replace h := x_iF h c11
        refine zi_aload_n 0 dX2_net_42 rfl rfl ?_
        refine zi_iload_n 2 dX2_net_43 rfl rfl ?_
        refine zi_bipush (v := 10) dX2_net_44 (by decide) ?_
        refine zi_isub dX2_net_46 ?_
        obtain ⟨r39, h38, h⟩ := x_bE h
        refine zi_callV [.int (a2 - (10 : Int32))] mX2_isNode rfl q2571 t_rec rfl rfl (Nat.le_of_ble_eq_true rfl) dX2_net_47 ?_
        refine w_isNode h38 ?_
        refine zi_if_eq 66 dX2_net_50 (by decide) (fun c40 => ?_) (fun c40 => ?_)
        · replace h := x_iT h c40
          refine zi_bipush (v := -2) dX2_net_66 (by decide) ?_
          refine zi_ireturn rfl rfl dX2_net_68 ?_
          exact x_r2i h hQ
        · replace h := x_iF h c40
          refine zi_aload_n 0 dX2_net_53 rfl rfl ?_
          refine zi_iconst (v := 5) dX2_net_54 (by decide) ?_
          refine zi_iload_n 2 dX2_net_55 rfl rfl ?_
          refine zi_iadd dX2_net_56 ?_
          refine zi_bipush (v := 10) dX2_net_57 (by decide) ?_
          refine zi_isub dX2_net_59 ?_
          obtain ⟨r42, h41, h⟩ := x_bE h
          refine zi_callV [.int (((5 : Int32) + a2) - (10 : Int32))] mX2_ofNet rfl q2567 t_rec rfl rfl (Nat.le_of_ble_eq_true rfl) dX2_net_60 ?_
          refine w_ofNet h41 ?_
          refine zi_goto 68 dX2_net_63 (by decide) ?_
          refine zi_ireturn rfl rfl dX2_net_68 ?_
          exact x_r2i h hQ
    · replace h := x_iF h c8
      refine zi_aload_n 0 dX2_net_25 rfl rfl ?_
      refine zi_iload_n 2 dX2_net_26 rfl rfl ?_
      obtain ⟨r44, h43, h⟩ := x_bE h
      refine zi_callV [.int a2] mX2_ofNet rfl q2567 t_rec rfl rfl (Nat.le_of_ble_eq_true rfl) dX2_net_27 ?_
      refine w_ofNet h43 ?_
      refine zi_ireturn rfl rfl dX2_net_30 ?_
      exact x_r2i h hQ
  · replace h := x_iT h c5
    refine zi_bipush (v := -2) dX2_net_13 (by decide) ?_
    refine zi_ireturn rfl rfl dX2_net_15 ?_
    exact x_r2i h hQ
noncomputable def D_deed (a1 : Int32) (a2 : Int32) (a3 : Int32) (σ : t_S) : Option (Int32 × t_S) :=
  x_l (t_si σ 0 (0 : Int32)) fun σ1 =>
  x_b2 (D_hasRun a1 σ1) fun r3 σ4 =>
  if r3 = 0 then (some ((-2 : Int32), σ4)) else
  if a2 = (-1 : Int32) then (if a3 = 0 then (x_b (D_deeds σ4) fun r19 =>
  some (r19, σ4)) else
  some ((-2 : Int32), σ4)) else
  x_b (D_deeds σ4) fun r8 =>
  x_b (D_in a2 (0 : Int32) (r8 - (1 : Int32))) fun r10 =>
  if r10 = 0 then (some ((-2 : Int32), σ4)) else
  x_b (D_in a3 (0 : Int32) (2 : Int32)) fun r13 =>
  if r13 = 0 then (some ((-2 : Int32), σ4)) else
  x_b (D_deedOf a2 a3 σ4) fun r16 =>
  some (r16, σ4)
theorem w_deed {a1 : Int32} {a2 : Int32} {a3 : Int32} {rz : Int32} (h : D_deed a1 a2 a3 σ = some (rz, σz)) (hQ : Q (.inl (some (.int rz))) (t_m b σz μ)) : z_K g (d + 3) YX2_deed [.ref b, .int a1, .int a2, .int a3] (t_m b σ μ) Q := by
  unfold D_deed at h
  refine z_K.of (by decide) rfl (Nat.le_of_ble_eq_true rfl) ?_
  refine zi_aload_n 0 dX2_deed_0 rfl rfl ?_
  refine zi_iconst (v := 0) dX2_deed_1 (by decide) ?_
  refine ti_putI 0 ⟨Nat.le_of_ble_eq_true rfl, rfl, rfl⟩ (tyX2_ok 0 (Nat.le_of_ble_eq_true rfl)) q2170 dX2_deed_2 ?_
  refine x_lI (fun σ1 => z_V g (d + 3) YX2_deed 5 [(0, .ref b), (1, .int a1), (2, .int a2), (3, .int a3)] [] (t_m b σ1 μ) Q) h (fun σ1 h => ?_)
  refine zi_aload_n 0 dX2_deed_5 rfl rfl ?_
  refine zi_iload_n 1 dX2_deed_6 rfl rfl ?_
  obtain ⟨r3, σ4, h2, h⟩ := x_b2E h
  refine zi_callV [.int a1] mX2_hasRun rfl q2611 t_rec rfl rfl (Nat.le_of_ble_eq_true rfl) dX2_deed_7 ?_
  refine w_hasRun h2 ?_
  refine zi_if_ne 16 dX2_deed_10 (by decide) (fun c5 => ?_) (fun c5 => ?_)
  · replace h := x_iF h c5
    refine zi_iload_n 2 dX2_deed_16 rfl rfl ?_
    refine zi_iconst (v := -1) dX2_deed_17 (by decide) ?_
    refine zi_icmp_ne 35 dX2_deed_18 (by decide) (fun c6 => ?_) (fun c6 => ?_)
    · replace h := x_iF h c6
      refine zi_iload_n 2 dX2_deed_35 rfl rfl ?_
      refine zi_iconst (v := 0) dX2_deed_36 (by decide) ?_
      refine zi_aload_n 0 dX2_deed_37 rfl rfl ?_
      obtain ⟨r8, h7, h⟩ := x_bE h
      refine zi_callV [] mX2_deeds rfl q2615 t_rec rfl rfl (Nat.le_of_ble_eq_true rfl) dX2_deed_38 ?_
      refine w_deeds h7 ?_
      refine zi_iconst (v := 1) dX2_deed_41 (by decide) ?_
      refine zi_isub dX2_deed_42 ?_
      obtain ⟨r10, h9, h⟩ := x_bE h
      refine zi_callS [.int a2, .int (0 : Int32), .int (r8 - (1 : Int32))] mX2_in rfl q2445 rfl rfl (Nat.le_of_ble_eq_true rfl) dX2_deed_43 ?_
      refine w_in h9 ?_
      refine zi_if_eq 67 dX2_deed_46 (by decide) (fun c11 => ?_) (fun c11 => ?_)
      · replace h := x_iT h c11
        refine zi_bipush (v := -2) dX2_deed_67 (by decide) ?_
        refine zi_ireturn rfl rfl dX2_deed_69 ?_
        exact x_r2i h hQ
      · replace h := x_iF h c11
        refine zi_iload_n 3 dX2_deed_49 rfl rfl ?_
        refine zi_iconst (v := 0) dX2_deed_50 (by decide) ?_
        refine zi_iconst (v := 2) dX2_deed_51 (by decide) ?_
        obtain ⟨r13, h12, h⟩ := x_bE h
        refine zi_callS [.int a3, .int (0 : Int32), .int (2 : Int32)] mX2_in rfl q2445 rfl rfl (Nat.le_of_ble_eq_true rfl) dX2_deed_52 ?_
        refine w_in h12 ?_
        refine zi_if_eq 67 dX2_deed_55 (by decide) (fun c14 => ?_) (fun c14 => ?_)
        · replace h := x_iT h c14
          refine zi_bipush (v := -2) dX2_deed_67 (by decide) ?_
          refine zi_ireturn rfl rfl dX2_deed_69 ?_
          exact x_r2i h hQ
        · replace h := x_iF h c14
          refine zi_aload_n 0 dX2_deed_58 rfl rfl ?_
          refine zi_iload_n 2 dX2_deed_59 rfl rfl ?_
          refine zi_iload_n 3 dX2_deed_60 rfl rfl ?_
          obtain ⟨r16, h15, h⟩ := x_bE h
          refine zi_callV [.int a2, .int a3] mX2_deedOf rfl q2619 t_rec rfl rfl (Nat.le_of_ble_eq_true rfl) dX2_deed_61 ?_
          refine w_deedOf h15 ?_
          refine zi_goto 69 dX2_deed_64 (by decide) ?_
          refine zi_ireturn rfl rfl dX2_deed_69 ?_
          exact x_r2i h hQ
    · replace h := x_iT h c6
      refine zi_iload_n 3 dX2_deed_21 rfl rfl ?_
      refine zi_if_ne 32 dX2_deed_22 (by decide) (fun c17 => ?_) (fun c17 => ?_)
      · replace h := x_iF h c17
        refine zi_bipush (v := -2) dX2_deed_32 (by decide) ?_
        refine zi_ireturn rfl rfl dX2_deed_34 ?_
        exact x_r2i h hQ
      · replace h := x_iT h c17
        refine zi_aload_n 0 dX2_deed_25 rfl rfl ?_
        obtain ⟨r19, h18, h⟩ := x_bE h
        refine zi_callV [] mX2_deeds rfl q2615 t_rec rfl rfl (Nat.le_of_ble_eq_true rfl) dX2_deed_26 ?_
        refine w_deeds h18 ?_
        refine zi_goto 34 dX2_deed_29 (by decide) ?_
        refine zi_ireturn rfl rfl dX2_deed_34 ?_
        exact x_r2i h hQ
  · replace h := x_iT h c5
    refine zi_bipush (v := -2) dX2_deed_13 (by decide) ?_
    refine zi_ireturn rfl rfl dX2_deed_15 ?_
    exact x_r2i h hQ
noncomputable def D_begin_52  (k85 : t_S → Option t_S) : Nat → Int32 → t_S → Option t_S
  | 0, _, _ => none
  | f + 1, v2_12, σ13 =>
    if (6 : Int32) ≤ v2_12 then (k85 σ13) else
    x_ga v2_12 6 fun j16 =>
    x_l (t_sl σ13 28 j16 (0 : Int64)) fun σ17 =>
    x_ga v2_12 6 fun j18 =>
    x_l (t_sa σ17 30 j18 (0 : Int32)) fun σ19 =>
    x_ga v2_12 6 fun j20 =>
    x_l (t_sa σ19 34 j20 (0 : Int32)) fun σ21 =>
    x_l (v2_12 + (1 : Int32)) fun v22 =>
    D_begin_52 k85 f v22 σ21
theorem w_begin_52   {k85 : t_S → Option t_S} (hk85 : ∀ (σ14 : t_S), k85 σ14 = some σz → z_V g (d + 3) YX2_begin 85 [(0, .ref b)] [] (t_m b σ14 μ) Q) (hQ : Q (.inl none) (t_m b σz μ)) : ∀ (f : Nat) (v2_12 : Int32) (σ13 : t_S), D_begin_52 k85 f v2_12 σ13 = some σz → z_V g (d + 3) YX2_begin 52 [(0, .ref b), (2, .int v2_12)] [] (t_m b σ13 μ) Q := by
  intro f
  induction f with
  | zero =>
    intro v2_12 σ13 h
    exact absurd h (x_n _)
  | succ f ih =>
    intro v2_12 σ13 h
    refine zi_iload_n 1 dX2_begin_52 rfl rfl ?_
    refine zi_bipush (v := 6) dX2_begin_53 (by decide) ?_
    refine zi_icmp_ge 85 dX2_begin_55 (by decide) (fun c15 => ?_) (fun c15 => ?_)
    · replace h := x_iT h c15
      refine zi_sub [0] rfl ?_
      exact hk85 _ h
    · replace h := x_iF h c15
      refine zi_aload_n 0 dX2_begin_58 rfl rfl ?_
      refine ti_getA 28 12 t_o28 q2198 dX2_begin_59 ?_
      refine zi_iload_n 1 dX2_begin_62 rfl rfl ?_
      refine zi_lconst (v := 0) dX2_begin_63 (by decide) ?_
      obtain ⟨j16, hj16, h⟩ := x_gaE h
      refine ti_last 28 j16 6 11 ⟨rfl, rfl⟩ hj16 dX2_begin_64 ?_
      refine x_lI (fun σ17 => z_V g (d + 3) YX2_begin 65 [(0, .ref b), (2, .int v2_12)] [] (t_m b σ17 μ) Q) h (fun σ17 h => ?_)
      refine zi_aload_n 0 dX2_begin_65 rfl rfl ?_
      refine ti_getA 30 14 t_o30 q2200 dX2_begin_66 ?_
      refine zi_iload_n 1 dX2_begin_69 rfl rfl ?_
      refine zi_iconst (v := 0) dX2_begin_70 (by decide) ?_
      obtain ⟨j18, hj18, h⟩ := x_gaE h
      refine ti_iast 30 j18 6 13 ⟨rfl, rfl⟩ hj18 dX2_begin_71 ?_
      refine x_lI (fun σ19 => z_V g (d + 3) YX2_begin 72 [(0, .ref b), (2, .int v2_12)] [] (t_m b σ19 μ) Q) h (fun σ19 h => ?_)
      refine zi_aload_n 0 dX2_begin_72 rfl rfl ?_
      refine ti_getA 34 18 t_o34 q2204 dX2_begin_73 ?_
      refine zi_iload_n 1 dX2_begin_76 rfl rfl ?_
      refine zi_iconst (v := 0) dX2_begin_77 (by decide) ?_
      obtain ⟨j20, hj20, h⟩ := x_gaE h
      refine ti_iast 34 j20 6 17 ⟨rfl, rfl⟩ hj20 dX2_begin_78 ?_
      refine x_lI (fun σ21 => z_V g (d + 3) YX2_begin 79 [(0, .ref b), (2, .int v2_12)] [] (t_m b σ21 μ) Q) h (fun σ21 h => ?_)
      refine zi_iinc (v := (v2_12 + (1 : Int32))) (lc1 := [(2, _), (0, _)]) 1 dX2_begin_79 rfl rfl (Nat.le_of_ble_eq_true rfl) rfl ?_
      refine x_lI (fun v22 => z_V g (d + 3) YX2_begin 82 [(2, .int v22), (0, .ref b)] [] (t_m b σ21 μ) Q) h (fun v22 h => ?_)
      refine zi_goto 52 dX2_begin_82 (by decide) ?_
      refine zi_sub [1, 0] rfl ?_
      exact ih _ _ h
noncomputable def D_begin_87  (k106 : t_S → Option t_S) : Nat → Int32 → t_S → Option t_S
  | 0, _, _ => none
  | f + 1, v2_24, σ25 =>
    if (36 : Int32) ≤ v2_24 then (k106 σ25) else
    x_ga v2_24 36 fun j28 =>
    x_l (t_sa σ25 29 j28 (-1 : Int32)) fun σ29 =>
    x_l (v2_24 + (1 : Int32)) fun v30 =>
    D_begin_87 k106 f v30 σ29
theorem w_begin_87   {k106 : t_S → Option t_S} (hk106 : ∀ (σ26 : t_S), k106 σ26 = some σz → z_V g (d + 3) YX2_begin 106 [(0, .ref b)] [] (t_m b σ26 μ) Q) (hQ : Q (.inl none) (t_m b σz μ)) : ∀ (f : Nat) (v2_24 : Int32) (σ25 : t_S), D_begin_87 k106 f v2_24 σ25 = some σz → z_V g (d + 3) YX2_begin 87 [(0, .ref b), (2, .int v2_24)] [] (t_m b σ25 μ) Q := by
  intro f
  induction f with
  | zero =>
    intro v2_24 σ25 h
    exact absurd h (x_n _)
  | succ f ih =>
    intro v2_24 σ25 h
    refine zi_iload_n 1 dX2_begin_87 rfl rfl ?_
    refine zi_bipush (v := 36) dX2_begin_88 (by decide) ?_
    refine zi_icmp_ge 106 dX2_begin_90 (by decide) (fun c27 => ?_) (fun c27 => ?_)
    · replace h := x_iT h c27
      refine zi_sub [0] rfl ?_
      exact hk106 _ h
    · replace h := x_iF h c27
      refine zi_aload_n 0 dX2_begin_93 rfl rfl ?_
      refine ti_getA 29 13 t_o29 q2199 dX2_begin_94 ?_
      refine zi_iload_n 1 dX2_begin_97 rfl rfl ?_
      refine zi_iconst (v := -1) dX2_begin_98 (by decide) ?_
      obtain ⟨j28, hj28, h⟩ := x_gaE h
      refine ti_iast 29 j28 36 12 ⟨rfl, rfl⟩ hj28 dX2_begin_99 ?_
      refine x_lI (fun σ29 => z_V g (d + 3) YX2_begin 100 [(0, .ref b), (2, .int v2_24)] [] (t_m b σ29 μ) Q) h (fun σ29 h => ?_)
      refine zi_iinc (v := (v2_24 + (1 : Int32))) (lc1 := [(2, _), (0, _)]) 1 dX2_begin_100 rfl rfl (Nat.le_of_ble_eq_true rfl) rfl ?_
      refine x_lI (fun v30 => z_V g (d + 3) YX2_begin 103 [(2, .int v30), (0, .ref b)] [] (t_m b σ29 μ) Q) h (fun v30 h => ?_)
      refine zi_goto 87 dX2_begin_103 (by decide) ?_
      refine zi_sub [1, 0] rfl ?_
      exact ih _ _ h
noncomputable def D_begin_108  (k127 : t_S → Option t_S) : Nat → Int32 → t_S → Option t_S
  | 0, _, _ => none
  | f + 1, v2_32, σ33 =>
    if (64 : Int32) ≤ v2_32 then (k127 σ33) else
    x_ga v2_32 64 fun j36 =>
    x_l (t_sa σ33 57 j36 (-1 : Int32)) fun σ37 =>
    x_l (v2_32 + (1 : Int32)) fun v38 =>
    D_begin_108 k127 f v38 σ37
theorem w_begin_108   {k127 : t_S → Option t_S} (hk127 : ∀ (σ34 : t_S), k127 σ34 = some σz → z_V g (d + 3) YX2_begin 127 [] [] (t_m b σ34 μ) Q) (hQ : Q (.inl none) (t_m b σz μ)) : ∀ (f : Nat) (v2_32 : Int32) (σ33 : t_S), D_begin_108 k127 f v2_32 σ33 = some σz → z_V g (d + 3) YX2_begin 108 [(0, .ref b), (2, .int v2_32)] [] (t_m b σ33 μ) Q := by
  intro f
  induction f with
  | zero =>
    intro v2_32 σ33 h
    exact absurd h (x_n _)
  | succ f ih =>
    intro v2_32 σ33 h
    refine zi_iload_n 1 dX2_begin_108 rfl rfl ?_
    refine zi_bipush (v := 64) dX2_begin_109 (by decide) ?_
    refine zi_icmp_ge 127 dX2_begin_111 (by decide) (fun c35 => ?_) (fun c35 => ?_)
    · replace h := x_iT h c35
      refine zi_sub [] rfl ?_
      exact hk127 _ h
    · replace h := x_iF h c35
      refine zi_aload_n 0 dX2_begin_114 rfl rfl ?_
      refine ti_getA 57 40 t_o57 q2227 dX2_begin_115 ?_
      refine zi_iload_n 1 dX2_begin_118 rfl rfl ?_
      refine zi_iconst (v := -1) dX2_begin_119 (by decide) ?_
      obtain ⟨j36, hj36, h⟩ := x_gaE h
      refine ti_iast 57 j36 64 39 ⟨rfl, rfl⟩ hj36 dX2_begin_120 ?_
      refine x_lI (fun σ37 => z_V g (d + 3) YX2_begin 121 [(0, .ref b), (2, .int v2_32)] [] (t_m b σ37 μ) Q) h (fun σ37 h => ?_)
      refine zi_iinc (v := (v2_32 + (1 : Int32))) (lc1 := [(2, _), (0, _)]) 1 dX2_begin_121 rfl rfl (Nat.le_of_ble_eq_true rfl) rfl ?_
      refine x_lI (fun v38 => z_V g (d + 3) YX2_begin 124 [(2, .int v38), (0, .ref b)] [] (t_m b σ37 μ) Q) h (fun v38 h => ?_)
      refine zi_goto 108 dX2_begin_124 (by decide) ?_
      refine zi_sub [1, 0] rfl ?_
      exact ih _ _ h
noncomputable def D_begin (a1 : Int32) (σ : t_S) : Option t_S :=
  x_b (D_layLinks a1 σ) fun σ2 =>
  x_l (t_si σ2 26 (0 : Int32)) fun σ3 =>
  x_l (t_si σ3 27 (0 : Int32)) fun σ4 =>
  x_l (t_si σ4 45 (0 : Int32)) fun σ5 =>
  x_l (t_si σ5 65 (0 : Int32)) fun σ6 =>
  x_l (t_si σ6 66 (0 : Int32)) fun σ7 =>
  x_l (t_si σ7 67 (0 : Int32)) fun σ8 =>
  x_l (t_si σ8 68 (0 : Int32)) fun σ9 =>
  x_l (t_si σ9 69 (0 : Int32)) fun σ10 =>
  x_l (t_si σ10 70 (0 : Int32)) fun σ11 =>
  D_begin_52
    (fun (σ23 : t_S) => D_begin_87
    (fun (σ31 : t_S) => D_begin_108
    (fun (σ39 : t_S) => some σ39)
    x_F (0 : Int32) σ31)
    x_F (0 : Int32) σ23)
    x_F (0 : Int32) σ11
theorem w_begin {a1 : Int32}  (h : D_begin a1 σ = some σz) (hQ : Q (.inl none) (t_m b σz μ)) : z_K g (d + 3) YX2_begin [.ref b, .int a1] (t_m b σ μ) Q := by
  unfold D_begin at h
  refine z_K.of (by decide) rfl (Nat.le_of_ble_eq_true rfl) ?_
  refine zi_aload_n 0 dX2_begin_0 rfl rfl ?_
  refine zi_iload_n 1 dX2_begin_1 rfl rfl ?_
  obtain ⟨σ2, h1, h⟩ := x_bE h
  refine zi_callV [.int a1] mX2_layLinks rfl q2575 t_rec rfl rfl (Nat.le_of_ble_eq_true rfl) dX2_begin_2 ?_
  refine w_layLinks h1 ?_
  refine zi_aload_n 0 dX2_begin_5 rfl rfl ?_
  refine zi_iconst (v := 0) dX2_begin_6 (by decide) ?_
  refine ti_putI 26 ⟨Nat.le_of_ble_eq_true rfl, rfl, rfl⟩ (tyX2_ok 26 (Nat.le_of_ble_eq_true rfl)) q2196 dX2_begin_7 ?_
  refine x_lI (fun σ3 => z_V g (d + 3) YX2_begin 10 [(0, .ref b), (1, .int a1)] [] (t_m b σ3 μ) Q) h (fun σ3 h => ?_)
  refine zi_aload_n 0 dX2_begin_10 rfl rfl ?_
  refine zi_iconst (v := 0) dX2_begin_11 (by decide) ?_
  refine ti_putI 27 ⟨Nat.le_of_ble_eq_true rfl, rfl, rfl⟩ (tyX2_ok 27 (Nat.le_of_ble_eq_true rfl)) q2197 dX2_begin_12 ?_
  refine x_lI (fun σ4 => z_V g (d + 3) YX2_begin 15 [(0, .ref b), (1, .int a1)] [] (t_m b σ4 μ) Q) h (fun σ4 h => ?_)
  refine zi_aload_n 0 dX2_begin_15 rfl rfl ?_
  refine zi_iconst (v := 0) dX2_begin_16 (by decide) ?_
  refine ti_putI 45 ⟨Nat.le_of_ble_eq_true rfl, rfl, rfl⟩ (tyX2_ok 45 (Nat.le_of_ble_eq_true rfl)) q2215 dX2_begin_17 ?_
  refine x_lI (fun σ5 => z_V g (d + 3) YX2_begin 20 [(0, .ref b), (1, .int a1)] [] (t_m b σ5 μ) Q) h (fun σ5 h => ?_)
  refine zi_aload_n 0 dX2_begin_20 rfl rfl ?_
  refine zi_iconst (v := 0) dX2_begin_21 (by decide) ?_
  refine ti_putI 65 ⟨Nat.le_of_ble_eq_true rfl, rfl, rfl⟩ (tyX2_ok 65 (Nat.le_of_ble_eq_true rfl)) q2235 dX2_begin_22 ?_
  refine x_lI (fun σ6 => z_V g (d + 3) YX2_begin 25 [(0, .ref b), (1, .int a1)] [] (t_m b σ6 μ) Q) h (fun σ6 h => ?_)
  refine zi_aload_n 0 dX2_begin_25 rfl rfl ?_
  refine zi_iconst (v := 0) dX2_begin_26 (by decide) ?_
  refine ti_putI 66 ⟨Nat.le_of_ble_eq_true rfl, rfl, rfl⟩ (tyX2_ok 66 (Nat.le_of_ble_eq_true rfl)) q2236 dX2_begin_27 ?_
  refine x_lI (fun σ7 => z_V g (d + 3) YX2_begin 30 [(0, .ref b), (1, .int a1)] [] (t_m b σ7 μ) Q) h (fun σ7 h => ?_)
  refine zi_aload_n 0 dX2_begin_30 rfl rfl ?_
  refine zi_iconst (v := 0) dX2_begin_31 (by decide) ?_
  refine ti_putI 67 ⟨Nat.le_of_ble_eq_true rfl, rfl, rfl⟩ (tyX2_ok 67 (Nat.le_of_ble_eq_true rfl)) q2237 dX2_begin_32 ?_
  refine x_lI (fun σ8 => z_V g (d + 3) YX2_begin 35 [(0, .ref b), (1, .int a1)] [] (t_m b σ8 μ) Q) h (fun σ8 h => ?_)
  refine zi_aload_n 0 dX2_begin_35 rfl rfl ?_
  refine zi_iconst (v := 0) dX2_begin_36 (by decide) ?_
  refine ti_putI 68 ⟨Nat.le_of_ble_eq_true rfl, rfl, rfl⟩ (tyX2_ok 68 (Nat.le_of_ble_eq_true rfl)) q2238 dX2_begin_37 ?_
  refine x_lI (fun σ9 => z_V g (d + 3) YX2_begin 40 [(0, .ref b), (1, .int a1)] [] (t_m b σ9 μ) Q) h (fun σ9 h => ?_)
  refine zi_aload_n 0 dX2_begin_40 rfl rfl ?_
  refine zi_iconst (v := 0) dX2_begin_41 (by decide) ?_
  refine ti_putI 69 ⟨Nat.le_of_ble_eq_true rfl, rfl, rfl⟩ (tyX2_ok 69 (Nat.le_of_ble_eq_true rfl)) q2239 dX2_begin_42 ?_
  refine x_lI (fun σ10 => z_V g (d + 3) YX2_begin 45 [(0, .ref b), (1, .int a1)] [] (t_m b σ10 μ) Q) h (fun σ10 h => ?_)
  refine zi_aload_n 0 dX2_begin_45 rfl rfl ?_
  refine zi_iconst (v := 0) dX2_begin_46 (by decide) ?_
  refine ti_putI 70 ⟨Nat.le_of_ble_eq_true rfl, rfl, rfl⟩ (tyX2_ok 70 (Nat.le_of_ble_eq_true rfl)) q2240 dX2_begin_47 ?_
  refine x_lI (fun σ11 => z_V g (d + 3) YX2_begin 50 [(0, .ref b), (1, .int a1)] [] (t_m b σ11 μ) Q) h (fun σ11 h => ?_)
  refine zi_iconst (v := 0) dX2_begin_50 (by decide) ?_
  refine zi_istore_n (lc1 := [(2, _), (0, _), (1, _)]) dX2_begin_51 rfl (Nat.le_of_ble_eq_true rfl) rfl ?_
  refine zi_sub [1, 0] rfl ?_
  refine w_begin_52 (fun σ23 h => ?_) hQ _ _ _ h
  · refine zi_iconst (v := 0) dX2_begin_85 (by decide) ?_
    refine zi_istore_n (lc1 := [(2, _), (0, _)]) dX2_begin_86 rfl (Nat.le_of_ble_eq_true rfl) rfl ?_
    refine zi_sub [1, 0] rfl ?_
    refine w_begin_87 (fun σ31 h => ?_) hQ _ _ _ h
    · refine zi_iconst (v := 0) dX2_begin_106 (by decide) ?_
      refine zi_istore_n (lc1 := [(2, _), (0, _)]) dX2_begin_107 rfl (Nat.le_of_ble_eq_true rfl) rfl ?_
      refine zi_sub [1, 0] rfl ?_
      refine w_begin_108 (fun σ39 h => ?_) hQ _ _ _ h
      · refine zi_return rfl dX2_begin_127 ?_
        exact x_r0 h hQ
noncomputable def D_nackTo (a1 : Int32) (a2 : Int32) (a3 : Int32) (a4 : Int32) (σ : t_S) : Option t_S :=
  if a2 < (100 : Int32) then (x_b (D_sends (2 : Int32) a1 a2 a3 a4 (0 : Int32) σ) fun σ3 =>
  some σ3) else
  x_b (D_refused (a2 - (100 : Int32)) σ) fun σ5 =>
  some σ5
theorem w_nackTo {a1 : Int32} {a2 : Int32} {a3 : Int32} {a4 : Int32}  (h : D_nackTo a1 a2 a3 a4 σ = some σz) (hQ : Q (.inl none) (t_m b σz μ)) : z_K g (d + 3) YX2_nackTo [.ref b, .int a1, .int a2, .int a3, .int a4] (t_m b σ μ) Q := by
  unfold D_nackTo at h
  refine z_K.of (by decide) rfl (Nat.le_of_ble_eq_true rfl) ?_
  refine zi_iload_n 2 dX2_nackTo_0 rfl rfl ?_
  refine zi_bipush (v := 100) dX2_nackTo_1 (by decide) ?_
  refine zi_icmp_lt 17 dX2_nackTo_3 (by decide) (fun c1 => ?_) (fun c1 => ?_)
  · replace h := x_iT h c1
    refine zi_aload_n 0 dX2_nackTo_17 rfl rfl ?_
    refine zi_iconst (v := 2) dX2_nackTo_18 (by decide) ?_
    refine zi_iload_n 1 dX2_nackTo_19 rfl rfl ?_
    refine zi_iload_n 2 dX2_nackTo_20 rfl rfl ?_
    refine zi_iload_n 3 dX2_nackTo_21 rfl rfl ?_
    refine zi_iload 4 dX2_nackTo_22 rfl ?_
    refine zi_iconst (v := 0) dX2_nackTo_24 (by decide) ?_
    obtain ⟨σ3, h2, h⟩ := x_bE h
    refine zi_callV [.int (2 : Int32), .int a1, .int a2, .int a3, .int a4, .int (0 : Int32)] mX2_sends rfl q2674 t_rec rfl rfl (Nat.le_of_ble_eq_true rfl) dX2_nackTo_25 ?_
    refine w_sends h2 ?_
    refine zi_return rfl dX2_nackTo_28 ?_
    exact x_r0 h hQ
  · replace h := x_iF h c1
    refine zi_aload_n 0 dX2_nackTo_6 rfl rfl ?_
    refine zi_iload_n 2 dX2_nackTo_7 rfl rfl ?_
    refine zi_bipush (v := 100) dX2_nackTo_8 (by decide) ?_
    refine zi_isub dX2_nackTo_10 ?_
    obtain ⟨σ5, h4, h⟩ := x_bE h
    refine zi_callV [.int (a2 - (100 : Int32))] mX2_refused rfl q2670 t_rec rfl rfl (Nat.le_of_ble_eq_true rfl) dX2_nackTo_11 ?_
    refine w_refused h4 ?_
    refine zi_goto 28 dX2_nackTo_14 (by decide) ?_
    refine zi_return rfl dX2_nackTo_28 ?_
    exact x_r0 h hQ
noncomputable def D_dataTo (a1 : Int32) (a2 : Int32) (a3 : Int32) (σ : t_S) : Option t_S :=
  if a2 < (100 : Int32) then (x_b (D_sends (1 : Int32) a1 a2 a3 (0 : Int32) (0 : Int32) σ) fun σ3 =>
  some σ3) else
  x_b (D_gets (a2 - (100 : Int32)) σ) fun σ5 =>
  some σ5
theorem w_dataTo {a1 : Int32} {a2 : Int32} {a3 : Int32}  (h : D_dataTo a1 a2 a3 σ = some σz) (hQ : Q (.inl none) (t_m b σz μ)) : z_K g (d + 3) YX2_dataTo [.ref b, .int a1, .int a2, .int a3] (t_m b σ μ) Q := by
  unfold D_dataTo at h
  refine z_K.of (by decide) rfl (Nat.le_of_ble_eq_true rfl) ?_
  refine zi_iload_n 2 dX2_dataTo_0 rfl rfl ?_
  refine zi_bipush (v := 100) dX2_dataTo_1 (by decide) ?_
  refine zi_icmp_lt 17 dX2_dataTo_3 (by decide) (fun c1 => ?_) (fun c1 => ?_)
  · replace h := x_iT h c1
    refine zi_aload_n 0 dX2_dataTo_17 rfl rfl ?_
    refine zi_iconst (v := 1) dX2_dataTo_18 (by decide) ?_
    refine zi_iload_n 1 dX2_dataTo_19 rfl rfl ?_
    refine zi_iload_n 2 dX2_dataTo_20 rfl rfl ?_
    refine zi_iload_n 3 dX2_dataTo_21 rfl rfl ?_
    refine zi_iconst (v := 0) dX2_dataTo_22 (by decide) ?_
    refine zi_iconst (v := 0) dX2_dataTo_23 (by decide) ?_
    obtain ⟨σ3, h2, h⟩ := x_bE h
    refine zi_callV [.int (1 : Int32), .int a1, .int a2, .int a3, .int (0 : Int32), .int (0 : Int32)] mX2_sends rfl q2674 t_rec rfl rfl (Nat.le_of_ble_eq_true rfl) dX2_dataTo_24 ?_
    refine w_sends h2 ?_
    refine zi_return rfl dX2_dataTo_27 ?_
    exact x_r0 h hQ
  · replace h := x_iF h c1
    refine zi_aload_n 0 dX2_dataTo_6 rfl rfl ?_
    refine zi_iload_n 2 dX2_dataTo_7 rfl rfl ?_
    refine zi_bipush (v := 100) dX2_dataTo_8 (by decide) ?_
    refine zi_isub dX2_dataTo_10 ?_
    obtain ⟨σ5, h4, h⟩ := x_bE h
    refine zi_callV [.int (a2 - (100 : Int32))] mX2_gets rfl q2701 t_rec rfl rfl (Nat.le_of_ble_eq_true rfl) dX2_dataTo_11 ?_
    refine w_gets h4 ?_
    refine zi_goto 27 dX2_dataTo_14 (by decide) ?_
    refine zi_return rfl dX2_dataTo_27 ?_
    exact x_r0 h hQ
noncomputable def D_nextWay_19 (f1_3 : Int32) (f2_4 : Int32) (f3_5 : Int32) (f4_6 : Int32) (σ : t_S) (k171 : Int32 → Option Int32) : Nat → Int32 → Int32 → Int32 → Option Int32
  | 0, _, _, _ => none
  | f + 1, v5_7, v6_8, v7_9 =>
    x_b (D_routes σ) fun r13 =>
    if r13 ≤ v7_9 then (k171 v5_7) else
    x_b (D_routeAt v7_9 (2 : Int32) σ) fun r16 =>
    x_b (D_isRoute v7_9 f1_3 f2_4 f4_6 σ) fun r18 =>
    if r18 = 0 then (x_l (v7_9 + (1 : Int32)) fun v20 =>
    D_nextWay_19 f1_3 f2_4 f3_5 f4_6 σ k171 f v5_7 v6_8 v20) else
    x_b (D_isUp f1_3 r16 σ) fun r22 =>
    if r22 = 0 then (x_l (v7_9 + (1 : Int32)) fun v24 =>
    D_nextWay_19 f1_3 f2_4 f3_5 f4_6 σ k171 f v5_7 v6_8 v24) else
    x_b (D_has f3_5 r16) fun r26 =>
    if r26 = 0 then (x_ga (((6 : Int32) * f1_3) + r16) 36 fun j29 =>
    x_l (fun (s30 : Int32) => x_l (fun (s31 : Int32) => x_l (fun (s32 : Int32) => if s31 = 0 then (x_l (v7_9 + (1 : Int32)) fun v34 =>
    D_nextWay_19 f1_3 f2_4 f3_5 f4_6 σ k171 f s32 v6_8 v34) else
    x_l (v7_9 + (1 : Int32)) fun v35 =>
    D_nextWay_19 f1_3 f2_4 f3_5 f4_6 σ k171 f s32 s30 v35) fun J149 =>
    if s31 = 0 then (J149 v5_7) else
    J149 r16) fun J135 =>
    x_l (J135 (1 : Int32)) fun J130 =>
    if s30 < v6_8 then (J130) else
    x_l (J135 (0 : Int32)) fun J134 =>
    if s30 = v6_8 then (if v5_7 ≤ r16 then (J134) else
    J130) else
    J134) fun J107 =>
    if (t_a σ 29 j29) = (-1 : Int32) then (x_b (D_routeAt v7_9 (3 : Int32) σ) fun r42 =>
    J107 r42) else
    x_ga (((6 : Int32) * f1_3) + r16) 36 fun j43 =>
    J107 (t_a σ 29 j43)) else
    x_l (v7_9 + (1 : Int32)) fun v28 =>
    D_nextWay_19 f1_3 f2_4 f3_5 f4_6 σ k171 f v5_7 v6_8 v28
theorem w_nextWay_19 {f1_3 : Int32} {f2_4 : Int32} {f3_5 : Int32} {f4_6 : Int32} {σ : t_S} {rz : Int32} {k171 : Int32 → Option Int32} (hk171 : ∀ (v5_10 : Int32), k171 v5_10 = some rz → z_V g (d + 3) YX2_nextWay 171 [(5, .int v5_10)] [] (t_m b σ μ) Q) (hQ : Q (.inl (some (.int rz))) (t_m b σ μ)) : ∀ (f : Nat) (v5_7 : Int32) (v6_8 : Int32) (v7_9 : Int32), D_nextWay_19 f1_3 f2_4 f3_5 f4_6 σ k171 f v5_7 v6_8 v7_9 = some rz → z_V g (d + 3) YX2_nextWay 19 [(0, .ref b), (1, .int f1_3), (2, .int f2_4), (3, .int f3_5), (4, .int f4_6), (5, .int v5_7), (6, .int v6_8), (7, .int v7_9)] [] (t_m b σ μ) Q := by
  intro f
  induction f with
  | zero =>
    intro v5_7 v6_8 v7_9 h
    exact absurd h (x_n _)
  | succ f ih =>
    intro v5_7 v6_8 v7_9 h
    refine zi_iload 7 dX2_nextWay_19 rfl ?_
    refine zi_aload_n 0 dX2_nextWay_21 rfl rfl ?_
    obtain ⟨r13, h12, h⟩ := x_bE h
    refine zi_callV [] mX2_routes rfl q2591 t_rec rfl rfl (Nat.le_of_ble_eq_true rfl) dX2_nextWay_22 ?_
    refine w_routes h12 ?_
    refine zi_icmp_ge 171 dX2_nextWay_25 (by decide) (fun c14 => ?_) (fun c14 => ?_)
    · replace h := x_iT h c14
      refine zi_sub [5] rfl ?_
      exact hk171 _ h
    · replace h := x_iF h c14
      refine zi_aload_n 0 dX2_nextWay_28 rfl rfl ?_
      refine zi_iload 7 dX2_nextWay_29 rfl ?_
      refine zi_iconst (v := 2) dX2_nextWay_31 (by decide) ?_
      obtain ⟨r16, h15, h⟩ := x_bE h
      refine zi_callV [.int v7_9, .int (2 : Int32)] mX2_routeAt rfl q2595 t_rec rfl rfl (Nat.le_of_ble_eq_true rfl) dX2_nextWay_32 ?_
      refine w_routeAt h15 ?_
      refine zi_istore (lc1 := [(8, _), (0, _), (1, _), (2, _), (3, _), (4, _), (5, _), (6, _), (7, _)]) dX2_nextWay_35 (Nat.le_of_ble_eq_true rfl) rfl ?_
      refine zi_aload_n 1 dX2_nextWay_37 rfl rfl ?_
      refine zi_iload 8 dX2_nextWay_38 rfl ?_
      refine zi_iload_n 2 dX2_nextWay_40 rfl rfl ?_
      refine zi_iload_n 3 dX2_nextWay_41 rfl rfl ?_
      refine zi_iload 5 dX2_nextWay_42 rfl ?_
      obtain ⟨r18, h17, h⟩ := x_bE h
      refine zi_callV [.int v7_9, .int f1_3, .int f2_4, .int f4_6] mX2_isRoute rfl q2740 t_rec rfl rfl (Nat.le_of_ble_eq_true rfl) dX2_nextWay_44 ?_
      refine w_isRoute h17 ?_
      refine zi_if_eq 165 dX2_nextWay_47 (by decide) (fun c19 => ?_) (fun c19 => ?_)
      · replace h := x_iT h c19
        refine zi_iinc (v := (v7_9 + (1 : Int32))) (lc1 := [(7, _), (8, _), (0, _), (1, _), (2, _), (3, _), (4, _), (5, _), (6, _)]) 8 dX2_nextWay_165 rfl rfl (Nat.le_of_ble_eq_true rfl) rfl ?_
        refine x_lI (fun v20 => z_V g (d + 3) YX2_nextWay 168 [(7, .int v20), (8, .int r16), (0, .ref b), (1, .int f1_3), (2, .int f2_4), (3, .int f3_5), (4, .int f4_6), (5, .int v5_7), (6, .int v6_8)] [] (t_m b σ μ) Q) h (fun v20 h => ?_)
        refine zi_goto 19 dX2_nextWay_168 (by decide) ?_
        refine zi_sub [2, 3, 4, 5, 6, 7, 8, 0] rfl ?_
        exact ih _ _ _ h
      · replace h := x_iF h c19
        refine zi_aload_n 1 dX2_nextWay_50 rfl rfl ?_
        refine zi_iload_n 2 dX2_nextWay_51 rfl rfl ?_
        refine zi_iload 0 dX2_nextWay_52 rfl ?_
        obtain ⟨r22, h21, h⟩ := x_bE h
        refine zi_callV [.int f1_3, .int r16] mX2_isUp rfl q2678 t_rec rfl rfl (Nat.le_of_ble_eq_true rfl) dX2_nextWay_54 ?_
        refine w_isUp h21 ?_
        refine zi_if_eq 165 dX2_nextWay_57 (by decide) (fun c23 => ?_) (fun c23 => ?_)
        · replace h := x_iT h c23
          refine zi_iinc (v := (v7_9 + (1 : Int32))) (lc1 := [(7, _), (8, _), (0, _), (1, _), (2, _), (3, _), (4, _), (5, _), (6, _)]) 8 dX2_nextWay_165 rfl rfl (Nat.le_of_ble_eq_true rfl) rfl ?_
          refine x_lI (fun v24 => z_V g (d + 3) YX2_nextWay 168 [(7, .int v24), (8, .int r16), (0, .ref b), (1, .int f1_3), (2, .int f2_4), (3, .int f3_5), (4, .int f4_6), (5, .int v5_7), (6, .int v6_8)] [] (t_m b σ μ) Q) h (fun v24 h => ?_)
          refine zi_goto 19 dX2_nextWay_168 (by decide) ?_
          refine zi_sub [2, 3, 4, 5, 6, 7, 8, 0] rfl ?_
          exact ih _ _ _ h
        · replace h := x_iF h c23
          refine zi_iload_n 4 dX2_nextWay_60 rfl rfl ?_
          refine zi_iload 0 dX2_nextWay_61 rfl ?_
          obtain ⟨r26, h25, h⟩ := x_bE h
          refine zi_callS [.int f3_5, .int r16] mX2_has rfl q2682 rfl rfl (Nat.le_of_ble_eq_true rfl) dX2_nextWay_63 ?_
          refine w_has h25 ?_
          refine zi_if_ne 165 dX2_nextWay_66 (by decide) (fun c27 => ?_) (fun c27 => ?_)
          · replace h := x_iF h c27
            refine zi_iinc (v := (v7_9 + (1 : Int32))) (lc1 := [(7, _), (8, _), (0, _), (1, _), (2, _), (3, _), (4, _), (5, _), (6, _)]) 8 dX2_nextWay_165 rfl rfl (Nat.le_of_ble_eq_true rfl) rfl ?_
            refine x_lI (fun v28 => z_V g (d + 3) YX2_nextWay 168 [(7, .int v28), (8, .int r16), (0, .ref b), (1, .int f1_3), (2, .int f2_4), (3, .int f3_5), (4, .int f4_6), (5, .int v5_7), (6, .int v6_8)] [] (t_m b σ μ) Q) h (fun v28 h => ?_)
            refine zi_goto 19 dX2_nextWay_168 (by decide) ?_
            refine zi_sub [2, 3, 4, 5, 6, 7, 8, 0] rfl ?_
            exact ih _ _ _ h
          · replace h := x_iT h c27
            refine zi_aload_n 1 dX2_nextWay_69 rfl rfl ?_
            refine ti_getA 29 13 t_o29 q2199 dX2_nextWay_70 ?_
            refine zi_bipush (v := 6) dX2_nextWay_73 (by decide) ?_
            refine zi_iload_n 2 dX2_nextWay_75 rfl rfl ?_
            refine zi_imul dX2_nextWay_76 ?_
            refine zi_iload 0 dX2_nextWay_77 rfl ?_
            refine zi_iadd dX2_nextWay_79 ?_
            obtain ⟨j29, hj29, h⟩ := x_gaE h
            refine ti_iald 29 j29 36 12 ⟨rfl, rfl⟩ hj29 dX2_nextWay_80 ?_
            refine zi_iconst (v := -1) dX2_nextWay_81 (by decide) ?_
            refine x_jI (fun (J : Int32 → Option Int32) => ∀ (s30 : Int32), J s30 = some rz → z_V g (d + 3) YX2_nextWay 107 [(0, .ref b), (1, .int f1_3), (2, .int f2_4), (3, .int f3_5), (4, .int f4_6), (5, .int v5_7), (6, .int v6_8), (7, .int v7_9), (8, .int r16)] [.int s30] (t_m b σ μ) Q) h (fun s30 h => ?_) (fun J107 hJ107 h => ?_)
            · refine zi_istore (lc1 := [(9, _), (0, _), (1, _), (2, _), (3, _), (4, _), (5, _), (6, _), (7, _), (8, _)]) dX2_nextWay_107 (Nat.le_of_ble_eq_true rfl) rfl ?_
              refine zi_iload 0 dX2_nextWay_109 rfl ?_
              refine zi_iload 7 dX2_nextWay_111 rfl ?_
              refine x_jI (fun (J : Int32 → Option Int32) => ∀ (s31 : Int32), J s31 = some rz → z_V g (d + 3) YX2_nextWay 135 [(0, .ref b), (1, .int f1_3), (2, .int f2_4), (3, .int f3_5), (4, .int f4_6), (5, .int v5_7), (6, .int v6_8), (7, .int v7_9), (8, .int r16), (9, .int s30)] [.int s31] (t_m b σ μ) Q) h (fun s31 h => ?_) (fun J135 hJ135 h => ?_)
              · refine zi_istore (lc1 := [(10, _), (0, _), (1, _), (2, _), (3, _), (4, _), (5, _), (6, _), (7, _), (8, _), (9, _)]) dX2_nextWay_135 (Nat.le_of_ble_eq_true rfl) rfl ?_
                refine zi_iload 0 dX2_nextWay_137 rfl ?_
                refine x_jI (fun (J : Int32 → Option Int32) => ∀ (s32 : Int32), J s32 = some rz → z_V g (d + 3) YX2_nextWay 149 [(0, .ref b), (1, .int f1_3), (2, .int f2_4), (3, .int f3_5), (4, .int f4_6), (6, .int v6_8), (7, .int v7_9), (9, .int s30), (10, .int s31)] [.int s32] (t_m b σ μ) Q) h (fun s32 h => ?_) (fun J149 hJ149 h => ?_)
                · refine zi_istore (lc1 := [(5, _), (0, _), (1, _), (2, _), (3, _), (4, _), (6, _), (7, _), (9, _), (10, _)]) dX2_nextWay_149 (Nat.le_of_ble_eq_true rfl) rfl ?_
                  refine zi_iload 9 dX2_nextWay_151 rfl ?_
                  refine zi_if_eq 161 dX2_nextWay_153 (by decide) (fun c33 => ?_) (fun c33 => ?_)
                  · replace h := x_iT h c33
                    refine zi_iload 6 dX2_nextWay_161 rfl ?_
                    refine zi_istore (lc1 := [(6, _), (5, _), (0, _), (1, _), (2, _), (3, _), (4, _), (7, _), (9, _), (10, _)]) dX2_nextWay_163 (Nat.le_of_ble_eq_true rfl) rfl ?_
                    refine zi_iinc (v := (v7_9 + (1 : Int32))) (lc1 := [(7, _), (6, _), (5, _), (0, _), (1, _), (2, _), (3, _), (4, _), (9, _), (10, _)]) 7 dX2_nextWay_165 rfl rfl (Nat.le_of_ble_eq_true rfl) rfl ?_
                    refine x_lI (fun v34 => z_V g (d + 3) YX2_nextWay 168 [(7, .int v34), (6, .int v6_8), (5, .int s32), (0, .ref b), (1, .int f1_3), (2, .int f2_4), (3, .int f3_5), (4, .int f4_6), (9, .int s30), (10, .int s31)] [] (t_m b σ μ) Q) h (fun v34 h => ?_)
                    refine zi_goto 19 dX2_nextWay_168 (by decide) ?_
                    refine zi_sub [3, 4, 5, 6, 7, 2, 1, 0] rfl ?_
                    exact ih _ _ _ h
                  · replace h := x_iF h c33
                    refine zi_iload 8 dX2_nextWay_156 rfl ?_
                    refine zi_goto 163 dX2_nextWay_158 (by decide) ?_
                    refine zi_istore (lc1 := [(6, _), (5, _), (0, _), (1, _), (2, _), (3, _), (4, _), (7, _), (9, _), (10, _)]) dX2_nextWay_163 (Nat.le_of_ble_eq_true rfl) rfl ?_
                    refine zi_iinc (v := (v7_9 + (1 : Int32))) (lc1 := [(7, _), (6, _), (5, _), (0, _), (1, _), (2, _), (3, _), (4, _), (9, _), (10, _)]) 7 dX2_nextWay_165 rfl rfl (Nat.le_of_ble_eq_true rfl) rfl ?_
                    refine x_lI (fun v35 => z_V g (d + 3) YX2_nextWay 168 [(7, .int v35), (6, .int s30), (5, .int s32), (0, .ref b), (1, .int f1_3), (2, .int f2_4), (3, .int f3_5), (4, .int f4_6), (9, .int s30), (10, .int s31)] [] (t_m b σ μ) Q) h (fun v35 h => ?_)
                    refine zi_goto 19 dX2_nextWay_168 (by decide) ?_
                    refine zi_sub [3, 4, 5, 6, 7, 2, 1, 0] rfl ?_
                    exact ih _ _ _ h
                refine zi_if_eq 147 dX2_nextWay_139 (by decide) (fun c36 => ?_) (fun c36 => ?_)
                · replace h := x_iT h c36
                  refine zi_iload 6 dX2_nextWay_147 rfl ?_
                  refine zi_sub [1, 2, 3, 4, 5, 7, 8, 10, 0] rfl ?_
                  exact hJ149 _ h
                · replace h := x_iF h c36
                  refine zi_iload 9 dX2_nextWay_142 rfl ?_
                  refine zi_goto 149 dX2_nextWay_144 (by decide) ?_
                  refine zi_sub [1, 2, 3, 4, 5, 7, 8, 10, 0] rfl ?_
                  exact hJ149 _ h
              refine x_jI (fun (J : Option Int32) => J = some rz → z_V g (d + 3) YX2_nextWay 130 [(0, .ref b), (1, .int f1_3), (2, .int f2_4), (3, .int f3_5), (4, .int f4_6), (5, .int v5_7), (6, .int v6_8), (7, .int v7_9), (8, .int r16), (9, .int s30)] [] (t_m b σ μ) Q) h (fun  h => ?_) (fun J130 hJ130 h => ?_)
              · refine zi_iconst (v := 1) dX2_nextWay_130 (by decide) ?_
                refine zi_goto 135 dX2_nextWay_131 (by decide) ?_
                exact hJ135 _ h
              refine zi_icmp_lt 130 dX2_nextWay_113 (by decide) (fun c37 => ?_) (fun c37 => ?_)
              · replace h := x_iT h c37
                refine zi_sub [1, 2, 3, 4, 5, 6, 7, 8, 9, 0] rfl ?_
                exact hJ130  h
              · replace h := x_iF h c37
                refine zi_iload 0 dX2_nextWay_116 rfl ?_
                refine zi_iload 7 dX2_nextWay_118 rfl ?_
                refine x_jI (fun (J : Option Int32) => J = some rz → z_V g (d + 3) YX2_nextWay 134 [(0, .ref b), (1, .int f1_3), (2, .int f2_4), (3, .int f3_5), (4, .int f4_6), (5, .int v5_7), (6, .int v6_8), (7, .int v7_9), (8, .int r16), (9, .int s30)] [] (t_m b σ μ) Q) h (fun  h => ?_) (fun J134 hJ134 h => ?_)
                · refine zi_iconst (v := 0) dX2_nextWay_134 (by decide) ?_
                  exact hJ135 _ h
                refine zi_icmp_ne 134 dX2_nextWay_120 (by decide) (fun c38 => ?_) (fun c38 => ?_)
                · replace h := x_iF h c38
                  refine zi_sub [1, 2, 3, 4, 5, 6, 7, 8, 9, 0] rfl ?_
                  exact hJ134  h
                · replace h := x_iT h c38
                  refine zi_iload 9 dX2_nextWay_123 rfl ?_
                  refine zi_iload 6 dX2_nextWay_125 rfl ?_
                  refine zi_icmp_ge 134 dX2_nextWay_127 (by decide) (fun c39 => ?_) (fun c39 => ?_)
                  · replace h := x_iT h c39
                    refine zi_sub [1, 2, 3, 4, 5, 6, 7, 8, 9, 0] rfl ?_
                    exact hJ134  h
                  · replace h := x_iF h c39
                    refine zi_sub [1, 2, 3, 4, 5, 6, 7, 8, 9, 0] rfl ?_
                    exact hJ130  h
            refine zi_icmp_eq 100 dX2_nextWay_82 (by decide) (fun c40 => ?_) (fun c40 => ?_)
            · replace h := x_iT h c40
              refine zi_aload_n 1 dX2_nextWay_100 rfl rfl ?_
              refine zi_iload 8 dX2_nextWay_101 rfl ?_
              refine zi_iconst (v := 3) dX2_nextWay_103 (by decide) ?_
              obtain ⟨r42, h41, h⟩ := x_bE h
              refine zi_callV [.int v7_9, .int (3 : Int32)] mX2_routeAt rfl q2595 t_rec rfl rfl (Nat.le_of_ble_eq_true rfl) dX2_nextWay_104 ?_
              refine w_routeAt h41 ?_
              refine zi_sub [1, 2, 3, 4, 5, 6, 7, 8, 0] rfl ?_
              exact hJ107 _ h
            · replace h := x_iF h c40
              refine zi_aload_n 1 dX2_nextWay_85 rfl rfl ?_
              refine ti_getA 29 13 t_o29 q2199 dX2_nextWay_86 ?_
              refine zi_bipush (v := 6) dX2_nextWay_89 (by decide) ?_
              refine zi_iload_n 2 dX2_nextWay_91 rfl rfl ?_
              refine zi_imul dX2_nextWay_92 ?_
              refine zi_iload 0 dX2_nextWay_93 rfl ?_
              refine zi_iadd dX2_nextWay_95 ?_
              obtain ⟨j43, hj43, h⟩ := x_gaE h
              refine ti_iald 29 j43 36 12 ⟨rfl, rfl⟩ hj43 dX2_nextWay_96 ?_
              refine zi_goto 107 dX2_nextWay_97 (by decide) ?_
              refine zi_sub [1, 2, 3, 4, 5, 6, 7, 8, 0] rfl ?_
              exact hJ107 _ h
noncomputable def D_nextWay (a1 : Int32) (a2 : Int32) (a3 : Int32) (σ : t_S) : Option Int32 :=
  x_b (D_longestAt a1 a2 σ) fun r2 =>
  D_nextWay_19 a1 a2 a3 r2 σ
    (fun (v5_44 : Int32) => some v5_44)
    x_F (-1 : Int32) (1000000 : Int32) (0 : Int32)
theorem w_nextWay {a1 : Int32} {a2 : Int32} {a3 : Int32} {rz : Int32} (h : D_nextWay a1 a2 a3 σ = some rz) (hQ : Q (.inl (some (.int rz))) (t_m b σ μ)) : z_K g (d + 3) YX2_nextWay [.ref b, .int a1, .int a2, .int a3] (t_m b σ μ) Q := by
  unfold D_nextWay at h
  refine z_K.of (by decide) rfl (Nat.le_of_ble_eq_true rfl) ?_
  refine zi_aload_n 0 dX2_nextWay_0 rfl rfl ?_
  refine zi_iload_n 1 dX2_nextWay_1 rfl rfl ?_
  refine zi_iload_n 2 dX2_nextWay_2 rfl rfl ?_
  obtain ⟨r2, h1, h⟩ := x_bE h
  refine zi_callV [.int a1, .int a2] mX2_longestAt rfl q2735 t_rec rfl rfl (Nat.le_of_ble_eq_true rfl) dX2_nextWay_3 ?_
  refine w_longestAt h1 ?_
  refine zi_istore (lc1 := [(4, _), (0, _), (1, _), (2, _), (3, _)]) dX2_nextWay_6 (Nat.le_of_ble_eq_true rfl) rfl ?_
  refine zi_iconst (v := -1) dX2_nextWay_8 (by decide) ?_
  refine zi_istore (lc1 := [(5, _), (4, _), (0, _), (1, _), (2, _), (3, _)]) dX2_nextWay_9 (Nat.le_of_ble_eq_true rfl) rfl ?_
  refine zi_ldcw (v := 1000000) q2739 dX2_nextWay_11 ?_
  refine zi_istore (lc1 := [(6, _), (5, _), (4, _), (0, _), (1, _), (2, _), (3, _)]) dX2_nextWay_14 (Nat.le_of_ble_eq_true rfl) rfl ?_
  refine zi_iconst (v := 0) dX2_nextWay_16 (by decide) ?_
  refine zi_istore (lc1 := [(7, _), (6, _), (5, _), (4, _), (0, _), (1, _), (2, _), (3, _)]) dX2_nextWay_17 (Nat.le_of_ble_eq_true rfl) rfl ?_
  refine zi_sub [4, 5, 6, 7, 3, 2, 1, 0] rfl ?_
  refine w_nextWay_19 (fun v5_44 h => ?_) hQ _ _ _ _ h
  · refine zi_iload 0 dX2_nextWay_171 rfl ?_
    refine zi_ireturn rfl rfl dX2_nextWay_173 ?_
    exact x_r1i h hQ
noncomputable def D_table_48 (f2_13 : Int32) (σ : t_S) (k84 : Int32 → Option (Int32 × t_S)) : Nat → Int32 → Int32 → Option (Int32 × t_S)
  | 0, _, _ => none
  | f + 1, v4_14, v5_15 =>
    x_b (D_routes σ) fun r19 =>
    if r19 ≤ v5_15 then (k84 v4_14) else
    x_b (D_routeAt v5_15 (0 : Int32) σ) fun r22 =>
    if r22 = f2_13 then (x_l (v4_14 + (1 : Int32)) fun v26 =>
    x_l (v5_15 + (1 : Int32)) fun v27 =>
    D_table_48 f2_13 σ k84 f v26 v27) else
    x_l (v4_14 + (0 : Int32)) fun v24 =>
    x_l (v5_15 + (1 : Int32)) fun v25 =>
    D_table_48 f2_13 σ k84 f v24 v25
theorem w_table_48 {f2_13 : Int32} {σ : t_S} {rz : Int32} {k84 : Int32 → Option (Int32 × t_S)} (hk84 : ∀ (v4_16 : Int32), k84 v4_16 = some (rz, σz) → z_V g (d + 3) YX2_table 84 [(4, .int v4_16)] [] (t_m b σ μ) Q) (hQ : Q (.inl (some (.int rz))) (t_m b σz μ)) : ∀ (f : Nat) (v4_14 : Int32) (v5_15 : Int32), D_table_48 f2_13 σ k84 f v4_14 v5_15 = some (rz, σz) → z_V g (d + 3) YX2_table 48 [(0, .ref b), (2, .int f2_13), (4, .int v4_14), (5, .int v5_15)] [] (t_m b σ μ) Q := by
  intro f
  induction f with
  | zero =>
    intro v4_14 v5_15 h
    exact absurd h (x_n _)
  | succ f ih =>
    intro v4_14 v5_15 h
    refine zi_iload 3 dX2_table_48 rfl ?_
    refine zi_aload_n 0 dX2_table_50 rfl rfl ?_
    obtain ⟨r19, h18, h⟩ := x_bE h
    refine zi_callV [] mX2_routes rfl q2591 t_rec rfl rfl (Nat.le_of_ble_eq_true rfl) dX2_table_51 ?_
    refine w_routes h18 ?_
    refine zi_icmp_ge 84 dX2_table_54 (by decide) (fun c20 => ?_) (fun c20 => ?_)
    · replace h := x_iT h c20
      refine zi_sub [2] rfl ?_
      exact hk84 _ h
    · replace h := x_iF h c20
      refine zi_iload 2 dX2_table_57 rfl ?_
      refine zi_aload_n 0 dX2_table_59 rfl rfl ?_
      refine zi_iload 3 dX2_table_60 rfl ?_
      refine zi_iconst (v := 0) dX2_table_62 (by decide) ?_
      obtain ⟨r22, h21, h⟩ := x_bE h
      refine zi_callV [.int v5_15, .int (0 : Int32)] mX2_routeAt rfl q2595 t_rec rfl rfl (Nat.le_of_ble_eq_true rfl) dX2_table_63 ?_
      refine w_routeAt h21 ?_
      refine zi_iload_n 1 dX2_table_66 rfl rfl ?_
      refine zi_icmp_ne 74 dX2_table_67 (by decide) (fun c23 => ?_) (fun c23 => ?_)
      · replace h := x_iF h c23
        refine zi_iconst (v := 0) dX2_table_74 (by decide) ?_
        refine zi_iadd dX2_table_75 ?_
        refine zi_istore (lc1 := [(4, _), (0, _), (2, _), (5, _)]) dX2_table_76 (Nat.le_of_ble_eq_true rfl) rfl ?_
        refine x_lI (fun v24 => z_V g (d + 3) YX2_table 78 [(4, .int v24), (0, .ref b), (2, .int f2_13), (5, .int v5_15)] [] (t_m b σ μ) Q) h (fun v24 h => ?_)
        refine zi_iinc (v := (v5_15 + (1 : Int32))) (lc1 := [(5, _), (4, _), (0, _), (2, _)]) 3 dX2_table_78 rfl rfl (Nat.le_of_ble_eq_true rfl) rfl ?_
        refine x_lI (fun v25 => z_V g (d + 3) YX2_table 81 [(5, .int v25), (4, .int v24), (0, .ref b), (2, .int f2_13)] [] (t_m b σ μ) Q) h (fun v25 h => ?_)
        refine zi_goto 48 dX2_table_81 (by decide) ?_
        refine zi_sub [2, 3, 1, 0] rfl ?_
        exact ih _ _ h
      · replace h := x_iT h c23
        refine zi_iconst (v := 1) dX2_table_70 (by decide) ?_
        refine zi_goto 75 dX2_table_71 (by decide) ?_
        refine zi_iadd dX2_table_75 ?_
        refine zi_istore (lc1 := [(4, _), (0, _), (2, _), (5, _)]) dX2_table_76 (Nat.le_of_ble_eq_true rfl) rfl ?_
        refine x_lI (fun v26 => z_V g (d + 3) YX2_table 78 [(4, .int v26), (0, .ref b), (2, .int f2_13), (5, .int v5_15)] [] (t_m b σ μ) Q) h (fun v26 h => ?_)
        refine zi_iinc (v := (v5_15 + (1 : Int32))) (lc1 := [(5, _), (4, _), (0, _), (2, _)]) 3 dX2_table_78 rfl rfl (Nat.le_of_ble_eq_true rfl) rfl ?_
        refine x_lI (fun v27 => z_V g (d + 3) YX2_table 81 [(5, .int v27), (4, .int v26), (0, .ref b), (2, .int f2_13)] [] (t_m b σ μ) Q) h (fun v27 h => ?_)
        refine zi_goto 48 dX2_table_81 (by decide) ?_
        refine zi_sub [2, 3, 1, 0] rfl ?_
        exact ih _ _ h
noncomputable def D_table (a1 : Int32) (a2 : Int32) (a3 : Int32) (σ : t_S) : Option (Int32 × t_S) :=
  x_l (t_si σ 0 (0 : Int32)) fun σ1 =>
  x_b2 (D_hasNet a1 σ1) fun r3 σ4 =>
  if r3 = 0 then (some ((-1 : Int32), σ4)) else
  x_b (D_isNode a2 σ4) fun r7 =>
  if r7 = 0 then (some ((-1 : Int32), σ4)) else
  x_b (D_in a3 (0 : Int32) (1 : Int32)) fun r10 =>
  if r10 = 0 then (some ((-1 : Int32), σ4)) else
  if a3 = 0 then (x_b2 (D_rowsAt a2 σ4) fun r30 σ31 =>
  some (r30, σ31)) else
  D_table_48 a2 σ4
    (fun (v4_28 : Int32) => some (v4_28, σ4))
    x_F (0 : Int32) (0 : Int32)
theorem w_table {a1 : Int32} {a2 : Int32} {a3 : Int32} {rz : Int32} (h : D_table a1 a2 a3 σ = some (rz, σz)) (hQ : Q (.inl (some (.int rz))) (t_m b σz μ)) : z_K g (d + 3) YX2_table [.ref b, .int a1, .int a2, .int a3] (t_m b σ μ) Q := by
  unfold D_table at h
  refine z_K.of (by decide) rfl (Nat.le_of_ble_eq_true rfl) ?_
  refine zi_aload_n 0 dX2_table_0 rfl rfl ?_
  refine zi_iconst (v := 0) dX2_table_1 (by decide) ?_
  refine ti_putI 0 ⟨Nat.le_of_ble_eq_true rfl, rfl, rfl⟩ (tyX2_ok 0 (Nat.le_of_ble_eq_true rfl)) q2170 dX2_table_2 ?_
  refine x_lI (fun σ1 => z_V g (d + 3) YX2_table 5 [(0, .ref b), (1, .int a1), (2, .int a2), (3, .int a3)] [] (t_m b σ1 μ) Q) h (fun σ1 h => ?_)
  refine zi_aload_n 0 dX2_table_5 rfl rfl ?_
  refine zi_iload_n 1 dX2_table_6 rfl rfl ?_
  obtain ⟨r3, σ4, h2, h⟩ := x_b2E h
  refine zi_callV [.int a1] mX2_hasNet rfl q2563 t_rec rfl rfl (Nat.le_of_ble_eq_true rfl) dX2_table_7 ?_
  refine w_hasNet h2 ?_
  refine zi_if_eq 30 dX2_table_10 (by decide) (fun c5 => ?_) (fun c5 => ?_)
  · replace h := x_iT h c5
    refine zi_iconst (v := -1) dX2_table_30 (by decide) ?_
    refine zi_ireturn rfl rfl dX2_table_31 ?_
    exact x_r2i h hQ
  · replace h := x_iF h c5
    refine zi_aload_n 0 dX2_table_13 rfl rfl ?_
    refine zi_iload_n 2 dX2_table_14 rfl rfl ?_
    obtain ⟨r7, h6, h⟩ := x_bE h
    refine zi_callV [.int a2] mX2_isNode rfl q2571 t_rec rfl rfl (Nat.le_of_ble_eq_true rfl) dX2_table_15 ?_
    refine w_isNode h6 ?_
    refine zi_if_eq 30 dX2_table_18 (by decide) (fun c8 => ?_) (fun c8 => ?_)
    · replace h := x_iT h c8
      refine zi_iconst (v := -1) dX2_table_30 (by decide) ?_
      refine zi_ireturn rfl rfl dX2_table_31 ?_
      exact x_r2i h hQ
    · replace h := x_iF h c8
      refine zi_iload_n 3 dX2_table_21 rfl rfl ?_
      refine zi_iconst (v := 0) dX2_table_22 (by decide) ?_
      refine zi_iconst (v := 1) dX2_table_23 (by decide) ?_
      obtain ⟨r10, h9, h⟩ := x_bE h
      refine zi_callS [.int a3, .int (0 : Int32), .int (1 : Int32)] mX2_in rfl q2445 rfl rfl (Nat.le_of_ble_eq_true rfl) dX2_table_24 ?_
      refine w_in h9 ?_
      refine zi_if_ne 32 dX2_table_27 (by decide) (fun c11 => ?_) (fun c11 => ?_)
      · replace h := x_iF h c11
        refine zi_iload_n 3 dX2_table_32 rfl rfl ?_
        refine zi_if_ne 42 dX2_table_33 (by decide) (fun c12 => ?_) (fun c12 => ?_)
        · replace h := x_iF h c12
          refine zi_iconst (v := 0) dX2_table_42 (by decide) ?_
          refine zi_istore (lc1 := [(4, _), (0, _), (1, _), (2, _), (3, _)]) dX2_table_43 (Nat.le_of_ble_eq_true rfl) rfl ?_
          refine zi_iconst (v := 0) dX2_table_45 (by decide) ?_
          refine zi_istore (lc1 := [(5, _), (4, _), (0, _), (1, _), (2, _), (3, _)]) dX2_table_46 (Nat.le_of_ble_eq_true rfl) rfl ?_
          refine zi_sub [2, 4, 1, 0] rfl ?_
          refine w_table_48 (fun v4_28 h => ?_) hQ _ _ _ h
          · refine zi_iload 0 dX2_table_84 rfl ?_
            refine zi_ireturn rfl rfl dX2_table_86 ?_
            exact x_r2i h hQ
        · replace h := x_iT h c12
          refine zi_aload_n 0 dX2_table_36 rfl rfl ?_
          refine zi_iload_n 2 dX2_table_37 rfl rfl ?_
          obtain ⟨r30, σ31, h29, h⟩ := x_b2E h
          refine zi_callV [.int a2] mX2_rowsAt rfl q2837 t_rec rfl rfl (Nat.le_of_ble_eq_true rfl) dX2_table_38 ?_
          refine w_rowsAt h29 ?_
          refine zi_ireturn rfl rfl dX2_table_41 ?_
          exact x_r2i h hQ
      · replace h := x_iT h c11
        refine zi_iconst (v := -1) dX2_table_30 (by decide) ?_
        refine zi_ireturn rfl rfl dX2_table_31 ?_
        exact x_r2i h hQ
noncomputable def D_far_34 (f2_12 : Int32) (f3_13 : Int32) (k74 : t_S → Option (Int32 × t_S)) : Nat → Int32 → t_S → Option (Int32 × t_S)
  | 0, _, _ => none
  | f + 1, v4_14, σ15 =>
    if (36 : Int32) ≤ v4_14 then (k74 σ15) else
    if (v4_14 / (6 : Int32)) = (v4_14 - v4_14 / (6 : Int32) * (6 : Int32)) then (x_ga v4_14 36 fun j22 =>
    x_l (t_sa σ15 80 j22 (0 : Int32)) fun σ23 =>
    x_l (v4_14 + (1 : Int32)) fun v24 =>
    D_far_34 f2_12 f3_13 k74 f v24 σ23) else
    x_ga v4_14 36 fun j19 =>
    x_l (t_sa σ15 80 j19 (1000000 : Int32)) fun σ20 =>
    x_l (v4_14 + (1 : Int32)) fun v21 =>
    D_far_34 f2_12 f3_13 k74 f v21 σ20
theorem w_far_34 {f2_12 : Int32} {f3_13 : Int32} {rz : Int32} {k74 : t_S → Option (Int32 × t_S)} (hk74 : ∀ (σ16 : t_S), k74 σ16 = some (rz, σz) → z_V g (d + 3) YX2_far 74 [(0, .ref b), (2, .int f2_12), (3, .int f3_13)] [] (t_m b σ16 μ) Q) (hQ : Q (.inl (some (.int rz))) (t_m b σz μ)) : ∀ (f : Nat) (v4_14 : Int32) (σ15 : t_S), D_far_34 f2_12 f3_13 k74 f v4_14 σ15 = some (rz, σz) → z_V g (d + 3) YX2_far 34 [(0, .ref b), (2, .int f2_12), (3, .int f3_13), (4, .int v4_14)] [] (t_m b σ15 μ) Q := by
  intro f
  induction f with
  | zero =>
    intro v4_14 σ15 h
    exact absurd h (x_n _)
  | succ f ih =>
    intro v4_14 σ15 h
    refine zi_iload 3 dX2_far_34 rfl ?_
    refine zi_bipush (v := 36) dX2_far_36 (by decide) ?_
    refine zi_icmp_ge 74 dX2_far_38 (by decide) (fun c17 => ?_) (fun c17 => ?_)
    · replace h := x_iT h c17
      refine zi_sub [0, 1, 2] rfl ?_
      exact hk74 _ h
    · replace h := x_iF h c17
      refine zi_aload_n 0 dX2_far_41 rfl rfl ?_
      refine ti_getA 80 50 t_o80 q2250 dX2_far_42 ?_
      refine zi_iload 3 dX2_far_45 rfl ?_
      refine zi_iload 3 dX2_far_47 rfl ?_
      refine zi_bipush (v := 6) dX2_far_49 (by decide) ?_
      refine zi_idiv dX2_far_51 (by decide) ?_
      refine zi_iload 3 dX2_far_52 rfl ?_
      refine zi_bipush (v := 6) dX2_far_54 (by decide) ?_
      refine zi_irem dX2_far_56 (by decide) ?_
      refine zi_icmp_ne 64 dX2_far_57 (by decide) (fun c18 => ?_) (fun c18 => ?_)
      · replace h := x_iF h c18
        refine zi_ldcw (v := 1000000) q2739 dX2_far_64 ?_
        obtain ⟨j19, hj19, h⟩ := x_gaE h
        refine ti_iast 80 j19 36 49 ⟨rfl, rfl⟩ hj19 dX2_far_67 ?_
        refine x_lI (fun σ20 => z_V g (d + 3) YX2_far 68 [(0, .ref b), (2, .int f2_12), (3, .int f3_13), (4, .int v4_14)] [] (t_m b σ20 μ) Q) h (fun σ20 h => ?_)
        refine zi_iinc (v := (v4_14 + (1 : Int32))) (lc1 := [(4, _), (0, _), (2, _), (3, _)]) 3 dX2_far_68 rfl rfl (Nat.le_of_ble_eq_true rfl) rfl ?_
        refine x_lI (fun v21 => z_V g (d + 3) YX2_far 71 [(4, .int v21), (0, .ref b), (2, .int f2_12), (3, .int f3_13)] [] (t_m b σ20 μ) Q) h (fun v21 h => ?_)
        refine zi_goto 34 dX2_far_71 (by decide) ?_
        refine zi_sub [1, 2, 3, 0] rfl ?_
        exact ih _ _ h
      · replace h := x_iT h c18
        refine zi_iconst (v := 0) dX2_far_60 (by decide) ?_
        refine zi_goto 67 dX2_far_61 (by decide) ?_
        obtain ⟨j22, hj22, h⟩ := x_gaE h
        refine ti_iast 80 j22 36 49 ⟨rfl, rfl⟩ hj22 dX2_far_67 ?_
        refine x_lI (fun σ23 => z_V g (d + 3) YX2_far 68 [(0, .ref b), (2, .int f2_12), (3, .int f3_13), (4, .int v4_14)] [] (t_m b σ23 μ) Q) h (fun σ23 h => ?_)
        refine zi_iinc (v := (v4_14 + (1 : Int32))) (lc1 := [(4, _), (0, _), (2, _), (3, _)]) 3 dX2_far_68 rfl rfl (Nat.le_of_ble_eq_true rfl) rfl ?_
        refine x_lI (fun v24 => z_V g (d + 3) YX2_far 71 [(4, .int v24), (0, .ref b), (2, .int f2_12), (3, .int f3_13)] [] (t_m b σ23 μ) Q) h (fun v24 h => ?_)
        refine zi_goto 34 dX2_far_71 (by decide) ?_
        refine zi_sub [1, 2, 3, 0] rfl ?_
        exact ih _ _ h
noncomputable def D_far_77 (f2_26 : Int32) (f3_27 : Int32) (k152 : t_S → Option (Int32 × t_S)) : Nat → Int32 → t_S → Option (Int32 × t_S)
  | 0, _, _ => none
  | f + 1, v4_28, σ29 =>
    x_b (D_links σ29) fun r32 =>
    if r32 ≤ v4_28 then (k152 σ29) else
    x_b (D_linkAt v4_28 (0 : Int32) σ29) fun r35 =>
    x_b (D_linkAt v4_28 (1 : Int32) σ29) fun r37 =>
    x_b (D_linkAt v4_28 (2 : Int32) σ29) fun r39 =>
    x_ga (((6 : Int32) * r35) + r37) 36 fun j40 =>
    x_l (t_sa σ29 80 j40 r39) fun σ41 =>
    x_b (D_linkAt v4_28 (1 : Int32) σ41) fun r43 =>
    x_b (D_linkAt v4_28 (0 : Int32) σ41) fun r45 =>
    x_b (D_linkAt v4_28 (2 : Int32) σ41) fun r47 =>
    x_ga (((6 : Int32) * r43) + r45) 36 fun j48 =>
    x_l (t_sa σ41 80 j48 r47) fun σ49 =>
    x_l (v4_28 + (1 : Int32)) fun v50 =>
    D_far_77 f2_26 f3_27 k152 f v50 σ49
theorem w_far_77 {f2_26 : Int32} {f3_27 : Int32} {rz : Int32} {k152 : t_S → Option (Int32 × t_S)} (hk152 : ∀ (σ30 : t_S), k152 σ30 = some (rz, σz) → z_V g (d + 3) YX2_far 152 [(0, .ref b), (2, .int f2_26), (3, .int f3_27)] [] (t_m b σ30 μ) Q) (hQ : Q (.inl (some (.int rz))) (t_m b σz μ)) : ∀ (f : Nat) (v4_28 : Int32) (σ29 : t_S), D_far_77 f2_26 f3_27 k152 f v4_28 σ29 = some (rz, σz) → z_V g (d + 3) YX2_far 77 [(0, .ref b), (2, .int f2_26), (3, .int f3_27), (4, .int v4_28)] [] (t_m b σ29 μ) Q := by
  intro f
  induction f with
  | zero =>
    intro v4_28 σ29 h
    exact absurd h (x_n _)
  | succ f ih =>
    intro v4_28 σ29 h
    refine zi_iload 3 dX2_far_77 rfl ?_
    refine zi_aload_n 0 dX2_far_79 rfl rfl ?_
    obtain ⟨r32, h31, h⟩ := x_bE h
    refine zi_callV [] mX2_links rfl q2579 t_rec rfl rfl (Nat.le_of_ble_eq_true rfl) dX2_far_80 ?_
    refine w_links h31 ?_
    refine zi_icmp_ge 152 dX2_far_83 (by decide) (fun c33 => ?_) (fun c33 => ?_)
    · replace h := x_iT h c33
      refine zi_sub [0, 1, 2] rfl ?_
      exact hk152 _ h
    · replace h := x_iF h c33
      refine zi_aload_n 0 dX2_far_86 rfl rfl ?_
      refine ti_getA 80 50 t_o80 q2250 dX2_far_87 ?_
      refine zi_bipush (v := 6) dX2_far_90 (by decide) ?_
      refine zi_aload_n 0 dX2_far_92 rfl rfl ?_
      refine zi_iload 3 dX2_far_93 rfl ?_
      refine zi_iconst (v := 0) dX2_far_95 (by decide) ?_
      obtain ⟨r35, h34, h⟩ := x_bE h
      refine zi_callV [.int v4_28, .int (0 : Int32)] mX2_linkAt rfl q2583 t_rec rfl rfl (Nat.le_of_ble_eq_true rfl) dX2_far_96 ?_
      refine w_linkAt h34 ?_
      refine zi_imul dX2_far_99 ?_
      refine zi_aload_n 0 dX2_far_100 rfl rfl ?_
      refine zi_iload 3 dX2_far_101 rfl ?_
      refine zi_iconst (v := 1) dX2_far_103 (by decide) ?_
      obtain ⟨r37, h36, h⟩ := x_bE h
      refine zi_callV [.int v4_28, .int (1 : Int32)] mX2_linkAt rfl q2583 t_rec rfl rfl (Nat.le_of_ble_eq_true rfl) dX2_far_104 ?_
      refine w_linkAt h36 ?_
      refine zi_iadd dX2_far_107 ?_
      refine zi_aload_n 0 dX2_far_108 rfl rfl ?_
      refine zi_iload 3 dX2_far_109 rfl ?_
      refine zi_iconst (v := 2) dX2_far_111 (by decide) ?_
      obtain ⟨r39, h38, h⟩ := x_bE h
      refine zi_callV [.int v4_28, .int (2 : Int32)] mX2_linkAt rfl q2583 t_rec rfl rfl (Nat.le_of_ble_eq_true rfl) dX2_far_112 ?_
      refine w_linkAt h38 ?_
      obtain ⟨j40, hj40, h⟩ := x_gaE h
      refine ti_iast 80 j40 36 49 ⟨rfl, rfl⟩ hj40 dX2_far_115 ?_
      refine x_lI (fun σ41 => z_V g (d + 3) YX2_far 116 [(0, .ref b), (2, .int f2_26), (3, .int f3_27), (4, .int v4_28)] [] (t_m b σ41 μ) Q) h (fun σ41 h => ?_)
      refine zi_aload_n 0 dX2_far_116 rfl rfl ?_
      refine ti_getA 80 50 t_o80 q2250 dX2_far_117 ?_
      refine zi_bipush (v := 6) dX2_far_120 (by decide) ?_
      refine zi_aload_n 0 dX2_far_122 rfl rfl ?_
      refine zi_iload 3 dX2_far_123 rfl ?_
      refine zi_iconst (v := 1) dX2_far_125 (by decide) ?_
      obtain ⟨r43, h42, h⟩ := x_bE h
      refine zi_callV [.int v4_28, .int (1 : Int32)] mX2_linkAt rfl q2583 t_rec rfl rfl (Nat.le_of_ble_eq_true rfl) dX2_far_126 ?_
      refine w_linkAt h42 ?_
      refine zi_imul dX2_far_129 ?_
      refine zi_aload_n 0 dX2_far_130 rfl rfl ?_
      refine zi_iload 3 dX2_far_131 rfl ?_
      refine zi_iconst (v := 0) dX2_far_133 (by decide) ?_
      obtain ⟨r45, h44, h⟩ := x_bE h
      refine zi_callV [.int v4_28, .int (0 : Int32)] mX2_linkAt rfl q2583 t_rec rfl rfl (Nat.le_of_ble_eq_true rfl) dX2_far_134 ?_
      refine w_linkAt h44 ?_
      refine zi_iadd dX2_far_137 ?_
      refine zi_aload_n 0 dX2_far_138 rfl rfl ?_
      refine zi_iload 3 dX2_far_139 rfl ?_
      refine zi_iconst (v := 2) dX2_far_141 (by decide) ?_
      obtain ⟨r47, h46, h⟩ := x_bE h
      refine zi_callV [.int v4_28, .int (2 : Int32)] mX2_linkAt rfl q2583 t_rec rfl rfl (Nat.le_of_ble_eq_true rfl) dX2_far_142 ?_
      refine w_linkAt h46 ?_
      obtain ⟨j48, hj48, h⟩ := x_gaE h
      refine ti_iast 80 j48 36 49 ⟨rfl, rfl⟩ hj48 dX2_far_145 ?_
      refine x_lI (fun σ49 => z_V g (d + 3) YX2_far 146 [(0, .ref b), (2, .int f2_26), (3, .int f3_27), (4, .int v4_28)] [] (t_m b σ49 μ) Q) h (fun σ49 h => ?_)
      refine zi_iinc (v := (v4_28 + (1 : Int32))) (lc1 := [(4, _), (0, _), (2, _), (3, _)]) 3 dX2_far_146 rfl rfl (Nat.le_of_ble_eq_true rfl) rfl ?_
      refine x_lI (fun v50 => z_V g (d + 3) YX2_far 149 [(4, .int v50), (0, .ref b), (2, .int f2_26), (3, .int f3_27)] [] (t_m b σ49 μ) Q) h (fun v50 h => ?_)
      refine zi_goto 77 dX2_far_149 (by decide) ?_
      refine zi_sub [1, 2, 3, 0] rfl ?_
      exact ih _ _ h
noncomputable def D_far_165 (f2_58 : Int32) (f3_59 : Int32) (f4_60 : Int32) (k232 : t_S → Option (Int32 × t_S)) : Nat → Int32 → t_S → Option (Int32 × t_S)
  | 0, _, _ => none
  | f + 1, v5_61, σ62 =>
    if (36 : Int32) ≤ v5_61 then (k232 σ62) else
    x_ga (((6 : Int32) * (v5_61 / (6 : Int32))) + f4_60) 36 fun j65 =>
    x_ga (((6 : Int32) * f4_60) + (v5_61 - v5_61 / (6 : Int32) * (6 : Int32))) 36 fun j66 =>
    x_l ((t_a σ62 80 j65) + (t_a σ62 80 j66)) fun v67 =>
    x_ga v5_61 36 fun j68 =>
    x_b (D_lesser (t_a σ62 80 j68) v67) fun r70 =>
    x_ga v5_61 36 fun j71 =>
    x_l (t_sa σ62 80 j71 r70) fun σ72 =>
    x_l (v5_61 + (1 : Int32)) fun v73 =>
    D_far_165 f2_58 f3_59 f4_60 k232 f v73 σ72
theorem w_far_165 {f2_58 : Int32} {f3_59 : Int32} {f4_60 : Int32} {rz : Int32} {k232 : t_S → Option (Int32 × t_S)} (hk232 : ∀ (σ63 : t_S), k232 σ63 = some (rz, σz) → z_V g (d + 3) YX2_far 232 [(0, .ref b), (2, .int f2_58), (3, .int f3_59), (4, .int f4_60)] [] (t_m b σ63 μ) Q) (hQ : Q (.inl (some (.int rz))) (t_m b σz μ)) : ∀ (f : Nat) (v5_61 : Int32) (σ62 : t_S), D_far_165 f2_58 f3_59 f4_60 k232 f v5_61 σ62 = some (rz, σz) → z_V g (d + 3) YX2_far 165 [(0, .ref b), (2, .int f2_58), (3, .int f3_59), (4, .int f4_60), (5, .int v5_61)] [] (t_m b σ62 μ) Q := by
  intro f
  induction f with
  | zero =>
    intro v5_61 σ62 h
    exact absurd h (x_n _)
  | succ f ih =>
    intro v5_61 σ62 h
    refine zi_iload 4 dX2_far_165 rfl ?_
    refine zi_bipush (v := 36) dX2_far_167 (by decide) ?_
    refine zi_icmp_ge 232 dX2_far_169 (by decide) (fun c64 => ?_) (fun c64 => ?_)
    · replace h := x_iT h c64
      refine zi_sub [0, 1, 2, 3] rfl ?_
      exact hk232 _ h
    · replace h := x_iF h c64
      refine zi_aload_n 0 dX2_far_172 rfl rfl ?_
      refine ti_getA 80 50 t_o80 q2250 dX2_far_173 ?_
      refine zi_bipush (v := 6) dX2_far_176 (by decide) ?_
      refine zi_iload 4 dX2_far_178 rfl ?_
      refine zi_bipush (v := 6) dX2_far_180 (by decide) ?_
      refine zi_idiv dX2_far_182 (by decide) ?_
      refine zi_imul dX2_far_183 ?_
      refine zi_iload 3 dX2_far_184 rfl ?_
      refine zi_iadd dX2_far_186 ?_
      obtain ⟨j65, hj65, h⟩ := x_gaE h
      refine ti_iald 80 j65 36 49 ⟨rfl, rfl⟩ hj65 dX2_far_187 ?_
      refine zi_aload_n 0 dX2_far_188 rfl rfl ?_
      refine ti_getA 80 50 t_o80 q2250 dX2_far_189 ?_
      refine zi_bipush (v := 6) dX2_far_192 (by decide) ?_
      refine zi_iload 3 dX2_far_194 rfl ?_
      refine zi_imul dX2_far_196 ?_
      refine zi_iload 4 dX2_far_197 rfl ?_
      refine zi_bipush (v := 6) dX2_far_199 (by decide) ?_
      refine zi_irem dX2_far_201 (by decide) ?_
      refine zi_iadd dX2_far_202 ?_
      obtain ⟨j66, hj66, h⟩ := x_gaE h
      refine ti_iald 80 j66 36 49 ⟨rfl, rfl⟩ hj66 dX2_far_203 ?_
      refine zi_iadd dX2_far_204 ?_
      refine zi_istore (lc1 := [(6, _), (0, _), (2, _), (3, _), (4, _), (5, _)]) dX2_far_205 (Nat.le_of_ble_eq_true rfl) rfl ?_
      refine x_lI (fun v67 => z_V g (d + 3) YX2_far 207 [(6, .int v67), (0, .ref b), (2, .int f2_58), (3, .int f3_59), (4, .int f4_60), (5, .int v5_61)] [] (t_m b σ62 μ) Q) h (fun v67 h => ?_)
      refine zi_aload_n 1 dX2_far_207 rfl rfl ?_
      refine ti_getA 80 50 t_o80 q2250 dX2_far_208 ?_
      refine zi_iload 5 dX2_far_211 rfl ?_
      refine zi_aload_n 1 dX2_far_213 rfl rfl ?_
      refine ti_getA 80 50 t_o80 q2250 dX2_far_214 ?_
      refine zi_iload 5 dX2_far_217 rfl ?_
      obtain ⟨j68, hj68, h⟩ := x_gaE h
      refine ti_iald 80 j68 36 49 ⟨rfl, rfl⟩ hj68 dX2_far_219 ?_
      refine zi_iload 0 dX2_far_220 rfl ?_
      obtain ⟨r70, h69, h⟩ := x_bE h
      refine zi_callS [.int (t_a σ62 80 j68), .int v67] mX2_lesser rfl q2515 rfl rfl (Nat.le_of_ble_eq_true rfl) dX2_far_222 ?_
      refine w_lesser h69 ?_
      obtain ⟨j71, hj71, h⟩ := x_gaE h
      refine ti_iast 80 j71 36 49 ⟨rfl, rfl⟩ hj71 dX2_far_225 ?_
      refine x_lI (fun σ72 => z_V g (d + 3) YX2_far 226 [(6, .int v67), (0, .ref b), (2, .int f2_58), (3, .int f3_59), (4, .int f4_60), (5, .int v5_61)] [] (t_m b σ72 μ) Q) h (fun σ72 h => ?_)
      refine zi_iinc (v := (v5_61 + (1 : Int32))) (lc1 := [(5, _), (6, _), (0, _), (2, _), (3, _), (4, _)]) 5 dX2_far_226 rfl rfl (Nat.le_of_ble_eq_true rfl) rfl ?_
      refine x_lI (fun v73 => z_V g (d + 3) YX2_far 229 [(5, .int v73), (6, .int v67), (0, .ref b), (2, .int f2_58), (3, .int f3_59), (4, .int f4_60)] [] (t_m b σ72 μ) Q) h (fun v73 h => ?_)
      refine zi_goto 165 dX2_far_229 (by decide) ?_
      refine zi_sub [2, 3, 4, 5, 0] rfl ?_
      exact ih _ _ h
noncomputable def D_far_155 (f2_52 : Int32) (f3_53 : Int32) (k238 : t_S → Option (Int32 × t_S)) : Nat → Int32 → t_S → Option (Int32 × t_S)
  | 0, _, _ => none
  | f + 1, v4_54, σ55 =>
    if (6 : Int32) ≤ v4_54 then (k238 σ55) else
    D_far_165 f2_52 f3_53 v4_54
      (fun (σ74 : t_S) => x_l (v4_54 + (1 : Int32)) fun v75 =>
    D_far_155 f2_52 f3_53 k238 f v75 σ74)
      x_F (0 : Int32) σ55
theorem w_far_155 {f2_52 : Int32} {f3_53 : Int32} {rz : Int32} {k238 : t_S → Option (Int32 × t_S)} (hk238 : ∀ (σ56 : t_S), k238 σ56 = some (rz, σz) → z_V g (d + 3) YX2_far 238 [(0, .ref b), (2, .int f2_52), (3, .int f3_53)] [] (t_m b σ56 μ) Q) (hQ : Q (.inl (some (.int rz))) (t_m b σz μ)) : ∀ (f : Nat) (v4_54 : Int32) (σ55 : t_S), D_far_155 f2_52 f3_53 k238 f v4_54 σ55 = some (rz, σz) → z_V g (d + 3) YX2_far 155 [(0, .ref b), (2, .int f2_52), (3, .int f3_53), (4, .int v4_54)] [] (t_m b σ55 μ) Q := by
  intro f
  induction f with
  | zero =>
    intro v4_54 σ55 h
    exact absurd h (x_n _)
  | succ f ih =>
    intro v4_54 σ55 h
    refine zi_iload 3 dX2_far_155 rfl ?_
    refine zi_bipush (v := 6) dX2_far_157 (by decide) ?_
    refine zi_icmp_ge 238 dX2_far_159 (by decide) (fun c57 => ?_) (fun c57 => ?_)
    · replace h := x_iT h c57
      refine zi_sub [0, 1, 2] rfl ?_
      exact hk238 _ h
    · replace h := x_iF h c57
      refine zi_iconst (v := 0) dX2_far_162 (by decide) ?_
      refine zi_istore (lc1 := [(5, _), (0, _), (2, _), (3, _), (4, _)]) dX2_far_163 (Nat.le_of_ble_eq_true rfl) rfl ?_
      refine zi_sub [1, 2, 3, 4, 0] rfl ?_
      refine w_far_165 (fun σ74 h => ?_) hQ _ _ _ h
      · refine zi_iinc (v := (v4_54 + (1 : Int32))) (lc1 := [(4, _), (0, _), (2, _), (3, _)]) 3 dX2_far_232 rfl rfl (Nat.le_of_ble_eq_true rfl) rfl ?_
        refine x_lI (fun v75 => z_V g (d + 3) YX2_far 235 [(4, .int v75), (0, .ref b), (2, .int f2_52), (3, .int f3_53)] [] (t_m b σ74 μ) Q) h (fun v75 h => ?_)
        refine zi_goto 155 dX2_far_235 (by decide) ?_
        refine zi_sub [1, 2, 3, 0] rfl ?_
        exact ih _ _ h
noncomputable def D_far (a1 : Int32) (a2 : Int32) (a3 : Int32) (σ : t_S) : Option (Int32 × t_S) :=
  x_l (t_si σ 0 (0 : Int32)) fun σ1 =>
  x_b2 (D_hasNet a1 σ1) fun r3 σ4 =>
  if r3 = 0 then (some ((-1 : Int32), σ4)) else
  x_b (D_isNode a2 σ4) fun r7 =>
  if r7 = 0 then (some ((-1 : Int32), σ4)) else
  x_b (D_isNode a3 σ4) fun r10 =>
  if r10 = 0 then (some ((-1 : Int32), σ4)) else
  D_far_34 a2 a3
    (fun (σ25 : t_S) => D_far_77 a2 a3
    (fun (σ51 : t_S) => D_far_155 a2 a3
    (fun (σ76 : t_S) => x_ga (((6 : Int32) * a2) + a3) 36 fun j77 =>
  x_l (t_a σ76 80 j77) fun v78 =>
  if (1000000 : Int32) ≤ v78 then (some ((-1 : Int32), σ76)) else
  some (v78, σ76))
    x_F (0 : Int32) σ51)
    x_F (0 : Int32) σ25)
    x_F (0 : Int32) σ4
theorem w_far {a1 : Int32} {a2 : Int32} {a3 : Int32} {rz : Int32} (h : D_far a1 a2 a3 σ = some (rz, σz)) (hQ : Q (.inl (some (.int rz))) (t_m b σz μ)) : z_K g (d + 3) YX2_far [.ref b, .int a1, .int a2, .int a3] (t_m b σ μ) Q := by
  unfold D_far at h
  refine z_K.of (by decide) rfl (Nat.le_of_ble_eq_true rfl) ?_
  refine zi_aload_n 0 dX2_far_0 rfl rfl ?_
  refine zi_iconst (v := 0) dX2_far_1 (by decide) ?_
  refine ti_putI 0 ⟨Nat.le_of_ble_eq_true rfl, rfl, rfl⟩ (tyX2_ok 0 (Nat.le_of_ble_eq_true rfl)) q2170 dX2_far_2 ?_
  refine x_lI (fun σ1 => z_V g (d + 3) YX2_far 5 [(0, .ref b), (1, .int a1), (2, .int a2), (3, .int a3)] [] (t_m b σ1 μ) Q) h (fun σ1 h => ?_)
  refine zi_aload_n 0 dX2_far_5 rfl rfl ?_
  refine zi_iload_n 1 dX2_far_6 rfl rfl ?_
  obtain ⟨r3, σ4, h2, h⟩ := x_b2E h
  refine zi_callV [.int a1] mX2_hasNet rfl q2563 t_rec rfl rfl (Nat.le_of_ble_eq_true rfl) dX2_far_7 ?_
  refine w_hasNet h2 ?_
  refine zi_if_eq 29 dX2_far_10 (by decide) (fun c5 => ?_) (fun c5 => ?_)
  · replace h := x_iT h c5
    refine zi_iconst (v := -1) dX2_far_29 (by decide) ?_
    refine zi_ireturn rfl rfl dX2_far_30 ?_
    exact x_r2i h hQ
  · replace h := x_iF h c5
    refine zi_aload_n 0 dX2_far_13 rfl rfl ?_
    refine zi_iload_n 2 dX2_far_14 rfl rfl ?_
    obtain ⟨r7, h6, h⟩ := x_bE h
    refine zi_callV [.int a2] mX2_isNode rfl q2571 t_rec rfl rfl (Nat.le_of_ble_eq_true rfl) dX2_far_15 ?_
    refine w_isNode h6 ?_
    refine zi_if_eq 29 dX2_far_18 (by decide) (fun c8 => ?_) (fun c8 => ?_)
    · replace h := x_iT h c8
      refine zi_iconst (v := -1) dX2_far_29 (by decide) ?_
      refine zi_ireturn rfl rfl dX2_far_30 ?_
      exact x_r2i h hQ
    · replace h := x_iF h c8
      refine zi_aload_n 0 dX2_far_21 rfl rfl ?_
      refine zi_iload_n 3 dX2_far_22 rfl rfl ?_
      obtain ⟨r10, h9, h⟩ := x_bE h
      refine zi_callV [.int a3] mX2_isNode rfl q2571 t_rec rfl rfl (Nat.le_of_ble_eq_true rfl) dX2_far_23 ?_
      refine w_isNode h9 ?_
      refine zi_if_ne 31 dX2_far_26 (by decide) (fun c11 => ?_) (fun c11 => ?_)
      · replace h := x_iF h c11
        refine zi_iconst (v := 0) dX2_far_31 (by decide) ?_
        refine zi_istore (lc1 := [(4, _), (0, _), (1, _), (2, _), (3, _)]) dX2_far_32 (Nat.le_of_ble_eq_true rfl) rfl ?_
        refine zi_sub [1, 3, 4, 0] rfl ?_
        refine w_far_34 (fun σ25 h => ?_) hQ _ _ _ h
        · refine zi_iconst (v := 0) dX2_far_74 (by decide) ?_
          refine zi_istore (lc1 := [(4, _), (0, _), (2, _), (3, _)]) dX2_far_75 (Nat.le_of_ble_eq_true rfl) rfl ?_
          refine zi_sub [1, 2, 3, 0] rfl ?_
          refine w_far_77 (fun σ51 h => ?_) hQ _ _ _ h
          · refine zi_iconst (v := 0) dX2_far_152 (by decide) ?_
            refine zi_istore (lc1 := [(4, _), (0, _), (2, _), (3, _)]) dX2_far_153 (Nat.le_of_ble_eq_true rfl) rfl ?_
            refine zi_sub [1, 2, 3, 0] rfl ?_
            refine w_far_155 (fun σ76 h => ?_) hQ _ _ _ h
            · refine zi_aload_n 0 dX2_far_238 rfl rfl ?_
              refine ti_getA 80 50 t_o80 q2250 dX2_far_239 ?_
              refine zi_bipush (v := 6) dX2_far_242 (by decide) ?_
              refine zi_iload_n 1 dX2_far_244 rfl rfl ?_
              refine zi_imul dX2_far_245 ?_
              refine zi_iload_n 2 dX2_far_246 rfl rfl ?_
              refine zi_iadd dX2_far_247 ?_
              obtain ⟨j77, hj77, h⟩ := x_gaE h
              refine ti_iald 80 j77 36 49 ⟨rfl, rfl⟩ hj77 dX2_far_248 ?_
              refine zi_istore (lc1 := [(4, _), (0, _), (2, _), (3, _)]) dX2_far_249 (Nat.le_of_ble_eq_true rfl) rfl ?_
              refine x_lI (fun v78 => z_V g (d + 3) YX2_far 251 [(4, .int v78), (0, .ref b), (2, .int a2), (3, .int a3)] [] (t_m b σ76 μ) Q) h (fun v78 h => ?_)
              refine zi_iload 0 dX2_far_251 rfl ?_
              refine zi_ldcw (v := 1000000) q2739 dX2_far_253 ?_
              refine zi_icmp_ge 264 dX2_far_256 (by decide) (fun c79 => ?_) (fun c79 => ?_)
              · replace h := x_iT h c79
                refine zi_iconst (v := -1) dX2_far_264 (by decide) ?_
                refine zi_ireturn rfl rfl dX2_far_265 ?_
                exact x_r2i h hQ
              · replace h := x_iF h c79
                refine zi_iload 0 dX2_far_259 rfl ?_
                refine zi_goto 265 dX2_far_261 (by decide) ?_
                refine zi_ireturn rfl rfl dX2_far_265 ?_
                exact x_r2i h hQ
      · replace h := x_iT h c11
        refine zi_iconst (v := -1) dX2_far_29 (by decide) ?_
        refine zi_ireturn rfl rfl dX2_far_30 ?_
        exact x_r2i h hQ
noncomputable def D_fact (a1 : Int32) (a2 : Int32) (a3 : Int32) (σ : t_S) : Option (Int32 × t_S) :=
  x_l (t_si σ 0 (0 : Int32)) fun σ1 =>
  x_b2 (D_hasLog a1 σ1) fun r3 σ4 =>
  if r3 = 0 then (some ((-2 : Int32), σ4)) else
  if a2 = (-1 : Int32) then (if a3 = 0 then (x_b (D_facts σ4) fun r19 =>
  some (r19, σ4)) else
  some ((-2 : Int32), σ4)) else
  x_b (D_facts σ4) fun r8 =>
  x_b (D_in a2 (0 : Int32) (r8 - (1 : Int32))) fun r10 =>
  if r10 = 0 then (some ((-2 : Int32), σ4)) else
  x_b (D_in a3 (0 : Int32) (1 : Int32)) fun r13 =>
  if r13 = 0 then (some ((-2 : Int32), σ4)) else
  x_b (D_factOf a2 a3 σ4) fun r16 =>
  some (r16, σ4)
theorem w_fact {a1 : Int32} {a2 : Int32} {a3 : Int32} {rz : Int32} (h : D_fact a1 a2 a3 σ = some (rz, σz)) (hQ : Q (.inl (some (.int rz))) (t_m b σz μ)) : z_K g (d + 3) YX2_fact [.ref b, .int a1, .int a2, .int a3] (t_m b σ μ) Q := by
  unfold D_fact at h
  refine z_K.of (by decide) rfl (Nat.le_of_ble_eq_true rfl) ?_
  refine zi_aload_n 0 dX2_fact_0 rfl rfl ?_
  refine zi_iconst (v := 0) dX2_fact_1 (by decide) ?_
  refine ti_putI 0 ⟨Nat.le_of_ble_eq_true rfl, rfl, rfl⟩ (tyX2_ok 0 (Nat.le_of_ble_eq_true rfl)) q2170 dX2_fact_2 ?_
  refine x_lI (fun σ1 => z_V g (d + 3) YX2_fact 5 [(0, .ref b), (1, .int a1), (2, .int a2), (3, .int a3)] [] (t_m b σ1 μ) Q) h (fun σ1 h => ?_)
  refine zi_aload_n 0 dX2_fact_5 rfl rfl ?_
  refine zi_iload_n 1 dX2_fact_6 rfl rfl ?_
  obtain ⟨r3, σ4, h2, h⟩ := x_b2E h
  refine zi_callV [.int a1] mX2_hasLog rfl q2861 t_rec rfl rfl (Nat.le_of_ble_eq_true rfl) dX2_fact_7 ?_
  refine w_hasLog h2 ?_
  refine zi_if_ne 16 dX2_fact_10 (by decide) (fun c5 => ?_) (fun c5 => ?_)
  · replace h := x_iF h c5
    refine zi_iload_n 2 dX2_fact_16 rfl rfl ?_
    refine zi_iconst (v := -1) dX2_fact_17 (by decide) ?_
    refine zi_icmp_ne 35 dX2_fact_18 (by decide) (fun c6 => ?_) (fun c6 => ?_)
    · replace h := x_iF h c6
      refine zi_iload_n 2 dX2_fact_35 rfl rfl ?_
      refine zi_iconst (v := 0) dX2_fact_36 (by decide) ?_
      refine zi_aload_n 0 dX2_fact_37 rfl rfl ?_
      obtain ⟨r8, h7, h⟩ := x_bE h
      refine zi_callV [] mX2_facts rfl q2865 t_rec rfl rfl (Nat.le_of_ble_eq_true rfl) dX2_fact_38 ?_
      refine w_facts h7 ?_
      refine zi_iconst (v := 1) dX2_fact_41 (by decide) ?_
      refine zi_isub dX2_fact_42 ?_
      obtain ⟨r10, h9, h⟩ := x_bE h
      refine zi_callS [.int a2, .int (0 : Int32), .int (r8 - (1 : Int32))] mX2_in rfl q2445 rfl rfl (Nat.le_of_ble_eq_true rfl) dX2_fact_43 ?_
      refine w_in h9 ?_
      refine zi_if_eq 67 dX2_fact_46 (by decide) (fun c11 => ?_) (fun c11 => ?_)
      · replace h := x_iT h c11
        refine zi_bipush (v := -2) dX2_fact_67 (by decide) ?_
        refine zi_ireturn rfl rfl dX2_fact_69 ?_
        exact x_r2i h hQ
      · replace h := x_iF h c11
        refine zi_iload_n 3 dX2_fact_49 rfl rfl ?_
        refine zi_iconst (v := 0) dX2_fact_50 (by decide) ?_
        refine zi_iconst (v := 1) dX2_fact_51 (by decide) ?_
        obtain ⟨r13, h12, h⟩ := x_bE h
        refine zi_callS [.int a3, .int (0 : Int32), .int (1 : Int32)] mX2_in rfl q2445 rfl rfl (Nat.le_of_ble_eq_true rfl) dX2_fact_52 ?_
        refine w_in h12 ?_
        refine zi_if_eq 67 dX2_fact_55 (by decide) (fun c14 => ?_) (fun c14 => ?_)
        · replace h := x_iT h c14
          refine zi_bipush (v := -2) dX2_fact_67 (by decide) ?_
          refine zi_ireturn rfl rfl dX2_fact_69 ?_
          exact x_r2i h hQ
        · replace h := x_iF h c14
          refine zi_aload_n 0 dX2_fact_58 rfl rfl ?_
          refine zi_iload_n 2 dX2_fact_59 rfl rfl ?_
          refine zi_iload_n 3 dX2_fact_60 rfl rfl ?_
          obtain ⟨r16, h15, h⟩ := x_bE h
          refine zi_callV [.int a2, .int a3] mX2_factOf rfl q2869 t_rec rfl rfl (Nat.le_of_ble_eq_true rfl) dX2_fact_61 ?_
          refine w_factOf h15 ?_
          refine zi_goto 69 dX2_fact_64 (by decide) ?_
          refine zi_ireturn rfl rfl dX2_fact_69 ?_
          exact x_r2i h hQ
    · replace h := x_iT h c6
      refine zi_iload_n 3 dX2_fact_21 rfl rfl ?_
      refine zi_if_ne 32 dX2_fact_22 (by decide) (fun c17 => ?_) (fun c17 => ?_)
      · replace h := x_iF h c17
        refine zi_bipush (v := -2) dX2_fact_32 (by decide) ?_
        refine zi_ireturn rfl rfl dX2_fact_34 ?_
        exact x_r2i h hQ
      · replace h := x_iT h c17
        refine zi_aload_n 0 dX2_fact_25 rfl rfl ?_
        obtain ⟨r19, h18, h⟩ := x_bE h
        refine zi_callV [] mX2_facts rfl q2865 t_rec rfl rfl (Nat.le_of_ble_eq_true rfl) dX2_fact_26 ?_
        refine w_facts h18 ?_
        refine zi_goto 34 dX2_fact_29 (by decide) ?_
        refine zi_ireturn rfl rfl dX2_fact_34 ?_
        exact x_r2i h hQ
  · replace h := x_iT h c5
    refine zi_bipush (v := -2) dX2_fact_13 (by decide) ?_
    refine zi_ireturn rfl rfl dX2_fact_15 ?_
    exact x_r2i h hQ
noncomputable def D_netLine (a1 : Int64) (a3 : Int32) (σ : t_S) : Option (Int32 × t_S) :=
  x_l (x_b (D_token σ) fun σ2 =>
  x_l (fun (s3 : Int32) (s4 : Int32) (s5 : Int32) => x_b2 (D_take s3 s4 s5 σ2) fun r7 σ8 =>
  if r7 = 0 then (some ((0 : Int32), σ8)) else
  x_l (fun (s10 : Int32) => if (t_i σ8 21) = 0 then (x_ga s10 122 fun j12 =>
  x_ga s10 122 fun j13 =>
  x_l (t_sa σ8 18 j13 (t_a σ8 18 j12)) fun σ14 =>
  some ((1 : Int32), σ14)) else
  x_ga (0 : Int32) 4 fun j15 =>
  x_ga s10 122 fun j16 =>
  x_l (t_sa σ8 18 j16 (t_a σ8 19 j15)) fun σ17 =>
  some ((1 : Int32), σ17)) fun J59 =>
  if (lg_cmp a1 (474315253107 : Int64)) = 0 then (J59 (0 : Int32)) else
  J59 (1 : Int32)) fun J38 =>
  if (lg_cmp a1 (474315253107 : Int64)) = 0 then (J38 (0 : Int32) (1 : Int32) (6 : Int32)) else
  J38 (0 : Int32) (1 : Int32) (99 : Int32)) fun J16 =>
  if (lg_cmp a1 (474315253107 : Int64)) = 0 then (J16) else
  if (lg_cmp a1 (1818846821 : Int64)) = 0 then (J16) else
  if (lg_cmp a1 (1919905645 : Int64)) = 0 then (x_b (D_token σ) fun σ84 =>
  x_b2 (D_takeNode (0 : Int32) (-1 : Int32) σ84) fun r86 σ87 =>
  if r86 = 0 then (some ((0 : Int32), σ87)) else
  x_b2 (D_take (1 : Int32) (0 : Int32) (4 : Int32) σ87) fun r90 σ91 =>
  if r90 = 0 then (some ((0 : Int32), σ91)) else
  if (t_i σ91 21) = 0 then (some ((1 : Int32), σ91)) else
  x_ga (0 : Int32) 4 fun j94 =>
  x_ga (1 : Int32) 4 fun j95 =>
  x_ga ((5 : Int32) + (t_a σ91 19 j94)) 122 fun j96 =>
  x_l (t_sa σ91 18 j96 (t_a σ91 19 j95)) fun σ97 =>
  some ((1 : Int32), σ97)) else
  if (lg_cmp a1 (1818848875 : Int64)) = 0 then (x_b (D_token σ) fun σ66 =>
  x_b2 (D_takeNode (0 : Int32) (-1 : Int32) σ66) fun r68 σ69 =>
  if r68 = 0 then (some ((0 : Int32), σ69)) else
  x_ga (0 : Int32) 4 fun j71 =>
  x_b2 (D_takeNode (1 : Int32) (t_a σ69 19 j71) σ69) fun r73 σ74 =>
  if r73 = 0 then (some ((0 : Int32), σ74)) else
  x_b2 (D_take (2 : Int32) (1 : Int32) (9 : Int32) σ74) fun r77 σ78 =>
  if r77 = 0 then (some ((0 : Int32), σ78)) else
  if (t_i σ78 21) = 0 then (some ((1 : Int32), σ78)) else
  x_b (D_keepLink σ78) fun σ82 =>
  some ((1 : Int32), σ82)) else
  x_l (x_l (fun (s24 : Int32) => x_l (fun (s25 : Int32) (s26 : Int32) => x_b (D_full s25 s26 a3 σ) fun σ28 =>
  x_b (D_token σ28) fun σ30 =>
  x_b2 (D_takeNode (0 : Int32) (-1 : Int32) σ30) fun r32 σ33 =>
  if r32 = 0 then (some ((0 : Int32), σ33)) else
  x_b2 (D_takeName (1 : Int32) σ33) fun r36 σ37 =>
  if r36 = 0 then (some ((0 : Int32), σ37)) else
  x_l (fun (σ39 : t_S) => x_l (fun (s40 : Int32) => x_b2 (D_take s40 (0 : Int32) (99 : Int32) σ39) fun r42 σ43 =>
  if r42 = 0 then (some ((0 : Int32), σ43)) else
  if (lg_cmp a1 (491496240229 : Int64)) = 0 then (x_b (D_keepRow (3 : Int32) (56 : Int32) (4 : Int32) (12 : Int32) σ43) fun σ49 =>
  some ((1 : Int32), σ49)) else
  x_b (D_keepRow (4 : Int32) (104 : Int32) (3 : Int32) (6 : Int32) σ43) fun σ47 =>
  some ((1 : Int32), σ47)) fun J326 =>
  if (lg_cmp a1 (491496240229 : Int64)) = 0 then (J326 (3 : Int32)) else
  J326 (2 : Int32)) fun J312 =>
  if (lg_cmp a1 (491496240229 : Int64)) = 0 then (x_ga (0 : Int32) 4 fun j52 =>
  x_b2 (D_takeNode (2 : Int32) (t_a σ37 19 j52) σ37) fun r54 σ55 =>
  if r54 = 0 then (some ((0 : Int32), σ55)) else
  J312 σ55) else
  J312 σ37) fun J265 =>
  if (lg_cmp a1 (491496240229 : Int64)) = 0 then (J265 s24 (12 : Int32)) else
  J265 s24 (6 : Int32)) fun J250 =>
  if (lg_cmp a1 (491496240229 : Int64)) = 0 then (J250 (3 : Int32)) else
  J250 (4 : Int32)) fun J236 =>
  if (lg_cmp a1 (491496240229 : Int64)) = 0 then (J236) else
  if (lg_cmp a1 (495623239269 : Int64)) = 0 then (J236) else
  x_b2 (D_fails σ) fun r62 σ63 =>
  x_g (r62 = 0 ∨ r62 = 1) <|
  some (r62, σ63)
theorem w_netLine {a1 : Int64} {a3 : Int32} {rz : Int32} (h : D_netLine a1 a3 σ = some (rz, σz)) (hQ : Q (.inl (some (.int rz))) (t_m b σz μ)) : z_K g (d + 4) YX2_netLine [.ref b, .long a1, .int a3] (t_m b σ μ) Q := by
  unfold D_netLine at h
  refine z_K.of (by decide) rfl (Nat.le_of_ble_eq_true rfl) ?_
  refine zi_lload_n 1 dX2_netLine_0 rfl rfl ?_
  refine zi_ldc2 (v := 474315253107) q2476 dX2_netLine_1 ?_
  refine zi_lcmp dX2_netLine_4 ?_
  refine x_jI (fun (J : Option (Int32 × t_S)) => J = some (rz, σz) → z_V g (d + 4) YX2_netLine 16 [(0, .ref b), (1, .long a1)] [] (t_m b σ μ) Q) h (fun  h => ?_) (fun J16 hJ16 h => ?_)
  · refine zi_aload_n 0 dX2_netLine_16 rfl rfl ?_
    obtain ⟨σ2, h1, h⟩ := x_bE h
    refine zi_callV [] mX2_token rfl q2460 t_rec rfl rfl (Nat.le_of_ble_eq_true rfl) dX2_netLine_17 ?_
    refine w_token h1 ?_
    refine zi_aload_n 0 dX2_netLine_20 rfl rfl ?_
    refine zi_iconst (v := 0) dX2_netLine_21 (by decide) ?_
    refine zi_iconst (v := 1) dX2_netLine_22 (by decide) ?_
    refine zi_lload_n 1 dX2_netLine_23 rfl rfl ?_
    refine zi_ldc2 (v := 474315253107) q2476 dX2_netLine_24 ?_
    refine zi_lcmp dX2_netLine_27 ?_
    refine x_jI (fun (J : Int32 → Int32 → Int32 → Option (Int32 × t_S)) => ∀ (s3 : Int32) (s4 : Int32) (s5 : Int32), J s3 s4 s5 = some (rz, σz) → z_V g (d + 4) YX2_netLine 38 [(0, .ref b), (1, .long a1)] [.int s5, .int s4, .int s3, .ref b] (t_m b σ2 μ) Q) h (fun s3 s4 s5 h => ?_) (fun J38 hJ38 h => ?_)
    · obtain ⟨r7, σ8, h6, h⟩ := x_b2E h
      refine zi_callV [.int s3, .int s4, .int s5] mX2_take rfl q2478 t_rec rfl rfl (Nat.le_of_ble_eq_true rfl) dX2_netLine_38 ?_
      refine w_take h6 ?_
      refine zi_if_ne 46 dX2_netLine_41 (by decide) (fun c9 => ?_) (fun c9 => ?_)
      · replace h := x_iF h c9
        refine zi_lload_n 1 dX2_netLine_46 rfl rfl ?_
        refine zi_ldc2 (v := 474315253107) q2476 dX2_netLine_47 ?_
        refine zi_lcmp dX2_netLine_50 ?_
        refine x_jI (fun (J : Int32 → Option (Int32 × t_S)) => ∀ (s10 : Int32), J s10 = some (rz, σz) → z_V g (d + 4) YX2_netLine 59 [(0, .ref b)] [.int s10] (t_m b σ8 μ) Q) h (fun s10 h => ?_) (fun J59 hJ59 h => ?_)
        · refine zi_istore (lc1 := [(4, _), (0, _)]) dX2_netLine_59 (Nat.le_of_ble_eq_true rfl) rfl ?_
          refine zi_aload_n 1 dX2_netLine_61 rfl rfl ?_
          refine ti_getA 18 9 t_o18 q2188 dX2_netLine_62 ?_
          refine zi_iload 0 dX2_netLine_65 rfl ?_
          refine zi_aload_n 1 dX2_netLine_67 rfl rfl ?_
          refine ti_getI 21 ⟨Nat.le_of_ble_eq_true rfl, rfl⟩ q2191 dX2_netLine_68 ?_
          refine zi_if_eq 83 dX2_netLine_71 (by decide) (fun c11 => ?_) (fun c11 => ?_)
          · replace h := x_iT h c11
            refine zi_aload_n 1 dX2_netLine_83 rfl rfl ?_
            refine ti_getA 18 9 t_o18 q2188 dX2_netLine_84 ?_
            refine zi_iload 0 dX2_netLine_87 rfl ?_
            obtain ⟨j12, hj12, h⟩ := x_gaE h
            refine ti_iald 18 j12 122 8 ⟨rfl, rfl⟩ hj12 dX2_netLine_89 ?_
            obtain ⟨j13, hj13, h⟩ := x_gaE h
            refine ti_iast 18 j13 122 8 ⟨rfl, rfl⟩ hj13 dX2_netLine_90 ?_
            refine x_lI (fun σ14 => z_V g (d + 4) YX2_netLine 91 [(4, .int s10), (0, .ref b)] [] (t_m b σ14 μ) Q) h (fun σ14 h => ?_)
            refine zi_iconst (v := 1) dX2_netLine_91 (by decide) ?_
            refine zi_ireturn rfl rfl dX2_netLine_92 ?_
            exact x_r2i h hQ
          · replace h := x_iF h c11
            refine zi_aload_n 1 dX2_netLine_74 rfl rfl ?_
            refine ti_getA 19 10 t_o19 q2189 dX2_netLine_75 ?_
            refine zi_iconst (v := 0) dX2_netLine_78 (by decide) ?_
            obtain ⟨j15, hj15, h⟩ := x_gaE h
            refine ti_iald 19 j15 4 9 ⟨rfl, rfl⟩ hj15 dX2_netLine_79 ?_
            refine zi_goto 90 dX2_netLine_80 (by decide) ?_
            obtain ⟨j16, hj16, h⟩ := x_gaE h
            refine ti_iast 18 j16 122 8 ⟨rfl, rfl⟩ hj16 dX2_netLine_90 ?_
            refine x_lI (fun σ17 => z_V g (d + 4) YX2_netLine 91 [(4, .int s10), (0, .ref b)] [] (t_m b σ17 μ) Q) h (fun σ17 h => ?_)
            refine zi_iconst (v := 1) dX2_netLine_91 (by decide) ?_
            refine zi_ireturn rfl rfl dX2_netLine_92 ?_
            exact x_r2i h hQ
        refine zi_if_ne 58 dX2_netLine_51 (by decide) (fun c18 => ?_) (fun c18 => ?_)
        · replace h := x_iF h c18
          refine zi_iconst (v := 1) dX2_netLine_58 (by decide) ?_
          refine zi_sub [0] rfl ?_
          exact hJ59 _ h
        · replace h := x_iT h c18
          refine zi_iconst (v := 0) dX2_netLine_54 (by decide) ?_
          refine zi_goto 59 dX2_netLine_55 (by decide) ?_
          refine zi_sub [0] rfl ?_
          exact hJ59 _ h
      · replace h := x_iT h c9
        refine zi_iconst (v := 0) dX2_netLine_44 (by decide) ?_
        refine zi_ireturn rfl rfl dX2_netLine_45 ?_
        exact x_r2i h hQ
    refine zi_if_ne 36 dX2_netLine_28 (by decide) (fun c19 => ?_) (fun c19 => ?_)
    · replace h := x_iF h c19
      refine zi_bipush (v := 99) dX2_netLine_36 (by decide) ?_
      exact hJ38 _ _ _ h
    · replace h := x_iT h c19
      refine zi_bipush (v := 6) dX2_netLine_31 (by decide) ?_
      refine zi_goto 38 dX2_netLine_33 (by decide) ?_
      exact hJ38 _ _ _ h
  refine zi_if_eq 16 dX2_netLine_5 (by decide) (fun c20 => ?_) (fun c20 => ?_)
  · replace h := x_iT h c20
    refine zi_sub [0, 1] rfl ?_
    exact hJ16  h
  · replace h := x_iF h c20
    refine zi_lload_n 1 dX2_netLine_8 rfl rfl ?_
    refine zi_ldc2 (v := 1818846821) q2477 dX2_netLine_9 ?_
    refine zi_lcmp dX2_netLine_12 ?_
    refine zi_if_ne 93 dX2_netLine_13 (by decide) (fun c21 => ?_) (fun c21 => ?_)
    · replace h := x_iF h c21
      refine zi_lload_n 1 dX2_netLine_93 rfl rfl ?_
      refine zi_ldc2 (v := 1919905645) q2494 dX2_netLine_94 ?_
      refine zi_lcmp dX2_netLine_97 ?_
      refine zi_if_ne 154 dX2_netLine_98 (by decide) (fun c22 => ?_) (fun c22 => ?_)
      · replace h := x_iF h c22
        refine zi_lload_n 1 dX2_netLine_154 rfl rfl ?_
        refine zi_ldc2 (v := 1818848875) q2502 dX2_netLine_155 ?_
        refine zi_lcmp dX2_netLine_158 ?_
        refine zi_if_ne 215 dX2_netLine_159 (by decide) (fun c23 => ?_) (fun c23 => ?_)
        · replace h := x_iF h c23
          refine zi_lload_n 1 dX2_netLine_215 rfl rfl ?_
          refine zi_ldc2 (v := 491496240229) q2518 dX2_netLine_216 ?_
          refine zi_lcmp dX2_netLine_219 ?_
          refine x_jI (fun (J : Option (Int32 × t_S)) => J = some (rz, σz) → z_V g (d + 4) YX2_netLine 236 [(0, .ref b), (1, .long a1), (3, .int a3)] [] (t_m b σ μ) Q) h (fun  h => ?_) (fun J236 hJ236 h => ?_)
          · refine zi_aload_n 0 dX2_netLine_236 rfl rfl ?_
            refine zi_lload_n 1 dX2_netLine_237 rfl rfl ?_
            refine zi_ldc2 (v := 491496240229) q2518 dX2_netLine_238 ?_
            refine zi_lcmp dX2_netLine_241 ?_
            refine x_jI (fun (J : Int32 → Option (Int32 × t_S)) => ∀ (s24 : Int32), J s24 = some (rz, σz) → z_V g (d + 4) YX2_netLine 250 [(0, .ref b), (1, .long a1), (3, .int a3)] [.int s24, .ref b] (t_m b σ μ) Q) h (fun s24 h => ?_) (fun J250 hJ250 h => ?_)
            · refine zi_lload_n 1 dX2_netLine_250 rfl rfl ?_
              refine zi_ldc2 (v := 491496240229) q2518 dX2_netLine_251 ?_
              refine zi_lcmp dX2_netLine_254 ?_
              refine x_jI (fun (J : Int32 → Int32 → Option (Int32 × t_S)) => ∀ (s25 : Int32) (s26 : Int32), J s25 s26 = some (rz, σz) → z_V g (d + 4) YX2_netLine 265 [(0, .ref b), (1, .long a1), (3, .int a3)] [.int s26, .int s25, .ref b] (t_m b σ μ) Q) h (fun s25 s26 h => ?_) (fun J265 hJ265 h => ?_)
              · refine zi_iload_n 2 dX2_netLine_265 rfl rfl ?_
                obtain ⟨σ28, h27, h⟩ := x_bE h
                refine zi_callV [.int s25, .int s26, .int a3] mX2_full rfl q2520 t_rec rfl rfl (Nat.le_of_ble_eq_true rfl) dX2_netLine_266 ?_
                refine w_full h27 ?_
                refine zi_aload_n 0 dX2_netLine_269 rfl rfl ?_
                obtain ⟨σ30, h29, h⟩ := x_bE h
                refine zi_callV [] mX2_token rfl q2460 t_rec rfl rfl (Nat.le_of_ble_eq_true rfl) dX2_netLine_270 ?_
                refine w_token h29 ?_
                refine zi_aload_n 0 dX2_netLine_273 rfl rfl ?_
                refine zi_iconst (v := 0) dX2_netLine_274 (by decide) ?_
                refine zi_iconst (v := -1) dX2_netLine_275 (by decide) ?_
                obtain ⟨r32, σ33, h31, h⟩ := x_b2E h
                refine zi_callV [.int (0 : Int32), .int (-1 : Int32)] mX2_takeNode rfl q2495 t_rec rfl rfl (Nat.le_of_ble_eq_true rfl) dX2_netLine_276 ?_
                refine w_takeNode h31 ?_
                refine zi_if_eq 335 dX2_netLine_279 (by decide) (fun c34 => ?_) (fun c34 => ?_)
                · replace h := x_iT h c34
                  refine zi_iconst (v := 0) dX2_netLine_335 (by decide) ?_
                  refine zi_ireturn rfl rfl dX2_netLine_336 ?_
                  exact x_r2i h hQ
                · replace h := x_iF h c34
                  refine zi_aload_n 0 dX2_netLine_282 rfl rfl ?_
                  refine zi_iconst (v := 1) dX2_netLine_283 (by decide) ?_
                  obtain ⟨r36, σ37, h35, h⟩ := x_b2E h
                  refine zi_callV [.int (1 : Int32)] mX2_takeName rfl q2524 t_rec rfl rfl (Nat.le_of_ble_eq_true rfl) dX2_netLine_284 ?_
                  refine w_takeName h35 ?_
                  refine zi_if_eq 335 dX2_netLine_287 (by decide) (fun c38 => ?_) (fun c38 => ?_)
                  · replace h := x_iT h c38
                    refine zi_iconst (v := 0) dX2_netLine_335 (by decide) ?_
                    refine zi_ireturn rfl rfl dX2_netLine_336 ?_
                    exact x_r2i h hQ
                  · replace h := x_iF h c38
                    refine zi_lload_n 1 dX2_netLine_290 rfl rfl ?_
                    refine zi_ldc2 (v := 491496240229) q2518 dX2_netLine_291 ?_
                    refine zi_lcmp dX2_netLine_294 ?_
                    refine x_jI (fun (J : t_S → Option (Int32 × t_S)) => ∀ (σ39 : t_S), J σ39 = some (rz, σz) → z_V g (d + 4) YX2_netLine 312 [(0, .ref b), (1, .long a1)] [] (t_m b σ39 μ) Q) h (fun σ39 h => ?_) (fun J312 hJ312 h => ?_)
                    · refine zi_aload_n 0 dX2_netLine_312 rfl rfl ?_
                      refine zi_lload_n 1 dX2_netLine_313 rfl rfl ?_
                      refine zi_ldc2 (v := 491496240229) q2518 dX2_netLine_314 ?_
                      refine zi_lcmp dX2_netLine_317 ?_
                      refine x_jI (fun (J : Int32 → Option (Int32 × t_S)) => ∀ (s40 : Int32), J s40 = some (rz, σz) → z_V g (d + 4) YX2_netLine 326 [(0, .ref b), (1, .long a1)] [.int s40, .ref b] (t_m b σ39 μ) Q) h (fun s40 h => ?_) (fun J326 hJ326 h => ?_)
                      · refine zi_iconst (v := 0) dX2_netLine_326 (by decide) ?_
                        refine zi_bipush (v := 99) dX2_netLine_327 (by decide) ?_
                        obtain ⟨r42, σ43, h41, h⟩ := x_b2E h
                        refine zi_callV [.int s40, .int (0 : Int32), .int (99 : Int32)] mX2_take rfl q2478 t_rec rfl rfl (Nat.le_of_ble_eq_true rfl) dX2_netLine_329 ?_
                        refine w_take h41 ?_
                        refine zi_if_ne 337 dX2_netLine_332 (by decide) (fun c44 => ?_) (fun c44 => ?_)
                        · replace h := x_iF h c44
                          refine zi_lload_n 1 dX2_netLine_337 rfl rfl ?_
                          refine zi_ldc2 (v := 491496240229) q2518 dX2_netLine_338 ?_
                          refine zi_lcmp dX2_netLine_341 ?_
                          refine zi_if_ne 358 dX2_netLine_342 (by decide) (fun c45 => ?_) (fun c45 => ?_)
                          · replace h := x_iF h c45
                            refine zi_aload_n 0 dX2_netLine_358 rfl rfl ?_
                            refine zi_iconst (v := 4) dX2_netLine_359 (by decide) ?_
                            refine zi_bipush (v := 104) dX2_netLine_360 (by decide) ?_
                            refine zi_iconst (v := 3) dX2_netLine_362 (by decide) ?_
                            refine zi_bipush (v := 6) dX2_netLine_363 (by decide) ?_
                            obtain ⟨σ47, h46, h⟩ := x_bE h
                            refine zi_callV [.int (4 : Int32), .int (104 : Int32), .int (3 : Int32), .int (6 : Int32)] mX2_keepRow rfl q2511 t_rec rfl rfl (Nat.le_of_ble_eq_true rfl) dX2_netLine_365 ?_
                            refine w_keepRow h46 ?_
                            refine zi_iconst (v := 1) dX2_netLine_368 (by decide) ?_
                            refine zi_ireturn rfl rfl dX2_netLine_369 ?_
                            exact x_r2i h hQ
                          · replace h := x_iT h c45
                            refine zi_aload_n 0 dX2_netLine_345 rfl rfl ?_
                            refine zi_iconst (v := 3) dX2_netLine_346 (by decide) ?_
                            refine zi_bipush (v := 56) dX2_netLine_347 (by decide) ?_
                            refine zi_iconst (v := 4) dX2_netLine_349 (by decide) ?_
                            refine zi_bipush (v := 12) dX2_netLine_350 (by decide) ?_
                            obtain ⟨σ49, h48, h⟩ := x_bE h
                            refine zi_callV [.int (3 : Int32), .int (56 : Int32), .int (4 : Int32), .int (12 : Int32)] mX2_keepRow rfl q2511 t_rec rfl rfl (Nat.le_of_ble_eq_true rfl) dX2_netLine_352 ?_
                            refine w_keepRow h48 ?_
                            refine zi_goto 368 dX2_netLine_355 (by decide) ?_
                            refine zi_iconst (v := 1) dX2_netLine_368 (by decide) ?_
                            refine zi_ireturn rfl rfl dX2_netLine_369 ?_
                            exact x_r2i h hQ
                        · replace h := x_iT h c44
                          refine zi_iconst (v := 0) dX2_netLine_335 (by decide) ?_
                          refine zi_ireturn rfl rfl dX2_netLine_336 ?_
                          exact x_r2i h hQ
                      refine zi_if_ne 325 dX2_netLine_318 (by decide) (fun c50 => ?_) (fun c50 => ?_)
                      · replace h := x_iF h c50
                        refine zi_iconst (v := 2) dX2_netLine_325 (by decide) ?_
                        exact hJ326 _ h
                      · replace h := x_iT h c50
                        refine zi_iconst (v := 3) dX2_netLine_321 (by decide) ?_
                        refine zi_goto 326 dX2_netLine_322 (by decide) ?_
                        exact hJ326 _ h
                    refine zi_if_ne 312 dX2_netLine_295 (by decide) (fun c51 => ?_) (fun c51 => ?_)
                    · replace h := x_iF h c51
                      refine zi_sub [0, 1] rfl ?_
                      exact hJ312 _ h
                    · replace h := x_iT h c51
                      refine zi_aload_n 0 dX2_netLine_298 rfl rfl ?_
                      refine zi_iconst (v := 2) dX2_netLine_299 (by decide) ?_
                      refine zi_aload_n 0 dX2_netLine_300 rfl rfl ?_
                      refine ti_getA 19 10 t_o19 q2189 dX2_netLine_301 ?_
                      refine zi_iconst (v := 0) dX2_netLine_304 (by decide) ?_
                      obtain ⟨j52, hj52, h⟩ := x_gaE h
                      refine ti_iald 19 j52 4 9 ⟨rfl, rfl⟩ hj52 dX2_netLine_305 ?_
                      obtain ⟨r54, σ55, h53, h⟩ := x_b2E h
                      refine zi_callV [.int (2 : Int32), .int (t_a σ37 19 j52)] mX2_takeNode rfl q2495 t_rec rfl rfl (Nat.le_of_ble_eq_true rfl) dX2_netLine_306 ?_
                      refine w_takeNode h53 ?_
                      refine zi_if_eq 335 dX2_netLine_309 (by decide) (fun c56 => ?_) (fun c56 => ?_)
                      · replace h := x_iT h c56
                        refine zi_iconst (v := 0) dX2_netLine_335 (by decide) ?_
                        refine zi_ireturn rfl rfl dX2_netLine_336 ?_
                        exact x_r2i h hQ
                      · replace h := x_iF h c56
                        refine zi_sub [0, 1] rfl ?_
                        exact hJ312 _ h
              refine zi_if_ne 263 dX2_netLine_255 (by decide) (fun c57 => ?_) (fun c57 => ?_)
              · replace h := x_iF h c57
                refine zi_bipush (v := 6) dX2_netLine_263 (by decide) ?_
                exact hJ265 _ _ h
              · replace h := x_iT h c57
                refine zi_bipush (v := 12) dX2_netLine_258 (by decide) ?_
                refine zi_goto 265 dX2_netLine_260 (by decide) ?_
                exact hJ265 _ _ h
            refine zi_if_ne 249 dX2_netLine_242 (by decide) (fun c58 => ?_) (fun c58 => ?_)
            · replace h := x_iF h c58
              refine zi_iconst (v := 4) dX2_netLine_249 (by decide) ?_
              exact hJ250 _ h
            · replace h := x_iT h c58
              refine zi_iconst (v := 3) dX2_netLine_245 (by decide) ?_
              refine zi_goto 250 dX2_netLine_246 (by decide) ?_
              exact hJ250 _ h
          refine zi_if_eq 236 dX2_netLine_220 (by decide) (fun c59 => ?_) (fun c59 => ?_)
          · replace h := x_iT h c59
            exact hJ236  h
          · replace h := x_iF h c59
            refine zi_lload_n 1 dX2_netLine_223 rfl rfl ?_
            refine zi_ldc2 (v := 495623239269) q2519 dX2_netLine_224 ?_
            refine zi_lcmp dX2_netLine_227 ?_
            refine zi_if_eq 236 dX2_netLine_228 (by decide) (fun c60 => ?_) (fun c60 => ?_)
            · replace h := x_iT h c60
              exact hJ236  h
            · replace h := x_iF h c60
              refine zi_aload_n 0 dX2_netLine_231 rfl rfl ?_
              obtain ⟨r62, σ63, h61, h⟩ := x_b2E h
              refine zi_callV [] mX2_fails rfl q2486 t_rec rfl rfl (Nat.le_of_ble_eq_true rfl) dX2_netLine_232 ?_
              refine w_fails h61 ?_
              obtain ⟨hz64, h⟩ := x_gE h
              refine zi_ireturn rfl (x_nz hz64) dX2_netLine_235 ?_
              exact x_r2i h hQ
        · replace h := x_iT h c23
          refine zi_aload_n 0 dX2_netLine_162 rfl rfl ?_
          obtain ⟨σ66, h65, h⟩ := x_bE h
          refine zi_callV [] mX2_token rfl q2460 t_rec rfl rfl (Nat.le_of_ble_eq_true rfl) dX2_netLine_163 ?_
          refine w_token h65 ?_
          refine zi_aload_n 0 dX2_netLine_166 rfl rfl ?_
          refine zi_iconst (v := 0) dX2_netLine_167 (by decide) ?_
          refine zi_iconst (v := -1) dX2_netLine_168 (by decide) ?_
          obtain ⟨r68, σ69, h67, h⟩ := x_b2E h
          refine zi_callV [.int (0 : Int32), .int (-1 : Int32)] mX2_takeNode rfl q2495 t_rec rfl rfl (Nat.le_of_ble_eq_true rfl) dX2_netLine_169 ?_
          refine w_takeNode h67 ?_
          refine zi_if_eq 200 dX2_netLine_172 (by decide) (fun c70 => ?_) (fun c70 => ?_)
          · replace h := x_iT h c70
            refine zi_iconst (v := 0) dX2_netLine_200 (by decide) ?_
            refine zi_ireturn rfl rfl dX2_netLine_201 ?_
            exact x_r2i h hQ
          · replace h := x_iF h c70
            refine zi_aload_n 0 dX2_netLine_175 rfl rfl ?_
            refine zi_iconst (v := 1) dX2_netLine_176 (by decide) ?_
            refine zi_aload_n 0 dX2_netLine_177 rfl rfl ?_
            refine ti_getA 19 10 t_o19 q2189 dX2_netLine_178 ?_
            refine zi_iconst (v := 0) dX2_netLine_181 (by decide) ?_
            obtain ⟨j71, hj71, h⟩ := x_gaE h
            refine ti_iald 19 j71 4 9 ⟨rfl, rfl⟩ hj71 dX2_netLine_182 ?_
            obtain ⟨r73, σ74, h72, h⟩ := x_b2E h
            refine zi_callV [.int (1 : Int32), .int (t_a σ69 19 j71)] mX2_takeNode rfl q2495 t_rec rfl rfl (Nat.le_of_ble_eq_true rfl) dX2_netLine_183 ?_
            refine w_takeNode h72 ?_
            refine zi_if_eq 200 dX2_netLine_186 (by decide) (fun c75 => ?_) (fun c75 => ?_)
            · replace h := x_iT h c75
              refine zi_iconst (v := 0) dX2_netLine_200 (by decide) ?_
              refine zi_ireturn rfl rfl dX2_netLine_201 ?_
              exact x_r2i h hQ
            · replace h := x_iF h c75
              refine zi_aload_n 0 dX2_netLine_189 rfl rfl ?_
              refine zi_iconst (v := 2) dX2_netLine_190 (by decide) ?_
              refine zi_iconst (v := 1) dX2_netLine_191 (by decide) ?_
              refine zi_bipush (v := 9) dX2_netLine_192 (by decide) ?_
              obtain ⟨r77, σ78, h76, h⟩ := x_b2E h
              refine zi_callV [.int (2 : Int32), .int (1 : Int32), .int (9 : Int32)] mX2_take rfl q2478 t_rec rfl rfl (Nat.le_of_ble_eq_true rfl) dX2_netLine_194 ?_
              refine w_take h76 ?_
              refine zi_if_ne 202 dX2_netLine_197 (by decide) (fun c79 => ?_) (fun c79 => ?_)
              · replace h := x_iF h c79
                refine zi_aload_n 0 dX2_netLine_202 rfl rfl ?_
                refine ti_getI 21 ⟨Nat.le_of_ble_eq_true rfl, rfl⟩ q2191 dX2_netLine_203 ?_
                refine zi_if_eq 213 dX2_netLine_206 (by decide) (fun c80 => ?_) (fun c80 => ?_)
                · replace h := x_iT h c80
                  refine zi_iconst (v := 1) dX2_netLine_213 (by decide) ?_
                  refine zi_ireturn rfl rfl dX2_netLine_214 ?_
                  exact x_r2i h hQ
                · replace h := x_iF h c80
                  refine zi_aload_n 0 dX2_netLine_209 rfl rfl ?_
                  obtain ⟨σ82, h81, h⟩ := x_bE h
                  refine zi_callV [] mX2_keepLink rfl q2503 t_rec rfl rfl (Nat.le_of_ble_eq_true rfl) dX2_netLine_210 ?_
                  refine w_keepLink h81 ?_
                  refine zi_iconst (v := 1) dX2_netLine_213 (by decide) ?_
                  refine zi_ireturn rfl rfl dX2_netLine_214 ?_
                  exact x_r2i h hQ
              · replace h := x_iT h c79
                refine zi_iconst (v := 0) dX2_netLine_200 (by decide) ?_
                refine zi_ireturn rfl rfl dX2_netLine_201 ?_
                exact x_r2i h hQ
      · replace h := x_iT h c22
        refine zi_aload_n 0 dX2_netLine_101 rfl rfl ?_
        obtain ⟨σ84, h83, h⟩ := x_bE h
        refine zi_callV [] mX2_token rfl q2460 t_rec rfl rfl (Nat.le_of_ble_eq_true rfl) dX2_netLine_102 ?_
        refine w_token h83 ?_
        refine zi_aload_n 0 dX2_netLine_105 rfl rfl ?_
        refine zi_iconst (v := 0) dX2_netLine_106 (by decide) ?_
        refine zi_iconst (v := -1) dX2_netLine_107 (by decide) ?_
        obtain ⟨r86, σ87, h85, h⟩ := x_b2E h
        refine zi_callV [.int (0 : Int32), .int (-1 : Int32)] mX2_takeNode rfl q2495 t_rec rfl rfl (Nat.le_of_ble_eq_true rfl) dX2_netLine_108 ?_
        refine w_takeNode h85 ?_
        refine zi_if_eq 124 dX2_netLine_111 (by decide) (fun c88 => ?_) (fun c88 => ?_)
        · replace h := x_iT h c88
          refine zi_iconst (v := 0) dX2_netLine_124 (by decide) ?_
          refine zi_ireturn rfl rfl dX2_netLine_125 ?_
          exact x_r2i h hQ
        · replace h := x_iF h c88
          refine zi_aload_n 0 dX2_netLine_114 rfl rfl ?_
          refine zi_iconst (v := 1) dX2_netLine_115 (by decide) ?_
          refine zi_iconst (v := 0) dX2_netLine_116 (by decide) ?_
          refine zi_iconst (v := 4) dX2_netLine_117 (by decide) ?_
          obtain ⟨r90, σ91, h89, h⟩ := x_b2E h
          refine zi_callV [.int (1 : Int32), .int (0 : Int32), .int (4 : Int32)] mX2_take rfl q2478 t_rec rfl rfl (Nat.le_of_ble_eq_true rfl) dX2_netLine_118 ?_
          refine w_take h89 ?_
          refine zi_if_ne 126 dX2_netLine_121 (by decide) (fun c92 => ?_) (fun c92 => ?_)
          · replace h := x_iF h c92
            refine zi_aload_n 0 dX2_netLine_126 rfl rfl ?_
            refine ti_getI 21 ⟨Nat.le_of_ble_eq_true rfl, rfl⟩ q2191 dX2_netLine_127 ?_
            refine zi_if_eq 152 dX2_netLine_130 (by decide) (fun c93 => ?_) (fun c93 => ?_)
            · replace h := x_iT h c93
              refine zi_iconst (v := 1) dX2_netLine_152 (by decide) ?_
              refine zi_ireturn rfl rfl dX2_netLine_153 ?_
              exact x_r2i h hQ
            · replace h := x_iF h c93
              refine zi_aload_n 0 dX2_netLine_133 rfl rfl ?_
              refine ti_getA 18 9 t_o18 q2188 dX2_netLine_134 ?_
              refine zi_iconst (v := 5) dX2_netLine_137 (by decide) ?_
              refine zi_aload_n 0 dX2_netLine_138 rfl rfl ?_
              refine ti_getA 19 10 t_o19 q2189 dX2_netLine_139 ?_
              refine zi_iconst (v := 0) dX2_netLine_142 (by decide) ?_
              obtain ⟨j94, hj94, h⟩ := x_gaE h
              refine ti_iald 19 j94 4 9 ⟨rfl, rfl⟩ hj94 dX2_netLine_143 ?_
              refine zi_iadd dX2_netLine_144 ?_
              refine zi_aload_n 0 dX2_netLine_145 rfl rfl ?_
              refine ti_getA 19 10 t_o19 q2189 dX2_netLine_146 ?_
              refine zi_iconst (v := 1) dX2_netLine_149 (by decide) ?_
              obtain ⟨j95, hj95, h⟩ := x_gaE h
              refine ti_iald 19 j95 4 9 ⟨rfl, rfl⟩ hj95 dX2_netLine_150 ?_
              obtain ⟨j96, hj96, h⟩ := x_gaE h
              refine ti_iast 18 j96 122 8 ⟨rfl, rfl⟩ hj96 dX2_netLine_151 ?_
              refine x_lI (fun σ97 => z_V g (d + 4) YX2_netLine 152 [(0, .ref b), (1, .long a1), (3, .int a3)] [] (t_m b σ97 μ) Q) h (fun σ97 h => ?_)
              refine zi_iconst (v := 1) dX2_netLine_152 (by decide) ?_
              refine zi_ireturn rfl rfl dX2_netLine_153 ?_
              exact x_r2i h hQ
          · replace h := x_iT h c92
            refine zi_iconst (v := 0) dX2_netLine_124 (by decide) ?_
            refine zi_ireturn rfl rfl dX2_netLine_125 ?_
            exact x_r2i h hQ
    · replace h := x_iT h c21
      refine zi_sub [0, 1] rfl ?_
      exact hJ16  h
noncomputable def D_runLine (a1 : Int64) (a3 : Int32) (σ : t_S) : Option (Int32 × t_S) :=
  x_b (D_deedBy a1) fun r2 =>
  if r2 = (-1 : Int32) then (x_b2 (D_fails σ) fun r40 σ41 =>
  x_g (r40 = 0 ∨ r40 = 1) <|
  some (r40, σ41)) else
  x_b (D_full (0 : Int32) (40 : Int32) a3 σ) fun σ5 =>
  x_b (D_token σ5) fun σ7 =>
  x_ga (2 : Int32) 4 fun j8 =>
  x_l (t_sa σ7 19 j8 (-1 : Int32)) fun σ9 =>
  x_l (fun (σ10 : t_S) => x_l (fun (σ11 : t_S) => x_l (fun (σ12 : t_S) => x_l (fun (σ13 : t_S) => x_ga (0 : Int32) 4 fun j14 =>
  x_l (t_sa σ13 19 j14 r2) fun σ15 =>
  x_b (D_keepRow (0 : Int32) (1 : Int32) (3 : Int32) (40 : Int32) σ15) fun σ17 =>
  some ((1 : Int32), σ17)) fun J105 =>
  if r2 ≤ (2 : Int32) then (J105 σ12) else
  x_ga (1 : Int32) 4 fun j19 =>
  x_b2 (D_takeNode (2 : Int32) (t_a σ12 19 j19) σ12) fun r21 σ22 =>
  if r21 = 0 then (some ((0 : Int32), σ22)) else
  J105 σ22) fun J83 =>
  if (2 : Int32) ≤ r2 then (J83 σ11) else
  x_b2 (D_takeName (2 : Int32) σ11) fun r26 σ27 =>
  if r26 = 0 then (some ((0 : Int32), σ27)) else
  J83 σ27) fun J69 =>
  if r2 = (2 : Int32) then (J69 σ10) else
  x_b2 (D_takeNode (1 : Int32) (-1 : Int32) σ10) fun r31 σ32 =>
  if r31 = 0 then (some ((0 : Int32), σ32)) else
  J69 σ32) fun J54 =>
  if r2 = (2 : Int32) then (x_b2 (D_take (1 : Int32) (1 : Int32) (20 : Int32) σ9) fun r36 σ37 =>
  if r36 = 0 then (some ((0 : Int32), σ37)) else
  J54 σ37) else
  J54 σ9
theorem w_runLine {a1 : Int64} {a3 : Int32} {rz : Int32} (h : D_runLine a1 a3 σ = some (rz, σz)) (hQ : Q (.inl (some (.int rz))) (t_m b σz μ)) : z_K g (d + 4) YX2_runLine [.ref b, .long a1, .int a3] (t_m b σ μ) Q := by
  unfold D_runLine at h
  refine z_K.of (by decide) rfl (Nat.le_of_ble_eq_true rfl) ?_
  refine zi_aload_n 0 dX2_runLine_0 rfl rfl ?_
  refine zi_lload_n 1 dX2_runLine_1 rfl rfl ?_
  obtain ⟨r2, h1, h⟩ := x_bE h
  refine zi_callV [.long a1] mX2_deedBy rfl q2536 t_rec rfl rfl (Nat.le_of_ble_eq_true rfl) dX2_runLine_2 ?_
  refine w_deedBy h1 ?_
  refine zi_istore (lc1 := [(4, _), (0, _), (1, _), (3, _)]) dX2_runLine_5 (Nat.le_of_ble_eq_true rfl) rfl ?_
  refine zi_iload 0 dX2_runLine_7 rfl ?_
  refine zi_iconst (v := -1) dX2_runLine_9 (by decide) ?_
  refine zi_icmp_ne 18 dX2_runLine_10 (by decide) (fun c3 => ?_) (fun c3 => ?_)
  · replace h := x_iF h c3
    refine zi_aload_n 1 dX2_runLine_18 rfl rfl ?_
    refine zi_iconst (v := 0) dX2_runLine_19 (by decide) ?_
    refine zi_bipush (v := 40) dX2_runLine_20 (by decide) ?_
    refine zi_iload_n 3 dX2_runLine_22 rfl rfl ?_
    obtain ⟨σ5, h4, h⟩ := x_bE h
    refine zi_callV [.int (0 : Int32), .int (40 : Int32), .int a3] mX2_full rfl q2520 t_rec rfl rfl (Nat.le_of_ble_eq_true rfl) dX2_runLine_23 ?_
    refine w_full h4 ?_
    refine zi_aload_n 1 dX2_runLine_26 rfl rfl ?_
    obtain ⟨σ7, h6, h⟩ := x_bE h
    refine zi_callV [] mX2_token rfl q2460 t_rec rfl rfl (Nat.le_of_ble_eq_true rfl) dX2_runLine_27 ?_
    refine w_token h6 ?_
    refine zi_aload_n 1 dX2_runLine_30 rfl rfl ?_
    refine ti_getA 19 10 t_o19 q2189 dX2_runLine_31 ?_
    refine zi_iconst (v := 2) dX2_runLine_34 (by decide) ?_
    refine zi_iconst (v := -1) dX2_runLine_35 (by decide) ?_
    obtain ⟨j8, hj8, h⟩ := x_gaE h
    refine ti_iast 19 j8 4 9 ⟨rfl, rfl⟩ hj8 dX2_runLine_36 ?_
    refine x_lI (fun σ9 => z_V g (d + 4) YX2_runLine 37 [(4, .int r2), (0, .ref b), (1, .long a1), (3, .int a3)] [] (t_m b σ9 μ) Q) h (fun σ9 h => ?_)
    refine zi_iload 0 dX2_runLine_37 rfl ?_
    refine zi_iconst (v := 2) dX2_runLine_39 (by decide) ?_
    refine x_jI (fun (J : t_S → Option (Int32 × t_S)) => ∀ (σ10 : t_S), J σ10 = some (rz, σz) → z_V g (d + 4) YX2_runLine 54 [(0, .ref b), (4, .int r2)] [] (t_m b σ10 μ) Q) h (fun σ10 h => ?_) (fun J54 hJ54 h => ?_)
    · refine zi_iload 1 dX2_runLine_54 rfl ?_
      refine zi_iconst (v := 2) dX2_runLine_56 (by decide) ?_
      refine x_jI (fun (J : t_S → Option (Int32 × t_S)) => ∀ (σ11 : t_S), J σ11 = some (rz, σz) → z_V g (d + 4) YX2_runLine 69 [(0, .ref b), (4, .int r2)] [] (t_m b σ11 μ) Q) h (fun σ11 h => ?_) (fun J69 hJ69 h => ?_)
      · refine zi_iload 1 dX2_runLine_69 rfl ?_
        refine zi_iconst (v := 2) dX2_runLine_71 (by decide) ?_
        refine x_jI (fun (J : t_S → Option (Int32 × t_S)) => ∀ (σ12 : t_S), J σ12 = some (rz, σz) → z_V g (d + 4) YX2_runLine 83 [(0, .ref b), (4, .int r2)] [] (t_m b σ12 μ) Q) h (fun σ12 h => ?_) (fun J83 hJ83 h => ?_)
        · refine zi_iload 1 dX2_runLine_83 rfl ?_
          refine zi_iconst (v := 2) dX2_runLine_85 (by decide) ?_
          refine x_jI (fun (J : t_S → Option (Int32 × t_S)) => ∀ (σ13 : t_S), J σ13 = some (rz, σz) → z_V g (d + 4) YX2_runLine 105 [(0, .ref b), (4, .int r2)] [] (t_m b σ13 μ) Q) h (fun σ13 h => ?_) (fun J105 hJ105 h => ?_)
          · refine zi_aload_n 0 dX2_runLine_105 rfl rfl ?_
            refine ti_getA 19 10 t_o19 q2189 dX2_runLine_106 ?_
            refine zi_iconst (v := 0) dX2_runLine_109 (by decide) ?_
            refine zi_iload 1 dX2_runLine_110 rfl ?_
            obtain ⟨j14, hj14, h⟩ := x_gaE h
            refine ti_iast 19 j14 4 9 ⟨rfl, rfl⟩ hj14 dX2_runLine_112 ?_
            refine x_lI (fun σ15 => z_V g (d + 4) YX2_runLine 113 [(0, .ref b), (4, .int r2)] [] (t_m b σ15 μ) Q) h (fun σ15 h => ?_)
            refine zi_aload_n 0 dX2_runLine_113 rfl rfl ?_
            refine zi_iconst (v := 0) dX2_runLine_114 (by decide) ?_
            refine zi_iconst (v := 1) dX2_runLine_115 (by decide) ?_
            refine zi_iconst (v := 3) dX2_runLine_116 (by decide) ?_
            refine zi_bipush (v := 40) dX2_runLine_117 (by decide) ?_
            obtain ⟨σ17, h16, h⟩ := x_bE h
            refine zi_callV [.int (0 : Int32), .int (1 : Int32), .int (3 : Int32), .int (40 : Int32)] mX2_keepRow rfl q2511 t_rec rfl rfl (Nat.le_of_ble_eq_true rfl) dX2_runLine_119 ?_
            refine w_keepRow h16 ?_
            refine zi_iconst (v := 1) dX2_runLine_122 (by decide) ?_
            refine zi_ireturn rfl rfl dX2_runLine_123 ?_
            exact x_r2i h hQ
          refine zi_icmp_le 105 dX2_runLine_86 (by decide) (fun c18 => ?_) (fun c18 => ?_)
          · replace h := x_iT h c18
            exact hJ105 _ h
          · replace h := x_iF h c18
            refine zi_aload_n 0 dX2_runLine_89 rfl rfl ?_
            refine zi_iconst (v := 2) dX2_runLine_90 (by decide) ?_
            refine zi_aload_n 0 dX2_runLine_91 rfl rfl ?_
            refine ti_getA 19 10 t_o19 q2189 dX2_runLine_92 ?_
            refine zi_iconst (v := 1) dX2_runLine_95 (by decide) ?_
            obtain ⟨j19, hj19, h⟩ := x_gaE h
            refine ti_iald 19 j19 4 9 ⟨rfl, rfl⟩ hj19 dX2_runLine_96 ?_
            obtain ⟨r21, σ22, h20, h⟩ := x_b2E h
            refine zi_callV [.int (2 : Int32), .int (t_a σ12 19 j19)] mX2_takeNode rfl q2495 t_rec rfl rfl (Nat.le_of_ble_eq_true rfl) dX2_runLine_97 ?_
            refine w_takeNode h20 ?_
            refine zi_if_ne 105 dX2_runLine_100 (by decide) (fun c23 => ?_) (fun c23 => ?_)
            · replace h := x_iF h c23
              exact hJ105 _ h
            · replace h := x_iT h c23
              refine zi_iconst (v := 0) dX2_runLine_103 (by decide) ?_
              refine zi_ireturn rfl rfl dX2_runLine_104 ?_
              exact x_r2i h hQ
        refine zi_icmp_ge 83 dX2_runLine_72 (by decide) (fun c24 => ?_) (fun c24 => ?_)
        · replace h := x_iT h c24
          exact hJ83 _ h
        · replace h := x_iF h c24
          refine zi_aload_n 0 dX2_runLine_75 rfl rfl ?_
          refine zi_iconst (v := 2) dX2_runLine_76 (by decide) ?_
          obtain ⟨r26, σ27, h25, h⟩ := x_b2E h
          refine zi_callV [.int (2 : Int32)] mX2_takeName rfl q2524 t_rec rfl rfl (Nat.le_of_ble_eq_true rfl) dX2_runLine_77 ?_
          refine w_takeName h25 ?_
          refine zi_if_eq 103 dX2_runLine_80 (by decide) (fun c28 => ?_) (fun c28 => ?_)
          · replace h := x_iT h c28
            refine zi_iconst (v := 0) dX2_runLine_103 (by decide) ?_
            refine zi_ireturn rfl rfl dX2_runLine_104 ?_
            exact x_r2i h hQ
          · replace h := x_iF h c28
            exact hJ83 _ h
      refine zi_icmp_eq 69 dX2_runLine_57 (by decide) (fun c29 => ?_) (fun c29 => ?_)
      · replace h := x_iT h c29
        exact hJ69 _ h
      · replace h := x_iF h c29
        refine zi_aload_n 0 dX2_runLine_60 rfl rfl ?_
        refine zi_iconst (v := 1) dX2_runLine_61 (by decide) ?_
        refine zi_iconst (v := -1) dX2_runLine_62 (by decide) ?_
        obtain ⟨r31, σ32, h30, h⟩ := x_b2E h
        refine zi_callV [.int (1 : Int32), .int (-1 : Int32)] mX2_takeNode rfl q2495 t_rec rfl rfl (Nat.le_of_ble_eq_true rfl) dX2_runLine_63 ?_
        refine w_takeNode h30 ?_
        refine zi_if_eq 103 dX2_runLine_66 (by decide) (fun c33 => ?_) (fun c33 => ?_)
        · replace h := x_iT h c33
          refine zi_iconst (v := 0) dX2_runLine_103 (by decide) ?_
          refine zi_ireturn rfl rfl dX2_runLine_104 ?_
          exact x_r2i h hQ
        · replace h := x_iF h c33
          exact hJ69 _ h
    refine zi_icmp_ne 54 dX2_runLine_40 (by decide) (fun c34 => ?_) (fun c34 => ?_)
    · replace h := x_iF h c34
      refine zi_sub [1, 0] rfl ?_
      exact hJ54 _ h
    · replace h := x_iT h c34
      refine zi_aload_n 1 dX2_runLine_43 rfl rfl ?_
      refine zi_iconst (v := 1) dX2_runLine_44 (by decide) ?_
      refine zi_iconst (v := 1) dX2_runLine_45 (by decide) ?_
      refine zi_bipush (v := 20) dX2_runLine_46 (by decide) ?_
      obtain ⟨r36, σ37, h35, h⟩ := x_b2E h
      refine zi_callV [.int (1 : Int32), .int (1 : Int32), .int (20 : Int32)] mX2_take rfl q2478 t_rec rfl rfl (Nat.le_of_ble_eq_true rfl) dX2_runLine_48 ?_
      refine w_take h35 ?_
      refine zi_if_eq 103 dX2_runLine_51 (by decide) (fun c38 => ?_) (fun c38 => ?_)
      · replace h := x_iT h c38
        refine zi_iconst (v := 0) dX2_runLine_103 (by decide) ?_
        refine zi_ireturn rfl rfl dX2_runLine_104 ?_
        exact x_r2i h hQ
      · replace h := x_iF h c38
        refine zi_sub [1, 0] rfl ?_
        exact hJ54 _ h
  · replace h := x_iT h c3
    refine zi_aload_n 1 dX2_runLine_13 rfl rfl ?_
    obtain ⟨r40, σ41, h39, h⟩ := x_b2E h
    refine zi_callV [] mX2_fails rfl q2486 t_rec rfl rfl (Nat.le_of_ble_eq_true rfl) dX2_runLine_14 ?_
    refine w_fails h39 ?_
    obtain ⟨hz42, h⟩ := x_gE h
    refine zi_ireturn rfl (x_nz hz42) dX2_runLine_17 ?_
    exact x_r2i h hQ
noncomputable def D_logLine (a1 : Int64) (a3 : Int32) (σ : t_S) : Option (Int32 × t_S) :=
  x_l (x_b (D_full (0 : Int32) (8 : Int32) a3 σ) fun σ2 =>
  x_b (D_token σ2) fun σ4 =>
  x_ga (1 : Int32) 4 fun j5 =>
  x_l (t_sa σ4 19 j5 (-1 : Int32)) fun σ6 =>
  x_b2 (D_take (0 : Int32) (0 : Int32) (39 : Int32) σ6) fun r8 σ9 =>
  if r8 = 0 then (some ((0 : Int32), σ9)) else
  x_l (fun (σ11 : t_S) => x_b (D_keepRow (0 : Int32) (1 : Int32) (2 : Int32) (8 : Int32) σ11) fun σ13 =>
  some ((1 : Int32), σ13)) fun J72 =>
  if (lg_cmp a1 (6778740 : Int64)) = 0 then (x_b2 (D_take (1 : Int32) (0 : Int32) (99 : Int32) σ9) fun r16 σ17 =>
  if r16 = 0 then (some ((0 : Int32), σ17)) else
  J72 σ17) else
  J72 σ9) fun J21 =>
  if (lg_cmp a1 (6778740 : Int64)) = 0 then (J21) else
  if (lg_cmp a1 (1819243380 : Int64)) = 0 then (J21) else
  x_b2 (D_fails σ) fun r22 σ23 =>
  x_g (r22 = 0 ∨ r22 = 1) <|
  some (r22, σ23)
theorem w_logLine {a1 : Int64} {a3 : Int32} {rz : Int32} (h : D_logLine a1 a3 σ = some (rz, σz)) (hQ : Q (.inl (some (.int rz))) (t_m b σz μ)) : z_K g (d + 4) YX2_logLine [.ref b, .long a1, .int a3] (t_m b σ μ) Q := by
  unfold D_logLine at h
  refine z_K.of (by decide) rfl (Nat.le_of_ble_eq_true rfl) ?_
  refine zi_lload_n 1 dX2_logLine_0 rfl rfl ?_
  refine zi_ldc2 (v := 6778740) q2549 dX2_logLine_1 ?_
  refine zi_lcmp dX2_logLine_4 ?_
  refine x_jI (fun (J : Option (Int32 × t_S)) => J = some (rz, σz) → z_V g (d + 4) YX2_logLine 21 [(0, .ref b), (1, .long a1), (3, .int a3)] [] (t_m b σ μ) Q) h (fun  h => ?_) (fun J21 hJ21 h => ?_)
  · refine zi_aload_n 0 dX2_logLine_21 rfl rfl ?_
    refine zi_iconst (v := 0) dX2_logLine_22 (by decide) ?_
    refine zi_bipush (v := 8) dX2_logLine_23 (by decide) ?_
    refine zi_iload_n 2 dX2_logLine_25 rfl rfl ?_
    obtain ⟨σ2, h1, h⟩ := x_bE h
    refine zi_callV [.int (0 : Int32), .int (8 : Int32), .int a3] mX2_full rfl q2520 t_rec rfl rfl (Nat.le_of_ble_eq_true rfl) dX2_logLine_26 ?_
    refine w_full h1 ?_
    refine zi_aload_n 0 dX2_logLine_29 rfl rfl ?_
    obtain ⟨σ4, h3, h⟩ := x_bE h
    refine zi_callV [] mX2_token rfl q2460 t_rec rfl rfl (Nat.le_of_ble_eq_true rfl) dX2_logLine_30 ?_
    refine w_token h3 ?_
    refine zi_aload_n 0 dX2_logLine_33 rfl rfl ?_
    refine ti_getA 19 10 t_o19 q2189 dX2_logLine_34 ?_
    refine zi_iconst (v := 1) dX2_logLine_37 (by decide) ?_
    refine zi_iconst (v := -1) dX2_logLine_38 (by decide) ?_
    obtain ⟨j5, hj5, h⟩ := x_gaE h
    refine ti_iast 19 j5 4 9 ⟨rfl, rfl⟩ hj5 dX2_logLine_39 ?_
    refine x_lI (fun σ6 => z_V g (d + 4) YX2_logLine 40 [(0, .ref b), (1, .long a1), (3, .int a3)] [] (t_m b σ6 μ) Q) h (fun σ6 h => ?_)
    refine zi_aload_n 0 dX2_logLine_40 rfl rfl ?_
    refine zi_iconst (v := 0) dX2_logLine_41 (by decide) ?_
    refine zi_iconst (v := 0) dX2_logLine_42 (by decide) ?_
    refine zi_bipush (v := 39) dX2_logLine_43 (by decide) ?_
    obtain ⟨r8, σ9, h7, h⟩ := x_b2E h
    refine zi_callV [.int (0 : Int32), .int (0 : Int32), .int (39 : Int32)] mX2_take rfl q2478 t_rec rfl rfl (Nat.le_of_ble_eq_true rfl) dX2_logLine_45 ?_
    refine w_take h7 ?_
    refine zi_if_eq 70 dX2_logLine_48 (by decide) (fun c10 => ?_) (fun c10 => ?_)
    · replace h := x_iT h c10
      refine zi_iconst (v := 0) dX2_logLine_70 (by decide) ?_
      refine zi_ireturn rfl rfl dX2_logLine_71 ?_
      exact x_r2i h hQ
    · replace h := x_iF h c10
      refine zi_lload_n 1 dX2_logLine_51 rfl rfl ?_
      refine zi_ldc2 (v := 6778740) q2549 dX2_logLine_52 ?_
      refine zi_lcmp dX2_logLine_55 ?_
      refine x_jI (fun (J : t_S → Option (Int32 × t_S)) => ∀ (σ11 : t_S), J σ11 = some (rz, σz) → z_V g (d + 4) YX2_logLine 72 [(0, .ref b)] [] (t_m b σ11 μ) Q) h (fun σ11 h => ?_) (fun J72 hJ72 h => ?_)
      · refine zi_aload_n 0 dX2_logLine_72 rfl rfl ?_
        refine zi_iconst (v := 0) dX2_logLine_73 (by decide) ?_
        refine zi_iconst (v := 1) dX2_logLine_74 (by decide) ?_
        refine zi_iconst (v := 2) dX2_logLine_75 (by decide) ?_
        refine zi_bipush (v := 8) dX2_logLine_76 (by decide) ?_
        obtain ⟨σ13, h12, h⟩ := x_bE h
        refine zi_callV [.int (0 : Int32), .int (1 : Int32), .int (2 : Int32), .int (8 : Int32)] mX2_keepRow rfl q2511 t_rec rfl rfl (Nat.le_of_ble_eq_true rfl) dX2_logLine_78 ?_
        refine w_keepRow h12 ?_
        refine zi_iconst (v := 1) dX2_logLine_81 (by decide) ?_
        refine zi_ireturn rfl rfl dX2_logLine_82 ?_
        exact x_r2i h hQ
      refine zi_if_ne 72 dX2_logLine_56 (by decide) (fun c14 => ?_) (fun c14 => ?_)
      · replace h := x_iF h c14
        refine zi_sub [0] rfl ?_
        exact hJ72 _ h
      · replace h := x_iT h c14
        refine zi_aload_n 0 dX2_logLine_59 rfl rfl ?_
        refine zi_iconst (v := 1) dX2_logLine_60 (by decide) ?_
        refine zi_iconst (v := 0) dX2_logLine_61 (by decide) ?_
        refine zi_bipush (v := 99) dX2_logLine_62 (by decide) ?_
        obtain ⟨r16, σ17, h15, h⟩ := x_b2E h
        refine zi_callV [.int (1 : Int32), .int (0 : Int32), .int (99 : Int32)] mX2_take rfl q2478 t_rec rfl rfl (Nat.le_of_ble_eq_true rfl) dX2_logLine_64 ?_
        refine w_take h15 ?_
        refine zi_if_ne 72 dX2_logLine_67 (by decide) (fun c18 => ?_) (fun c18 => ?_)
        · replace h := x_iF h c18
          refine zi_sub [0] rfl ?_
          exact hJ72 _ h
        · replace h := x_iT h c18
          refine zi_iconst (v := 0) dX2_logLine_70 (by decide) ?_
          refine zi_ireturn rfl rfl dX2_logLine_71 ?_
          exact x_r2i h hQ
  refine zi_if_eq 21 dX2_logLine_5 (by decide) (fun c19 => ?_) (fun c19 => ?_)
  · replace h := x_iT h c19
    exact hJ21  h
  · replace h := x_iF h c19
    refine zi_lload_n 1 dX2_logLine_8 rfl rfl ?_
    refine zi_ldc2 (v := 1819243380) q2550 dX2_logLine_9 ?_
    refine zi_lcmp dX2_logLine_12 ?_
    refine zi_if_eq 21 dX2_logLine_13 (by decide) (fun c20 => ?_) (fun c20 => ?_)
    · replace h := x_iT h c20
      exact hJ21  h
    · replace h := x_iF h c20
      refine zi_aload_n 0 dX2_logLine_16 rfl rfl ?_
      obtain ⟨r22, σ23, h21, h⟩ := x_b2E h
      refine zi_callV [] mX2_fails rfl q2486 t_rec rfl rfl (Nat.le_of_ble_eq_true rfl) dX2_logLine_17 ?_
      refine w_fails h21 ?_
      obtain ⟨hz24, h⟩ := x_gE h
      refine zi_ireturn rfl (x_nz hz24) dX2_logLine_20 ?_
      exact x_r2i h hQ
noncomputable def D_lay (a1 : Int32) (a2 : Int32) (σ : t_S) : Option (Int32 × t_S) :=
  x_b2 (D_hasRun a2 σ) fun r2 σ3 =>
  if r2 = 0 then (some ((0 : Int32), σ3)) else
  x_b2 (D_hasNet a1 σ3) fun r6 σ7 =>
  if r6 = 0 then (some ((0 : Int32), σ7)) else
  x_b (D_begin (-1 : Int32) σ7) fun σ10 =>
  some ((1 : Int32), σ10)
theorem w_lay {a1 : Int32} {a2 : Int32} {rz : Int32} (h : D_lay a1 a2 σ = some (rz, σz)) (hQ : Q (.inl (some (.int rz))) (t_m b σz μ)) : z_K g (d + 4) YX2_lay [.ref b, .int a1, .int a2] (t_m b σ μ) Q := by
  unfold D_lay at h
  refine z_K.of (by decide) rfl (Nat.le_of_ble_eq_true rfl) ?_
  refine zi_aload_n 0 dX2_lay_0 rfl rfl ?_
  refine zi_iload_n 2 dX2_lay_1 rfl rfl ?_
  obtain ⟨r2, σ3, h1, h⟩ := x_b2E h
  refine zi_callV [.int a2] mX2_hasRun rfl q2611 t_rec rfl rfl (Nat.le_of_ble_eq_true rfl) dX2_lay_2 ?_
  refine w_hasRun h1 ?_
  refine zi_if_eq 16 dX2_lay_5 (by decide) (fun c4 => ?_) (fun c4 => ?_)
  · replace h := x_iT h c4
    refine zi_iconst (v := 0) dX2_lay_16 (by decide) ?_
    refine zi_ireturn rfl rfl dX2_lay_17 ?_
    exact x_r2i h hQ
  · replace h := x_iF h c4
    refine zi_aload_n 0 dX2_lay_8 rfl rfl ?_
    refine zi_iload_n 1 dX2_lay_9 rfl rfl ?_
    obtain ⟨r6, σ7, h5, h⟩ := x_b2E h
    refine zi_callV [.int a1] mX2_hasNet rfl q2563 t_rec rfl rfl (Nat.le_of_ble_eq_true rfl) dX2_lay_10 ?_
    refine w_hasNet h5 ?_
    refine zi_if_ne 18 dX2_lay_13 (by decide) (fun c8 => ?_) (fun c8 => ?_)
    · replace h := x_iF h c8
      refine zi_aload_n 0 dX2_lay_18 rfl rfl ?_
      refine zi_iconst (v := -1) dX2_lay_19 (by decide) ?_
      obtain ⟨σ10, h9, h⟩ := x_bE h
      refine zi_callV [.int (-1 : Int32)] mX2_begin rfl q2631 t_rec rfl rfl (Nat.le_of_ble_eq_true rfl) dX2_lay_20 ?_
      refine w_begin h9 ?_
      refine zi_iconst (v := 1) dX2_lay_23 (by decide) ?_
      refine zi_ireturn rfl rfl dX2_lay_24 ?_
      exact x_r2i h hQ
    · replace h := x_iT h c8
      refine zi_iconst (v := 0) dX2_lay_16 (by decide) ?_
      refine zi_ireturn rfl rfl dX2_lay_17 ?_
      exact x_r2i h hQ
noncomputable def D_firstNack (a1 : Int32) (a2 : Int32) (a3 : Int32) (a4 : Int32) (a5 : Int32) (σ : t_S) : Option t_S :=
  x_l (t_si σ 71 (1 : Int32)) fun σ1 =>
  x_l (t_si σ1 72 a5) fun σ2 =>
  x_l (t_si σ2 73 a1) fun σ3 =>
  x_l (t_si σ3 74 (0 : Int32)) fun σ4 =>
  x_b (D_nackTo a1 a2 a3 a4 σ4) fun σ6 =>
  some σ6
theorem w_firstNack {a1 : Int32} {a2 : Int32} {a3 : Int32} {a4 : Int32} {a5 : Int32}  (h : D_firstNack a1 a2 a3 a4 a5 σ = some σz) (hQ : Q (.inl none) (t_m b σz μ)) : z_K g (d + 4) YX2_firstNack [.ref b, .int a1, .int a2, .int a3, .int a4, .int a5] (t_m b σ μ) Q := by
  unfold D_firstNack at h
  refine z_K.of (by decide) rfl (Nat.le_of_ble_eq_true rfl) ?_
  refine zi_aload_n 0 dX2_firstNack_0 rfl rfl ?_
  refine zi_iconst (v := 1) dX2_firstNack_1 (by decide) ?_
  refine ti_putI 71 ⟨Nat.le_of_ble_eq_true rfl, rfl, rfl⟩ (tyX2_ok 71 (Nat.le_of_ble_eq_true rfl)) q2241 dX2_firstNack_2 ?_
  refine x_lI (fun σ1 => z_V g (d + 4) YX2_firstNack 5 [(0, .ref b), (1, .int a1), (2, .int a2), (3, .int a3), (4, .int a4), (5, .int a5)] [] (t_m b σ1 μ) Q) h (fun σ1 h => ?_)
  refine zi_aload_n 0 dX2_firstNack_5 rfl rfl ?_
  refine zi_iload 5 dX2_firstNack_6 rfl ?_
  refine ti_putI 72 ⟨Nat.le_of_ble_eq_true rfl, rfl, rfl⟩ (tyX2_ok 72 (Nat.le_of_ble_eq_true rfl)) q2242 dX2_firstNack_8 ?_
  refine x_lI (fun σ2 => z_V g (d + 4) YX2_firstNack 11 [(0, .ref b), (1, .int a1), (2, .int a2), (3, .int a3), (4, .int a4), (5, .int a5)] [] (t_m b σ2 μ) Q) h (fun σ2 h => ?_)
  refine zi_aload_n 0 dX2_firstNack_11 rfl rfl ?_
  refine zi_iload_n 1 dX2_firstNack_12 rfl rfl ?_
  refine ti_putI 73 ⟨Nat.le_of_ble_eq_true rfl, rfl, rfl⟩ (tyX2_ok 73 (Nat.le_of_ble_eq_true rfl)) q2243 dX2_firstNack_13 ?_
  refine x_lI (fun σ3 => z_V g (d + 4) YX2_firstNack 16 [(0, .ref b), (1, .int a1), (2, .int a2), (3, .int a3), (4, .int a4), (5, .int a5)] [] (t_m b σ3 μ) Q) h (fun σ3 h => ?_)
  refine zi_aload_n 0 dX2_firstNack_16 rfl rfl ?_
  refine zi_iconst (v := 0) dX2_firstNack_17 (by decide) ?_
  refine ti_putI 74 ⟨Nat.le_of_ble_eq_true rfl, rfl, rfl⟩ (tyX2_ok 74 (Nat.le_of_ble_eq_true rfl)) q2244 dX2_firstNack_18 ?_
  refine x_lI (fun σ4 => z_V g (d + 4) YX2_firstNack 21 [(0, .ref b), (1, .int a1), (2, .int a2), (3, .int a3), (4, .int a4), (5, .int a5)] [] (t_m b σ4 μ) Q) h (fun σ4 h => ?_)
  refine zi_aload_n 0 dX2_firstNack_21 rfl rfl ?_
  refine zi_iload_n 1 dX2_firstNack_22 rfl rfl ?_
  refine zi_iload_n 2 dX2_firstNack_23 rfl rfl ?_
  refine zi_iload_n 3 dX2_firstNack_24 rfl rfl ?_
  refine zi_iload 4 dX2_firstNack_25 rfl ?_
  obtain ⟨σ6, h5, h⟩ := x_bE h
  refine zi_callV [.int a1, .int a2, .int a3, .int a4] mX2_nackTo rfl q2666 t_rec rfl rfl (Nat.le_of_ble_eq_true rfl) dX2_firstNack_27 ?_
  refine w_nackTo h5 ?_
  refine zi_return rfl dX2_firstNack_30 ?_
  exact x_r0 h hQ
noncomputable def D_fromStore (a1 : Int32) (a2 : Int32) (a3 : Int32) (a4 : Int32) (σ : t_S) : Option t_S :=
  x_l (((6 : Int32) * a1) + a2) fun v1 =>
  x_ga v1 36 fun j2 =>
  x_l (t_si σ 71 (t_a σ 32 j2)) fun σ3 =>
  x_ga v1 36 fun j4 =>
  x_l (t_si σ3 72 (t_a σ3 33 j4)) fun σ5 =>
  x_l (t_si σ5 73 a1) fun σ6 =>
  x_l (t_si σ6 74 (1 : Int32)) fun σ7 =>
  x_b (D_putsLast a1 a4 (t_i σ7 71) (t_i σ7 72) σ7) fun σ9 =>
  x_l (t_si σ9 66 ((t_i σ9 66) + (1 : Int32))) fun σ10 =>
  x_b (D_dataTo a1 a3 a4 σ10) fun σ12 =>
  some σ12
theorem w_fromStore {a1 : Int32} {a2 : Int32} {a3 : Int32} {a4 : Int32}  (h : D_fromStore a1 a2 a3 a4 σ = some σz) (hQ : Q (.inl none) (t_m b σz μ)) : z_K g (d + 4) YX2_fromStore [.ref b, .int a1, .int a2, .int a3, .int a4] (t_m b σ μ) Q := by
  unfold D_fromStore at h
  refine z_K.of (by decide) rfl (Nat.le_of_ble_eq_true rfl) ?_
  refine zi_bipush (v := 6) dX2_fromStore_0 (by decide) ?_
  refine zi_iload_n 1 dX2_fromStore_2 rfl rfl ?_
  refine zi_imul dX2_fromStore_3 ?_
  refine zi_iload_n 2 dX2_fromStore_4 rfl rfl ?_
  refine zi_iadd dX2_fromStore_5 ?_
  refine zi_istore (lc1 := [(5, _), (0, _), (1, _), (2, _), (3, _), (4, _)]) dX2_fromStore_6 (Nat.le_of_ble_eq_true rfl) rfl ?_
  refine x_lI (fun v1 => z_V g (d + 4) YX2_fromStore 8 [(5, .int v1), (0, .ref b), (1, .int a1), (2, .int a2), (3, .int a3), (4, .int a4)] [] (t_m b σ μ) Q) h (fun v1 h => ?_)
  refine zi_aload_n 1 dX2_fromStore_8 rfl rfl ?_
  refine zi_aload_n 1 dX2_fromStore_9 rfl rfl ?_
  refine ti_getA 32 16 t_o32 q2202 dX2_fromStore_10 ?_
  refine zi_iload 0 dX2_fromStore_13 rfl ?_
  obtain ⟨j2, hj2, h⟩ := x_gaE h
  refine ti_iald 32 j2 36 15 ⟨rfl, rfl⟩ hj2 dX2_fromStore_15 ?_
  refine ti_putI 71 ⟨Nat.le_of_ble_eq_true rfl, rfl, rfl⟩ (tyX2_ok 71 (Nat.le_of_ble_eq_true rfl)) q2241 dX2_fromStore_16 ?_
  refine x_lI (fun σ3 => z_V g (d + 4) YX2_fromStore 19 [(5, .int v1), (0, .ref b), (1, .int a1), (2, .int a2), (3, .int a3), (4, .int a4)] [] (t_m b σ3 μ) Q) h (fun σ3 h => ?_)
  refine zi_aload_n 1 dX2_fromStore_19 rfl rfl ?_
  refine zi_aload_n 1 dX2_fromStore_20 rfl rfl ?_
  refine ti_getA 33 17 t_o33 q2203 dX2_fromStore_21 ?_
  refine zi_iload 0 dX2_fromStore_24 rfl ?_
  obtain ⟨j4, hj4, h⟩ := x_gaE h
  refine ti_iald 33 j4 36 16 ⟨rfl, rfl⟩ hj4 dX2_fromStore_26 ?_
  refine ti_putI 72 ⟨Nat.le_of_ble_eq_true rfl, rfl, rfl⟩ (tyX2_ok 72 (Nat.le_of_ble_eq_true rfl)) q2242 dX2_fromStore_27 ?_
  refine x_lI (fun σ5 => z_V g (d + 4) YX2_fromStore 30 [(5, .int v1), (0, .ref b), (1, .int a1), (2, .int a2), (3, .int a3), (4, .int a4)] [] (t_m b σ5 μ) Q) h (fun σ5 h => ?_)
  refine zi_aload_n 1 dX2_fromStore_30 rfl rfl ?_
  refine zi_iload_n 2 dX2_fromStore_31 rfl rfl ?_
  refine ti_putI 73 ⟨Nat.le_of_ble_eq_true rfl, rfl, rfl⟩ (tyX2_ok 73 (Nat.le_of_ble_eq_true rfl)) q2243 dX2_fromStore_32 ?_
  refine x_lI (fun σ6 => z_V g (d + 4) YX2_fromStore 35 [(5, .int v1), (0, .ref b), (1, .int a1), (2, .int a2), (3, .int a3), (4, .int a4)] [] (t_m b σ6 μ) Q) h (fun σ6 h => ?_)
  refine zi_aload_n 1 dX2_fromStore_35 rfl rfl ?_
  refine zi_iconst (v := 1) dX2_fromStore_36 (by decide) ?_
  refine ti_putI 74 ⟨Nat.le_of_ble_eq_true rfl, rfl, rfl⟩ (tyX2_ok 74 (Nat.le_of_ble_eq_true rfl)) q2244 dX2_fromStore_37 ?_
  refine x_lI (fun σ7 => z_V g (d + 4) YX2_fromStore 40 [(5, .int v1), (0, .ref b), (1, .int a1), (2, .int a2), (3, .int a3), (4, .int a4)] [] (t_m b σ7 μ) Q) h (fun σ7 h => ?_)
  refine zi_aload_n 1 dX2_fromStore_40 rfl rfl ?_
  refine zi_iload_n 2 dX2_fromStore_41 rfl rfl ?_
  refine zi_iload 5 dX2_fromStore_42 rfl ?_
  refine zi_aload_n 1 dX2_fromStore_44 rfl rfl ?_
  refine ti_getI 71 ⟨Nat.le_of_ble_eq_true rfl, rfl⟩ q2241 dX2_fromStore_45 ?_
  refine zi_aload_n 1 dX2_fromStore_48 rfl rfl ?_
  refine ti_getI 72 ⟨Nat.le_of_ble_eq_true rfl, rfl⟩ q2242 dX2_fromStore_49 ?_
  obtain ⟨σ9, h8, h⟩ := x_bE h
  refine zi_callV [.int a1, .int a4, .int (t_i σ7 71), .int (t_i σ7 72)] mX2_putsLast rfl q2689 t_rec rfl rfl (Nat.le_of_ble_eq_true rfl) dX2_fromStore_52 ?_
  refine w_putsLast h8 ?_
  refine zi_aload_n 1 dX2_fromStore_55 rfl rfl ?_
  refine zi_dup dX2_fromStore_56 rfl ?_
  refine ti_getI 66 ⟨Nat.le_of_ble_eq_true rfl, rfl⟩ q2236 dX2_fromStore_57 ?_
  refine zi_iconst (v := 1) dX2_fromStore_60 (by decide) ?_
  refine zi_iadd dX2_fromStore_61 ?_
  refine ti_putI 66 ⟨Nat.le_of_ble_eq_true rfl, rfl, rfl⟩ (tyX2_ok 66 (Nat.le_of_ble_eq_true rfl)) q2236 dX2_fromStore_62 ?_
  refine x_lI (fun σ10 => z_V g (d + 4) YX2_fromStore 65 [(5, .int v1), (0, .ref b), (1, .int a1), (2, .int a2), (3, .int a3), (4, .int a4)] [] (t_m b σ10 μ) Q) h (fun σ10 h => ?_)
  refine zi_aload_n 1 dX2_fromStore_65 rfl rfl ?_
  refine zi_iload_n 2 dX2_fromStore_66 rfl rfl ?_
  refine zi_iload_n 4 dX2_fromStore_67 rfl rfl ?_
  refine zi_iload 5 dX2_fromStore_68 rfl ?_
  obtain ⟨σ12, h11, h⟩ := x_bE h
  refine zi_callV [.int a1, .int a3, .int a4] mX2_dataTo rfl q2697 t_rec rfl rfl (Nat.le_of_ble_eq_true rfl) dX2_fromStore_70 ?_
  refine w_dataTo h11 ?_
  refine zi_return rfl dX2_fromStore_73 ?_
  exact x_r0 h hQ
noncomputable def D_fromServer (a1 : Int32) (a2 : Int32) (a3 : Int32) (a4 : Int32) (σ : t_S) : Option t_S :=
  x_b (D_serveAt a2 (2 : Int32) σ) fun r2 =>
  x_l (t_si σ 71 ((t_i σ 27) + r2)) fun σ3 =>
  x_l (t_si σ3 72 a1) fun σ4 =>
  x_l (t_si σ4 73 a1) fun σ5 =>
  x_l (t_si σ5 74 (0 : Int32)) fun σ6 =>
  x_b (D_dataTo a1 a3 a4 σ6) fun σ8 =>
  some σ8
theorem w_fromServer {a1 : Int32} {a2 : Int32} {a3 : Int32} {a4 : Int32}  (h : D_fromServer a1 a2 a3 a4 σ = some σz) (hQ : Q (.inl none) (t_m b σz μ)) : z_K g (d + 4) YX2_fromServer [.ref b, .int a1, .int a2, .int a3, .int a4] (t_m b σ μ) Q := by
  unfold D_fromServer at h
  refine z_K.of (by decide) rfl (Nat.le_of_ble_eq_true rfl) ?_
  refine zi_aload_n 0 dX2_fromServer_0 rfl rfl ?_
  refine zi_aload_n 0 dX2_fromServer_1 rfl rfl ?_
  refine ti_getI 27 ⟨Nat.le_of_ble_eq_true rfl, rfl⟩ q2197 dX2_fromServer_2 ?_
  refine zi_aload_n 0 dX2_fromServer_5 rfl rfl ?_
  refine zi_iload_n 2 dX2_fromServer_6 rfl rfl ?_
  refine zi_iconst (v := 2) dX2_fromServer_7 (by decide) ?_
  obtain ⟨r2, h1, h⟩ := x_bE h
  refine zi_callV [.int a2, .int (2 : Int32)] mX2_serveAt rfl q2603 t_rec rfl rfl (Nat.le_of_ble_eq_true rfl) dX2_fromServer_8 ?_
  refine w_serveAt h1 ?_
  refine zi_iadd dX2_fromServer_11 ?_
  refine ti_putI 71 ⟨Nat.le_of_ble_eq_true rfl, rfl, rfl⟩ (tyX2_ok 71 (Nat.le_of_ble_eq_true rfl)) q2241 dX2_fromServer_12 ?_
  refine x_lI (fun σ3 => z_V g (d + 4) YX2_fromServer 15 [(0, .ref b), (1, .int a1), (2, .int a2), (3, .int a3), (4, .int a4)] [] (t_m b σ3 μ) Q) h (fun σ3 h => ?_)
  refine zi_aload_n 0 dX2_fromServer_15 rfl rfl ?_
  refine zi_iload_n 1 dX2_fromServer_16 rfl rfl ?_
  refine ti_putI 72 ⟨Nat.le_of_ble_eq_true rfl, rfl, rfl⟩ (tyX2_ok 72 (Nat.le_of_ble_eq_true rfl)) q2242 dX2_fromServer_17 ?_
  refine x_lI (fun σ4 => z_V g (d + 4) YX2_fromServer 20 [(0, .ref b), (1, .int a1), (2, .int a2), (3, .int a3), (4, .int a4)] [] (t_m b σ4 μ) Q) h (fun σ4 h => ?_)
  refine zi_aload_n 0 dX2_fromServer_20 rfl rfl ?_
  refine zi_iload_n 1 dX2_fromServer_21 rfl rfl ?_
  refine ti_putI 73 ⟨Nat.le_of_ble_eq_true rfl, rfl, rfl⟩ (tyX2_ok 73 (Nat.le_of_ble_eq_true rfl)) q2243 dX2_fromServer_22 ?_
  refine x_lI (fun σ5 => z_V g (d + 4) YX2_fromServer 25 [(0, .ref b), (1, .int a1), (2, .int a2), (3, .int a3), (4, .int a4)] [] (t_m b σ5 μ) Q) h (fun σ5 h => ?_)
  refine zi_aload_n 0 dX2_fromServer_25 rfl rfl ?_
  refine zi_iconst (v := 0) dX2_fromServer_26 (by decide) ?_
  refine ti_putI 74 ⟨Nat.le_of_ble_eq_true rfl, rfl, rfl⟩ (tyX2_ok 74 (Nat.le_of_ble_eq_true rfl)) q2244 dX2_fromServer_27 ?_
  refine x_lI (fun σ6 => z_V g (d + 4) YX2_fromServer 30 [(0, .ref b), (1, .int a1), (2, .int a2), (3, .int a3), (4, .int a4)] [] (t_m b σ6 μ) Q) h (fun σ6 h => ?_)
  refine zi_aload_n 0 dX2_fromServer_30 rfl rfl ?_
  refine zi_iload_n 1 dX2_fromServer_31 rfl rfl ?_
  refine zi_iload_n 3 dX2_fromServer_32 rfl rfl ?_
  refine zi_iload 4 dX2_fromServer_33 rfl ?_
  obtain ⟨σ8, h7, h⟩ := x_bE h
  refine zi_callV [.int a1, .int a3, .int a4] mX2_dataTo rfl q2697 t_rec rfl rfl (Nat.le_of_ble_eq_true rfl) dX2_fromServer_35 ?_
  refine w_dataTo h7 ?_
  refine zi_return rfl dX2_fromServer_38 ?_
  exact x_r0 h hQ
noncomputable def D_goesOn (a1 : Int32) (a2 : Int32) (σ : t_S) : Option (Int32 × t_S) :=
  x_ga a2 384 fun j1 =>
  x_ga a2 384 fun j2 =>
  x_ga a2 384 fun j3 =>
  x_b (D_nextWay a1 (t_a σ 35 j1) ((t_a σ 37 j2) ||| (t_a σ 42 j3)) σ) fun r5 =>
  if r5 = (-1 : Int32) then (some ((0 : Int32), σ)) else
  x_ga a2 384 fun j7 =>
  x_l (t_sa σ 41 j7 r5) fun σ8 =>
  x_ga a2 384 fun j9 =>
  x_ga a2 384 fun j10 =>
  x_l (t_sa σ8 42 j10 ((t_a σ8 42 j9) ||| ((1 : Int32) <<< (r5 &&& 31)))) fun σ11 =>
  x_ga a2 384 fun j12 =>
  x_l (t_sa σ11 43 j12 (t_i σ11 27)) fun σ13 =>
  x_ga a2 384 fun j14 =>
  x_ga a2 384 fun j15 =>
  x_ga a2 384 fun j16 =>
  x_b (D_sends (0 : Int32) a1 r5 (t_a σ13 35 j14) (t_a σ13 36 j15) (t_a σ13 40 j16) σ13) fun σ18 =>
  some ((1 : Int32), σ18)
theorem w_goesOn {a1 : Int32} {a2 : Int32} {rz : Int32} (h : D_goesOn a1 a2 σ = some (rz, σz)) (hQ : Q (.inl (some (.int rz))) (t_m b σz μ)) : z_K g (d + 4) YX2_goesOn [.ref b, .int a1, .int a2] (t_m b σ μ) Q := by
  unfold D_goesOn at h
  refine z_K.of (by decide) rfl (Nat.le_of_ble_eq_true rfl) ?_
  refine zi_aload_n 0 dX2_goesOn_0 rfl rfl ?_
  refine zi_iload_n 1 dX2_goesOn_1 rfl rfl ?_
  refine zi_aload_n 0 dX2_goesOn_2 rfl rfl ?_
  refine ti_getA 35 19 t_o35 q2205 dX2_goesOn_3 ?_
  refine zi_iload_n 2 dX2_goesOn_6 rfl rfl ?_
  obtain ⟨j1, hj1, h⟩ := x_gaE h
  refine ti_iald 35 j1 384 18 ⟨rfl, rfl⟩ hj1 dX2_goesOn_7 ?_
  refine zi_aload_n 0 dX2_goesOn_8 rfl rfl ?_
  refine ti_getA 37 21 t_o37 q2207 dX2_goesOn_9 ?_
  refine zi_iload_n 2 dX2_goesOn_12 rfl rfl ?_
  obtain ⟨j2, hj2, h⟩ := x_gaE h
  refine ti_iald 37 j2 384 20 ⟨rfl, rfl⟩ hj2 dX2_goesOn_13 ?_
  refine zi_aload_n 0 dX2_goesOn_14 rfl rfl ?_
  refine ti_getA 42 26 t_o42 q2212 dX2_goesOn_15 ?_
  refine zi_iload_n 2 dX2_goesOn_18 rfl rfl ?_
  obtain ⟨j3, hj3, h⟩ := x_gaE h
  refine ti_iald 42 j3 384 25 ⟨rfl, rfl⟩ hj3 dX2_goesOn_19 ?_
  refine zi_ior dX2_goesOn_20 ?_
  obtain ⟨r5, h4, h⟩ := x_bE h
  refine zi_callV [.int a1, .int (t_a σ 35 j1), .int ((t_a σ 37 j2) ||| (t_a σ 42 j3))] mX2_nextWay rfl q2731 t_rec rfl rfl (Nat.le_of_ble_eq_true rfl) dX2_goesOn_21 ?_
  refine w_nextWay h4 ?_
  refine zi_istore_n (lc1 := [(3, _), (0, _), (1, _), (2, _)]) dX2_goesOn_24 rfl (Nat.le_of_ble_eq_true rfl) rfl ?_
  refine zi_iload_n 0 dX2_goesOn_25 rfl rfl ?_
  refine zi_iconst (v := -1) dX2_goesOn_26 (by decide) ?_
  refine zi_icmp_ne 32 dX2_goesOn_27 (by decide) (fun c6 => ?_) (fun c6 => ?_)
  · replace h := x_iF h c6
    refine zi_aload_n 1 dX2_goesOn_32 rfl rfl ?_
    refine ti_getA 41 25 t_o41 q2211 dX2_goesOn_33 ?_
    refine zi_iload_n 3 dX2_goesOn_36 rfl rfl ?_
    refine zi_iload_n 0 dX2_goesOn_37 rfl rfl ?_
    obtain ⟨j7, hj7, h⟩ := x_gaE h
    refine ti_iast 41 j7 384 24 ⟨rfl, rfl⟩ hj7 dX2_goesOn_38 ?_
    refine x_lI (fun σ8 => z_V g (d + 4) YX2_goesOn 39 [(3, .int r5), (0, .ref b), (1, .int a1), (2, .int a2)] [] (t_m b σ8 μ) Q) h (fun σ8 h => ?_)
    refine zi_aload_n 1 dX2_goesOn_39 rfl rfl ?_
    refine ti_getA 42 26 t_o42 q2212 dX2_goesOn_40 ?_
    refine zi_iload_n 3 dX2_goesOn_43 rfl rfl ?_
    refine zi_dup2_11 dX2_goesOn_44 rfl rfl ?_
    obtain ⟨j9, hj9, h⟩ := x_gaE h
    refine ti_iald 42 j9 384 25 ⟨rfl, rfl⟩ hj9 dX2_goesOn_45 ?_
    refine zi_iconst (v := 1) dX2_goesOn_46 (by decide) ?_
    refine zi_iload_n 0 dX2_goesOn_47 rfl rfl ?_
    refine zi_ishl dX2_goesOn_48 ?_
    refine zi_ior dX2_goesOn_49 ?_
    obtain ⟨j10, hj10, h⟩ := x_gaE h
    refine ti_iast 42 j10 384 25 ⟨rfl, rfl⟩ hj10 dX2_goesOn_50 ?_
    refine x_lI (fun σ11 => z_V g (d + 4) YX2_goesOn 51 [(3, .int r5), (0, .ref b), (1, .int a1), (2, .int a2)] [] (t_m b σ11 μ) Q) h (fun σ11 h => ?_)
    refine zi_aload_n 1 dX2_goesOn_51 rfl rfl ?_
    refine ti_getA 43 27 t_o43 q2213 dX2_goesOn_52 ?_
    refine zi_iload_n 3 dX2_goesOn_55 rfl rfl ?_
    refine zi_aload_n 1 dX2_goesOn_56 rfl rfl ?_
    refine ti_getI 27 ⟨Nat.le_of_ble_eq_true rfl, rfl⟩ q2197 dX2_goesOn_57 ?_
    obtain ⟨j12, hj12, h⟩ := x_gaE h
    refine ti_iast 43 j12 384 26 ⟨rfl, rfl⟩ hj12 dX2_goesOn_60 ?_
    refine x_lI (fun σ13 => z_V g (d + 4) YX2_goesOn 61 [(3, .int r5), (0, .ref b), (1, .int a1), (2, .int a2)] [] (t_m b σ13 μ) Q) h (fun σ13 h => ?_)
    refine zi_aload_n 1 dX2_goesOn_61 rfl rfl ?_
    refine zi_iconst (v := 0) dX2_goesOn_62 (by decide) ?_
    refine zi_iload_n 2 dX2_goesOn_63 rfl rfl ?_
    refine zi_iload_n 0 dX2_goesOn_64 rfl rfl ?_
    refine zi_aload_n 1 dX2_goesOn_65 rfl rfl ?_
    refine ti_getA 35 19 t_o35 q2205 dX2_goesOn_66 ?_
    refine zi_iload_n 3 dX2_goesOn_69 rfl rfl ?_
    obtain ⟨j14, hj14, h⟩ := x_gaE h
    refine ti_iald 35 j14 384 18 ⟨rfl, rfl⟩ hj14 dX2_goesOn_70 ?_
    refine zi_aload_n 1 dX2_goesOn_71 rfl rfl ?_
    refine ti_getA 36 20 t_o36 q2206 dX2_goesOn_72 ?_
    refine zi_iload_n 3 dX2_goesOn_75 rfl rfl ?_
    obtain ⟨j15, hj15, h⟩ := x_gaE h
    refine ti_iald 36 j15 384 19 ⟨rfl, rfl⟩ hj15 dX2_goesOn_76 ?_
    refine zi_aload_n 1 dX2_goesOn_77 rfl rfl ?_
    refine ti_getA 40 24 t_o40 q2210 dX2_goesOn_78 ?_
    refine zi_iload_n 3 dX2_goesOn_81 rfl rfl ?_
    obtain ⟨j16, hj16, h⟩ := x_gaE h
    refine ti_iald 40 j16 384 23 ⟨rfl, rfl⟩ hj16 dX2_goesOn_82 ?_
    obtain ⟨σ18, h17, h⟩ := x_bE h
    refine zi_callV [.int (0 : Int32), .int a1, .int r5, .int (t_a σ13 35 j14), .int (t_a σ13 36 j15), .int (t_a σ13 40 j16)] mX2_sends rfl q2674 t_rec rfl rfl (Nat.le_of_ble_eq_true rfl) dX2_goesOn_83 ?_
    refine w_sends h17 ?_
    refine zi_iconst (v := 1) dX2_goesOn_86 (by decide) ?_
    refine zi_ireturn rfl rfl dX2_goesOn_87 ?_
    exact x_r2i h hQ
  · replace h := x_iT h c6
    refine zi_iconst (v := 0) dX2_goesOn_30 (by decide) ?_
    refine zi_ireturn rfl rfl dX2_goesOn_31 ?_
    exact x_r2i h hQ
noncomputable def D_answers_2 (f1_1 : Int32) (f2_2 : Int32) (k41 : t_S → Option t_S) : Nat → Int32 → t_S → Option t_S
  | 0, _, _ => none
  | f + 1, v3_3, σ4 =>
    if (t_i σ4 23) ≤ v3_3 then (k41 σ4) else
    x_ga f2_2 384 fun j7 =>
    x_b (D_has (t_a σ4 37 j7) v3_3) fun r9 =>
    if r9 = 0 then (x_l (v3_3 + (1 : Int32)) fun v11 =>
    D_answers_2 f1_1 f2_2 k41 f v11 σ4) else
    x_ga f2_2 384 fun j12 =>
    x_b (D_dataTo f1_1 v3_3 (t_a σ4 35 j12) σ4) fun σ14 =>
    x_l (v3_3 + (1 : Int32)) fun v15 =>
    D_answers_2 f1_1 f2_2 k41 f v15 σ14
theorem w_answers_2 {f1_1 : Int32} {f2_2 : Int32}  {k41 : t_S → Option t_S} (hk41 : ∀ (σ5 : t_S), k41 σ5 = some σz → z_V g (d + 4) YX2_answers 41 [(0, .ref b), (1, .int f1_1), (2, .int f2_2)] [] (t_m b σ5 μ) Q) (hQ : Q (.inl none) (t_m b σz μ)) : ∀ (f : Nat) (v3_3 : Int32) (σ4 : t_S), D_answers_2 f1_1 f2_2 k41 f v3_3 σ4 = some σz → z_V g (d + 4) YX2_answers 2 [(0, .ref b), (1, .int f1_1), (2, .int f2_2), (3, .int v3_3)] [] (t_m b σ4 μ) Q := by
  intro f
  induction f with
  | zero =>
    intro v3_3 σ4 h
    exact absurd h (x_n _)
  | succ f ih =>
    intro v3_3 σ4 h
    refine zi_iload_n 3 dX2_answers_2 rfl rfl ?_
    refine zi_aload_n 0 dX2_answers_3 rfl rfl ?_
    refine ti_getI 23 ⟨Nat.le_of_ble_eq_true rfl, rfl⟩ q2193 dX2_answers_4 ?_
    refine zi_icmp_ge 41 dX2_answers_7 (by decide) (fun c6 => ?_) (fun c6 => ?_)
    · replace h := x_iT h c6
      refine zi_sub [0, 1, 2] rfl ?_
      exact hk41 _ h
    · replace h := x_iF h c6
      refine zi_aload_n 0 dX2_answers_10 rfl rfl ?_
      refine ti_getA 37 21 t_o37 q2207 dX2_answers_11 ?_
      refine zi_iload_n 2 dX2_answers_14 rfl rfl ?_
      obtain ⟨j7, hj7, h⟩ := x_gaE h
      refine ti_iald 37 j7 384 20 ⟨rfl, rfl⟩ hj7 dX2_answers_15 ?_
      refine zi_iload_n 3 dX2_answers_16 rfl rfl ?_
      obtain ⟨r9, h8, h⟩ := x_bE h
      refine zi_callS [.int (t_a σ4 37 j7), .int v3_3] mX2_has rfl q2682 rfl rfl (Nat.le_of_ble_eq_true rfl) dX2_answers_17 ?_
      refine w_has h8 ?_
      refine zi_if_eq 35 dX2_answers_20 (by decide) (fun c10 => ?_) (fun c10 => ?_)
      · replace h := x_iT h c10
        refine zi_iinc (v := (v3_3 + (1 : Int32))) (lc1 := [(3, _), (0, _), (1, _), (2, _)]) 3 dX2_answers_35 rfl rfl (Nat.le_of_ble_eq_true rfl) rfl ?_
        refine x_lI (fun v11 => z_V g (d + 4) YX2_answers 38 [(3, .int v11), (0, .ref b), (1, .int f1_1), (2, .int f2_2)] [] (t_m b σ4 μ) Q) h (fun v11 h => ?_)
        refine zi_goto 2 dX2_answers_38 (by decide) ?_
        refine zi_sub [1, 2, 3, 0] rfl ?_
        exact ih _ _ h
      · replace h := x_iF h c10
        refine zi_aload_n 0 dX2_answers_23 rfl rfl ?_
        refine zi_iload_n 1 dX2_answers_24 rfl rfl ?_
        refine zi_iload_n 3 dX2_answers_25 rfl rfl ?_
        refine zi_aload_n 0 dX2_answers_26 rfl rfl ?_
        refine ti_getA 35 19 t_o35 q2205 dX2_answers_27 ?_
        refine zi_iload_n 2 dX2_answers_30 rfl rfl ?_
        obtain ⟨j12, hj12, h⟩ := x_gaE h
        refine ti_iald 35 j12 384 18 ⟨rfl, rfl⟩ hj12 dX2_answers_31 ?_
        obtain ⟨σ14, h13, h⟩ := x_bE h
        refine zi_callV [.int f1_1, .int v3_3, .int (t_a σ4 35 j12)] mX2_dataTo rfl q2697 t_rec rfl rfl (Nat.le_of_ble_eq_true rfl) dX2_answers_32 ?_
        refine w_dataTo h13 ?_
        refine zi_iinc (v := (v3_3 + (1 : Int32))) (lc1 := [(3, _), (0, _), (1, _), (2, _)]) 3 dX2_answers_35 rfl rfl (Nat.le_of_ble_eq_true rfl) rfl ?_
        refine x_lI (fun v15 => z_V g (d + 4) YX2_answers 38 [(3, .int v15), (0, .ref b), (1, .int f1_1), (2, .int f2_2)] [] (t_m b σ14 μ) Q) h (fun v15 h => ?_)
        refine zi_goto 2 dX2_answers_38 (by decide) ?_
        refine zi_sub [1, 2, 3, 0] rfl ?_
        exact ih _ _ h
noncomputable def D_answers_43 (f1_17 : Int32) (f2_18 : Int32) (k73 : t_S → Option t_S) : Nat → Int32 → t_S → Option t_S
  | 0, _, _ => none
  | f + 1, v3_19, σ20 =>
    if (64 : Int32) ≤ v3_19 then (k73 σ20) else
    x_ga f2_18 384 fun j23 =>
    x_b (D_hasL (t_l σ20 38 j23) v3_19) fun r25 =>
    if r25 = 0 then (x_l (v3_19 + (1 : Int32)) fun v27 =>
    D_answers_43 f1_17 f2_18 k73 f v27 σ20) else
    x_b (D_gets v3_19 σ20) fun σ29 =>
    x_l (v3_19 + (1 : Int32)) fun v30 =>
    D_answers_43 f1_17 f2_18 k73 f v30 σ29
theorem w_answers_43 {f1_17 : Int32} {f2_18 : Int32}  {k73 : t_S → Option t_S} (hk73 : ∀ (σ21 : t_S), k73 σ21 = some σz → z_V g (d + 4) YX2_answers 73 [(0, .ref b), (1, .int f1_17), (2, .int f2_18)] [] (t_m b σ21 μ) Q) (hQ : Q (.inl none) (t_m b σz μ)) : ∀ (f : Nat) (v3_19 : Int32) (σ20 : t_S), D_answers_43 f1_17 f2_18 k73 f v3_19 σ20 = some σz → z_V g (d + 4) YX2_answers 43 [(0, .ref b), (1, .int f1_17), (2, .int f2_18), (3, .int v3_19)] [] (t_m b σ20 μ) Q := by
  intro f
  induction f with
  | zero =>
    intro v3_19 σ20 h
    exact absurd h (x_n _)
  | succ f ih =>
    intro v3_19 σ20 h
    refine zi_iload_n 3 dX2_answers_43 rfl rfl ?_
    refine zi_bipush (v := 64) dX2_answers_44 (by decide) ?_
    refine zi_icmp_ge 73 dX2_answers_46 (by decide) (fun c22 => ?_) (fun c22 => ?_)
    · replace h := x_iT h c22
      refine zi_sub [0, 1, 2] rfl ?_
      exact hk73 _ h
    · replace h := x_iF h c22
      refine zi_aload_n 0 dX2_answers_49 rfl rfl ?_
      refine ti_getA 38 22 t_o38 q2208 dX2_answers_50 ?_
      refine zi_iload_n 2 dX2_answers_53 rfl rfl ?_
      obtain ⟨j23, hj23, h⟩ := x_gaE h
      refine ti_lald 38 j23 384 21 ⟨rfl, rfl⟩ hj23 dX2_answers_54 ?_
      refine zi_iload_n 3 dX2_answers_55 rfl rfl ?_
      obtain ⟨r25, h24, h⟩ := x_bE h
      refine zi_callS [.long (t_l σ20 38 j23), .int v3_19] mX2_hasL rfl q2659 rfl rfl (Nat.le_of_ble_eq_true rfl) dX2_answers_56 ?_
      refine w_hasL h24 ?_
      refine zi_if_eq 67 dX2_answers_59 (by decide) (fun c26 => ?_) (fun c26 => ?_)
      · replace h := x_iT h c26
        refine zi_iinc (v := (v3_19 + (1 : Int32))) (lc1 := [(3, _), (0, _), (1, _), (2, _)]) 3 dX2_answers_67 rfl rfl (Nat.le_of_ble_eq_true rfl) rfl ?_
        refine x_lI (fun v27 => z_V g (d + 4) YX2_answers 70 [(3, .int v27), (0, .ref b), (1, .int f1_17), (2, .int f2_18)] [] (t_m b σ20 μ) Q) h (fun v27 h => ?_)
        refine zi_goto 43 dX2_answers_70 (by decide) ?_
        refine zi_sub [1, 2, 3, 0] rfl ?_
        exact ih _ _ h
      · replace h := x_iF h c26
        refine zi_aload_n 0 dX2_answers_62 rfl rfl ?_
        refine zi_iload_n 3 dX2_answers_63 rfl rfl ?_
        obtain ⟨σ29, h28, h⟩ := x_bE h
        refine zi_callV [.int v3_19] mX2_gets rfl q2701 t_rec rfl rfl (Nat.le_of_ble_eq_true rfl) dX2_answers_64 ?_
        refine w_gets h28 ?_
        refine zi_iinc (v := (v3_19 + (1 : Int32))) (lc1 := [(3, _), (0, _), (1, _), (2, _)]) 3 dX2_answers_67 rfl rfl (Nat.le_of_ble_eq_true rfl) rfl ?_
        refine x_lI (fun v30 => z_V g (d + 4) YX2_answers 70 [(3, .int v30), (0, .ref b), (1, .int f1_17), (2, .int f2_18)] [] (t_m b σ29 μ) Q) h (fun v30 h => ?_)
        refine zi_goto 43 dX2_answers_70 (by decide) ?_
        refine zi_sub [1, 2, 3, 0] rfl ?_
        exact ih _ _ h
noncomputable def D_answers (a1 : Int32) (a2 : Int32) (σ : t_S) : Option t_S :=
  D_answers_2 a1 a2
    (fun (σ16 : t_S) => D_answers_43 a1 a2
    (fun (σ31 : t_S) => x_ga a1 6 fun j32 =>
  x_ga a2 384 fun j33 =>
  x_ga a1 6 fun j34 =>
  x_l (t_sl σ31 28 j34 ((t_l σ31 28 j32) ||| (t_l σ31 39 j33))) fun σ35 =>
  x_b (D_removes a1 a2 σ35) fun σ37 =>
  some σ37)
    x_F (0 : Int32) σ16)
    x_F (0 : Int32) σ
theorem w_answers {a1 : Int32} {a2 : Int32}  (h : D_answers a1 a2 σ = some σz) (hQ : Q (.inl none) (t_m b σz μ)) : z_K g (d + 4) YX2_answers [.ref b, .int a1, .int a2] (t_m b σ μ) Q := by
  unfold D_answers at h
  refine z_K.of (by decide) rfl (Nat.le_of_ble_eq_true rfl) ?_
  refine zi_iconst (v := 0) dX2_answers_0 (by decide) ?_
  refine zi_istore_n (lc1 := [(3, _), (0, _), (1, _), (2, _)]) dX2_answers_1 rfl (Nat.le_of_ble_eq_true rfl) rfl ?_
  refine zi_sub [1, 2, 3, 0] rfl ?_
  refine w_answers_2 (fun σ16 h => ?_) hQ _ _ _ h
  · refine zi_iconst (v := 0) dX2_answers_41 (by decide) ?_
    refine zi_istore_n (lc1 := [(3, _), (0, _), (1, _), (2, _)]) dX2_answers_42 rfl (Nat.le_of_ble_eq_true rfl) rfl ?_
    refine zi_sub [1, 2, 3, 0] rfl ?_
    refine w_answers_43 (fun σ31 h => ?_) hQ _ _ _ h
    · refine zi_aload_n 0 dX2_answers_73 rfl rfl ?_
      refine ti_getA 28 12 t_o28 q2198 dX2_answers_74 ?_
      refine zi_iload_n 1 dX2_answers_77 rfl rfl ?_
      refine zi_dup2_11 dX2_answers_78 rfl rfl ?_
      obtain ⟨j32, hj32, h⟩ := x_gaE h
      refine ti_lald 28 j32 6 11 ⟨rfl, rfl⟩ hj32 dX2_answers_79 ?_
      refine zi_aload_n 0 dX2_answers_80 rfl rfl ?_
      refine ti_getA 39 23 t_o39 q2209 dX2_answers_81 ?_
      refine zi_iload_n 2 dX2_answers_84 rfl rfl ?_
      obtain ⟨j33, hj33, h⟩ := x_gaE h
      refine ti_lald 39 j33 384 22 ⟨rfl, rfl⟩ hj33 dX2_answers_85 ?_
      refine zi_lor dX2_answers_86 ?_
      obtain ⟨j34, hj34, h⟩ := x_gaE h
      refine ti_last 28 j34 6 11 ⟨rfl, rfl⟩ hj34 dX2_answers_87 ?_
      refine x_lI (fun σ35 => z_V g (d + 4) YX2_answers 88 [(0, .ref b), (1, .int a1), (2, .int a2)] [] (t_m b σ35 μ) Q) h (fun σ35 h => ?_)
      refine zi_aload_n 0 dX2_answers_88 rfl rfl ?_
      refine zi_iload_n 1 dX2_answers_89 rfl rfl ?_
      refine zi_iload_n 2 dX2_answers_90 rfl rfl ?_
      obtain ⟨σ37, h36, h⟩ := x_bE h
      refine zi_callV [.int a1, .int a2] mX2_removes rfl q2744 t_rec rfl rfl (Nat.le_of_ble_eq_true rfl) dX2_answers_91 ?_
      refine w_removes h36 ?_
      refine zi_return rfl dX2_answers_94 ?_
      exact x_r0 h hQ
noncomputable def D_ways_57 (f2_17 : Int32) (f3_18 : Int32) (f5_19 : Int32) (σ : t_S) (k135 : Int32 → Option (Int32 × t_S)) : Nat → Int32 → Int32 → Option (Int32 × t_S)
  | 0, _, _ => none
  | f + 1, v6_20, v7_21 =>
    x_b (D_routes σ) fun r25 =>
    if r25 ≤ v7_21 then (k135 v6_20) else
    x_l (fun (s27 : Int32) => if s27 = 0 then (x_l (v6_20 ||| (0 : Int32)) fun v29 =>
    x_l (v7_21 + (1 : Int32)) fun v30 =>
    D_ways_57 f2_17 f3_18 f5_19 σ k135 f v29 v30) else
    x_b (D_routeAt v7_21 (2 : Int32) σ) fun r32 =>
    x_l (v6_20 ||| ((1 : Int32) <<< (r32 &&& 31))) fun v33 =>
    x_l (v7_21 + (1 : Int32)) fun v34 =>
    D_ways_57 f2_17 f3_18 f5_19 σ k135 f v33 v34) fun J104 =>
    x_l (J104 (0 : Int32)) fun J103 =>
    if f5_19 ≤ 0 then (J103) else
    x_b (D_isRoute v7_21 f2_17 f3_18 f5_19 σ) fun r37 =>
    if r37 = 0 then (J103) else
    x_b (D_routeAt v7_21 (2 : Int32) σ) fun r40 =>
    x_b (D_isUp f2_17 r40 σ) fun r42 =>
    if r42 = 0 then (J103) else
    J104 (1 : Int32)
theorem w_ways_57 {f2_17 : Int32} {f3_18 : Int32} {f5_19 : Int32} {σ : t_S} {rz : Int32} {k135 : Int32 → Option (Int32 × t_S)} (hk135 : ∀ (v6_22 : Int32), k135 v6_22 = some (rz, σz) → z_V g (d + 4) YX2_ways 135 [(6, .int v6_22)] [] (t_m b σ μ) Q) (hQ : Q (.inl (some (.int rz))) (t_m b σz μ)) : ∀ (f : Nat) (v6_20 : Int32) (v7_21 : Int32), D_ways_57 f2_17 f3_18 f5_19 σ k135 f v6_20 v7_21 = some (rz, σz) → z_V g (d + 4) YX2_ways 57 [(0, .ref b), (2, .int f2_17), (3, .int f3_18), (5, .int f5_19), (6, .int v6_20), (7, .int v7_21)] [] (t_m b σ μ) Q := by
  intro f
  induction f with
  | zero =>
    intro v6_20 v7_21 h
    exact absurd h (x_n _)
  | succ f ih =>
    intro v6_20 v7_21 h
    refine zi_iload 5 dX2_ways_57 rfl ?_
    refine zi_aload_n 0 dX2_ways_59 rfl rfl ?_
    obtain ⟨r25, h24, h⟩ := x_bE h
    refine zi_callV [] mX2_routes rfl q2591 t_rec rfl rfl (Nat.le_of_ble_eq_true rfl) dX2_ways_60 ?_
    refine w_routes h24 ?_
    refine zi_icmp_ge 135 dX2_ways_63 (by decide) (fun c26 => ?_) (fun c26 => ?_)
    · replace h := x_iT h c26
      refine zi_sub [4] rfl ?_
      exact hk135 _ h
    · replace h := x_iF h c26
      refine zi_iload 3 dX2_ways_66 rfl ?_
      refine x_jI (fun (J : Int32 → Option (Int32 × t_S)) => ∀ (s27 : Int32), J s27 = some (rz, σz) → z_V g (d + 4) YX2_ways 104 [(0, .ref b), (2, .int f2_17), (3, .int f3_18), (5, .int f5_19), (6, .int v6_20), (7, .int v7_21)] [.int s27] (t_m b σ μ) Q) h (fun s27 h => ?_) (fun J104 hJ104 h => ?_)
      · refine zi_istore (lc1 := [(8, _), (0, _), (2, _), (3, _), (5, _), (6, _), (7, _)]) dX2_ways_104 (Nat.le_of_ble_eq_true rfl) rfl ?_
        refine zi_iload 5 dX2_ways_106 rfl ?_
        refine zi_iload 0 dX2_ways_108 rfl ?_
        refine zi_if_eq 125 dX2_ways_110 (by decide) (fun c28 => ?_) (fun c28 => ?_)
        · replace h := x_iT h c28
          refine zi_iconst (v := 0) dX2_ways_125 (by decide) ?_
          refine zi_ior dX2_ways_126 ?_
          refine zi_istore (lc1 := [(6, _), (8, _), (0, _), (2, _), (3, _), (5, _), (7, _)]) dX2_ways_127 (Nat.le_of_ble_eq_true rfl) rfl ?_
          refine x_lI (fun v29 => z_V g (d + 4) YX2_ways 129 [(6, .int v29), (8, .int s27), (0, .ref b), (2, .int f2_17), (3, .int f3_18), (5, .int f5_19), (7, .int v7_21)] [] (t_m b σ μ) Q) h (fun v29 h => ?_)
          refine zi_iinc (v := (v7_21 + (1 : Int32))) (lc1 := [(7, _), (6, _), (8, _), (0, _), (2, _), (3, _), (5, _)]) 6 dX2_ways_129 rfl rfl (Nat.le_of_ble_eq_true rfl) rfl ?_
          refine x_lI (fun v30 => z_V g (d + 4) YX2_ways 132 [(7, .int v30), (6, .int v29), (8, .int s27), (0, .ref b), (2, .int f2_17), (3, .int f3_18), (5, .int f5_19)] [] (t_m b σ μ) Q) h (fun v30 h => ?_)
          refine zi_goto 57 dX2_ways_132 (by decide) ?_
          refine zi_sub [3, 4, 5, 6, 1, 0] rfl ?_
          exact ih _ _ h
        · replace h := x_iF h c28
          refine zi_iconst (v := 1) dX2_ways_113 (by decide) ?_
          refine zi_aload_n 1 dX2_ways_114 rfl rfl ?_
          refine zi_iload 6 dX2_ways_115 rfl ?_
          refine zi_iconst (v := 2) dX2_ways_117 (by decide) ?_
          obtain ⟨r32, h31, h⟩ := x_bE h
          refine zi_callV [.int v7_21, .int (2 : Int32)] mX2_routeAt rfl q2595 t_rec rfl rfl (Nat.le_of_ble_eq_true rfl) dX2_ways_118 ?_
          refine w_routeAt h31 ?_
          refine zi_ishl dX2_ways_121 ?_
          refine zi_goto 126 dX2_ways_122 (by decide) ?_
          refine zi_ior dX2_ways_126 ?_
          refine zi_istore (lc1 := [(6, _), (8, _), (0, _), (2, _), (3, _), (5, _), (7, _)]) dX2_ways_127 (Nat.le_of_ble_eq_true rfl) rfl ?_
          refine x_lI (fun v33 => z_V g (d + 4) YX2_ways 129 [(6, .int v33), (8, .int s27), (0, .ref b), (2, .int f2_17), (3, .int f3_18), (5, .int f5_19), (7, .int v7_21)] [] (t_m b σ μ) Q) h (fun v33 h => ?_)
          refine zi_iinc (v := (v7_21 + (1 : Int32))) (lc1 := [(7, _), (6, _), (8, _), (0, _), (2, _), (3, _), (5, _)]) 6 dX2_ways_129 rfl rfl (Nat.le_of_ble_eq_true rfl) rfl ?_
          refine x_lI (fun v34 => z_V g (d + 4) YX2_ways 132 [(7, .int v34), (6, .int v33), (8, .int s27), (0, .ref b), (2, .int f2_17), (3, .int f3_18), (5, .int f5_19)] [] (t_m b σ μ) Q) h (fun v34 h => ?_)
          refine zi_goto 57 dX2_ways_132 (by decide) ?_
          refine zi_sub [3, 4, 5, 6, 1, 0] rfl ?_
          exact ih _ _ h
      refine x_jI (fun (J : Option (Int32 × t_S)) => J = some (rz, σz) → z_V g (d + 4) YX2_ways 103 [(0, .ref b), (2, .int f2_17), (3, .int f3_18), (5, .int f5_19), (6, .int v6_20), (7, .int v7_21)] [] (t_m b σ μ) Q) h (fun  h => ?_) (fun J103 hJ103 h => ?_)
      · refine zi_iconst (v := 0) dX2_ways_103 (by decide) ?_
        exact hJ104 _ h
      refine zi_if_le 103 dX2_ways_68 (by decide) (fun c35 => ?_) (fun c35 => ?_)
      · replace h := x_iT h c35
        exact hJ103  h
      · replace h := x_iF h c35
        refine zi_aload_n 0 dX2_ways_71 rfl rfl ?_
        refine zi_iload 5 dX2_ways_72 rfl ?_
        refine zi_iload_n 1 dX2_ways_74 rfl rfl ?_
        refine zi_iload_n 2 dX2_ways_75 rfl rfl ?_
        refine zi_iload 3 dX2_ways_76 rfl ?_
        obtain ⟨r37, h36, h⟩ := x_bE h
        refine zi_callV [.int v7_21, .int f2_17, .int f3_18, .int f5_19] mX2_isRoute rfl q2740 t_rec rfl rfl (Nat.le_of_ble_eq_true rfl) dX2_ways_78 ?_
        refine w_isRoute h36 ?_
        refine zi_if_eq 103 dX2_ways_81 (by decide) (fun c38 => ?_) (fun c38 => ?_)
        · replace h := x_iT h c38
          exact hJ103  h
        · replace h := x_iF h c38
          refine zi_aload_n 0 dX2_ways_84 rfl rfl ?_
          refine zi_iload_n 1 dX2_ways_85 rfl rfl ?_
          refine zi_aload_n 0 dX2_ways_86 rfl rfl ?_
          refine zi_iload 5 dX2_ways_87 rfl ?_
          refine zi_iconst (v := 2) dX2_ways_89 (by decide) ?_
          obtain ⟨r40, h39, h⟩ := x_bE h
          refine zi_callV [.int v7_21, .int (2 : Int32)] mX2_routeAt rfl q2595 t_rec rfl rfl (Nat.le_of_ble_eq_true rfl) dX2_ways_90 ?_
          refine w_routeAt h39 ?_
          obtain ⟨r42, h41, h⟩ := x_bE h
          refine zi_callV [.int f2_17, .int r40] mX2_isUp rfl q2678 t_rec rfl rfl (Nat.le_of_ble_eq_true rfl) dX2_ways_93 ?_
          refine w_isUp h41 ?_
          refine zi_if_eq 103 dX2_ways_96 (by decide) (fun c43 => ?_) (fun c43 => ?_)
          · replace h := x_iT h c43
            exact hJ103  h
          · replace h := x_iF h c43
            refine zi_iconst (v := 1) dX2_ways_99 (by decide) ?_
            refine zi_goto 104 dX2_ways_100 (by decide) ?_
            exact hJ104 _ h
noncomputable def D_ways (a1 : Int32) (a2 : Int32) (a3 : Int32) (a4 : Int32) (σ : t_S) : Option (Int32 × t_S) :=
  x_l (t_si σ 0 (0 : Int32)) fun σ1 =>
  x_b2 (D_hasNet a1 σ1) fun r3 σ4 =>
  if r3 = 0 then (some ((-1 : Int32), σ4)) else
  x_b (D_isNode a2 σ4) fun r7 =>
  if r7 = 0 then (some ((-1 : Int32), σ4)) else
  x_b (D_isName a3) fun r10 =>
  if r10 = 0 then (some ((-1 : Int32), σ4)) else
  x_b (D_begin (-1 : Int32) σ4) fun σ13 =>
  x_b (D_longestAt a2 a3 σ13) fun r15 =>
  if a4 = 0 then (D_ways_57 a2 a3 r15 σ13
    (fun (v6_44 : Int32) => some (v6_44, σ13))
    x_F (0 : Int32) (0 : Int32)) else
  some (r15, σ13)
theorem w_ways {a1 : Int32} {a2 : Int32} {a3 : Int32} {a4 : Int32} {rz : Int32} (h : D_ways a1 a2 a3 a4 σ = some (rz, σz)) (hQ : Q (.inl (some (.int rz))) (t_m b σz μ)) : z_K g (d + 4) YX2_ways [.ref b, .int a1, .int a2, .int a3, .int a4] (t_m b σ μ) Q := by
  unfold D_ways at h
  refine z_K.of (by decide) rfl (Nat.le_of_ble_eq_true rfl) ?_
  refine zi_aload_n 0 dX2_ways_0 rfl rfl ?_
  refine zi_iconst (v := 0) dX2_ways_1 (by decide) ?_
  refine ti_putI 0 ⟨Nat.le_of_ble_eq_true rfl, rfl, rfl⟩ (tyX2_ok 0 (Nat.le_of_ble_eq_true rfl)) q2170 dX2_ways_2 ?_
  refine x_lI (fun σ1 => z_V g (d + 4) YX2_ways 5 [(0, .ref b), (1, .int a1), (2, .int a2), (3, .int a3), (4, .int a4)] [] (t_m b σ1 μ) Q) h (fun σ1 h => ?_)
  refine zi_aload_n 0 dX2_ways_5 rfl rfl ?_
  refine zi_iload_n 1 dX2_ways_6 rfl rfl ?_
  obtain ⟨r3, σ4, h2, h⟩ := x_b2E h
  refine zi_callV [.int a1] mX2_hasNet rfl q2563 t_rec rfl rfl (Nat.le_of_ble_eq_true rfl) dX2_ways_7 ?_
  refine w_hasNet h2 ?_
  refine zi_if_eq 28 dX2_ways_10 (by decide) (fun c5 => ?_) (fun c5 => ?_)
  · replace h := x_iT h c5
    refine zi_iconst (v := -1) dX2_ways_28 (by decide) ?_
    refine zi_ireturn rfl rfl dX2_ways_29 ?_
    exact x_r2i h hQ
  · replace h := x_iF h c5
    refine zi_aload_n 0 dX2_ways_13 rfl rfl ?_
    refine zi_iload_n 2 dX2_ways_14 rfl rfl ?_
    obtain ⟨r7, h6, h⟩ := x_bE h
    refine zi_callV [.int a2] mX2_isNode rfl q2571 t_rec rfl rfl (Nat.le_of_ble_eq_true rfl) dX2_ways_15 ?_
    refine w_isNode h6 ?_
    refine zi_if_eq 28 dX2_ways_18 (by decide) (fun c8 => ?_) (fun c8 => ?_)
    · replace h := x_iT h c8
      refine zi_iconst (v := -1) dX2_ways_28 (by decide) ?_
      refine zi_ireturn rfl rfl dX2_ways_29 ?_
      exact x_r2i h hQ
    · replace h := x_iF h c8
      refine zi_iload_n 3 dX2_ways_21 rfl rfl ?_
      obtain ⟨r10, h9, h⟩ := x_bE h
      refine zi_callS [.int a3] mX2_isName rfl q2830 rfl rfl (Nat.le_of_ble_eq_true rfl) dX2_ways_22 ?_
      refine w_isName h9 ?_
      refine zi_if_ne 30 dX2_ways_25 (by decide) (fun c11 => ?_) (fun c11 => ?_)
      · replace h := x_iF h c11
        refine zi_aload_n 0 dX2_ways_30 rfl rfl ?_
        refine zi_iconst (v := -1) dX2_ways_31 (by decide) ?_
        obtain ⟨σ13, h12, h⟩ := x_bE h
        refine zi_callV [.int (-1 : Int32)] mX2_begin rfl q2631 t_rec rfl rfl (Nat.le_of_ble_eq_true rfl) dX2_ways_32 ?_
        refine w_begin h12 ?_
        refine zi_aload_n 0 dX2_ways_35 rfl rfl ?_
        refine zi_iload_n 2 dX2_ways_36 rfl rfl ?_
        refine zi_iload_n 3 dX2_ways_37 rfl rfl ?_
        obtain ⟨r15, h14, h⟩ := x_bE h
        refine zi_callV [.int a2, .int a3] mX2_longestAt rfl q2735 t_rec rfl rfl (Nat.le_of_ble_eq_true rfl) dX2_ways_38 ?_
        refine w_longestAt h14 ?_
        refine zi_istore (lc1 := [(5, _), (0, _), (1, _), (2, _), (3, _), (4, _)]) dX2_ways_41 (Nat.le_of_ble_eq_true rfl) rfl ?_
        refine zi_iload 5 dX2_ways_43 rfl ?_
        refine zi_if_eq 51 dX2_ways_45 (by decide) (fun c16 => ?_) (fun c16 => ?_)
        · replace h := x_iT h c16
          refine zi_iconst (v := 0) dX2_ways_51 (by decide) ?_
          refine zi_istore (lc1 := [(6, _), (5, _), (0, _), (1, _), (2, _), (3, _), (4, _)]) dX2_ways_52 (Nat.le_of_ble_eq_true rfl) rfl ?_
          refine zi_iconst (v := 0) dX2_ways_54 (by decide) ?_
          refine zi_istore (lc1 := [(7, _), (6, _), (5, _), (0, _), (1, _), (2, _), (3, _), (4, _)]) dX2_ways_55 (Nat.le_of_ble_eq_true rfl) rfl ?_
          refine zi_sub [3, 5, 6, 2, 1, 0] rfl ?_
          refine w_ways_57 (fun v6_44 h => ?_) hQ _ _ _ h
          · refine zi_iload 0 dX2_ways_135 rfl ?_
            refine zi_ireturn rfl rfl dX2_ways_137 ?_
            exact x_r2i h hQ
        · replace h := x_iF h c16
          refine zi_iload 0 dX2_ways_48 rfl ?_
          refine zi_ireturn rfl rfl dX2_ways_50 ?_
          exact x_r2i h hQ
      · replace h := x_iT h c11
        refine zi_iconst (v := -1) dX2_ways_28 (by decide) ?_
        refine zi_ireturn rfl rfl dX2_ways_29 ?_
        exact x_r2i h hQ
noncomputable def D_walks_13 (f2_2 : Int32) (k94 : t_S → Option (Int32 × t_S)) : Nat → Int32 → Int32 → Int32 → t_S → Option (Int32 × t_S)
  | 0, _, _, _, _ => none
  | f + 1, v3_3, v4_4, v5_5, σ6 =>
    x_ga (t_i σ6 79) 8 fun j8 =>
    x_l (t_sa σ6 78 j8 v5_5) fun σ9 =>
    x_l (t_si σ9 79 ((t_i σ9 79) + (1 : Int32))) fun σ10 =>
    x_b (D_has v3_3 v5_5) fun r12 =>
    if r12 = 0 then (x_l (v3_3 ||| ((1 : Int32) <<< (v5_5 &&& 31))) fun v14 =>
    x_b (D_serveFor v5_5 f2_2 σ10) fun r16 =>
    if r16 = (-1 : Int32) then (x_l (fun (s18 : Int32) (s19 : Int32) (s20 : Int32) => x_b (D_nextWay s18 s19 s20 σ10) fun r22 =>
    if r22 = (-1 : Int32) then (k94 σ10) else
    D_walks_13 f2_2 k94 f v14 v5_5 r22 σ10) fun J83 =>
    if v4_4 = (-1 : Int32) then (J83 v5_5 f2_2 (0 : Int32)) else
    J83 v5_5 f2_2 ((1 : Int32) <<< (v4_4 &&& 31))) else
    some ((1 : Int32), σ10)) else
    some ((3 : Int32), σ10)
theorem w_walks_13 {f2_2 : Int32} {rz : Int32} {k94 : t_S → Option (Int32 × t_S)} (hk94 : ∀ (σ7 : t_S), k94 σ7 = some (rz, σz) → z_V g (d + 4) YX2_walks 94 [] [] (t_m b σ7 μ) Q) (hQ : Q (.inl (some (.int rz))) (t_m b σz μ)) : ∀ (f : Nat) (v3_3 : Int32) (v4_4 : Int32) (v5_5 : Int32) (σ6 : t_S), D_walks_13 f2_2 k94 f v3_3 v4_4 v5_5 σ6 = some (rz, σz) → z_V g (d + 4) YX2_walks 13 [(0, .ref b), (2, .int f2_2), (3, .int v3_3), (4, .int v4_4), (5, .int v5_5)] [] (t_m b σ6 μ) Q := by
  intro f
  induction f with
  | zero =>
    intro v3_3 v4_4 v5_5 σ6 h
    exact absurd h (x_n _)
  | succ f ih =>
    intro v3_3 v4_4 v5_5 σ6 h
    refine zi_aload_n 0 dX2_walks_13 rfl rfl ?_
    refine ti_getA 78 49 t_o78 q2248 dX2_walks_14 ?_
    refine zi_aload_n 0 dX2_walks_17 rfl rfl ?_
    refine ti_getI 79 ⟨Nat.le_of_ble_eq_true rfl, rfl⟩ q2249 dX2_walks_18 ?_
    refine zi_iload 4 dX2_walks_21 rfl ?_
    obtain ⟨j8, hj8, h⟩ := x_gaE h
    refine ti_iast 78 j8 8 48 ⟨rfl, rfl⟩ hj8 dX2_walks_23 ?_
    refine x_lI (fun σ9 => z_V g (d + 4) YX2_walks 24 [(0, .ref b), (2, .int f2_2), (3, .int v3_3), (4, .int v4_4), (5, .int v5_5)] [] (t_m b σ9 μ) Q) h (fun σ9 h => ?_)
    refine zi_aload_n 0 dX2_walks_24 rfl rfl ?_
    refine zi_dup dX2_walks_25 rfl ?_
    refine ti_getI 79 ⟨Nat.le_of_ble_eq_true rfl, rfl⟩ q2249 dX2_walks_26 ?_
    refine zi_iconst (v := 1) dX2_walks_29 (by decide) ?_
    refine zi_iadd dX2_walks_30 ?_
    refine ti_putI 79 ⟨Nat.le_of_ble_eq_true rfl, rfl, rfl⟩ (tyX2_ok 79 (Nat.le_of_ble_eq_true rfl)) q2249 dX2_walks_31 ?_
    refine x_lI (fun σ10 => z_V g (d + 4) YX2_walks 34 [(0, .ref b), (2, .int f2_2), (3, .int v3_3), (4, .int v4_4), (5, .int v5_5)] [] (t_m b σ10 μ) Q) h (fun σ10 h => ?_)
    refine zi_iload_n 2 dX2_walks_34 rfl rfl ?_
    refine zi_iload 4 dX2_walks_35 rfl ?_
    obtain ⟨r12, h11, h⟩ := x_bE h
    refine zi_callS [.int v3_3, .int v5_5] mX2_has rfl q2682 rfl rfl (Nat.le_of_ble_eq_true rfl) dX2_walks_37 ?_
    refine w_has h11 ?_
    refine zi_if_eq 45 dX2_walks_40 (by decide) (fun c13 => ?_) (fun c13 => ?_)
    · replace h := x_iT h c13
      refine zi_iload_n 2 dX2_walks_45 rfl rfl ?_
      refine zi_iconst (v := 1) dX2_walks_46 (by decide) ?_
      refine zi_iload 4 dX2_walks_47 rfl ?_
      refine zi_ishl dX2_walks_49 ?_
      refine zi_ior dX2_walks_50 ?_
      refine zi_istore_n (lc1 := [(3, _), (0, _), (2, _), (4, _), (5, _)]) dX2_walks_51 rfl (Nat.le_of_ble_eq_true rfl) rfl ?_
      refine x_lI (fun v14 => z_V g (d + 4) YX2_walks 52 [(3, .int v14), (0, .ref b), (2, .int f2_2), (4, .int v4_4), (5, .int v5_5)] [] (t_m b σ10 μ) Q) h (fun v14 h => ?_)
      refine zi_aload_n 1 dX2_walks_52 rfl rfl ?_
      refine zi_iload 4 dX2_walks_53 rfl ?_
      refine zi_iload_n 2 dX2_walks_55 rfl rfl ?_
      obtain ⟨r16, h15, h⟩ := x_bE h
      refine zi_callV [.int v5_5, .int f2_2] mX2_serveFor rfl q2705 t_rec rfl rfl (Nat.le_of_ble_eq_true rfl) dX2_walks_56 ?_
      refine w_serveFor h15 ?_
      refine zi_iconst (v := -1) dX2_walks_59 (by decide) ?_
      refine zi_icmp_eq 65 dX2_walks_60 (by decide) (fun c17 => ?_) (fun c17 => ?_)
      · replace h := x_iT h c17
        refine zi_aload_n 1 dX2_walks_65 rfl rfl ?_
        refine zi_iload 4 dX2_walks_66 rfl ?_
        refine zi_iload_n 2 dX2_walks_68 rfl rfl ?_
        refine zi_iload 3 dX2_walks_69 rfl ?_
        refine zi_iconst (v := -1) dX2_walks_71 (by decide) ?_
        refine x_jI (fun (J : Int32 → Int32 → Int32 → Option (Int32 × t_S)) => ∀ (s18 : Int32) (s19 : Int32) (s20 : Int32), J s18 s19 s20 = some (rz, σz) → z_V g (d + 4) YX2_walks 83 [(0, .ref b), (2, .int f2_2), (3, .int v14), (5, .int v5_5)] [.int s20, .int s19, .int s18, .ref b] (t_m b σ10 μ) Q) h (fun s18 s19 s20 h => ?_) (fun J83 hJ83 h => ?_)
        · obtain ⟨r22, h21, h⟩ := x_bE h
          refine zi_callV [.int s18, .int s19, .int s20] mX2_nextWay rfl q2731 t_rec rfl rfl (Nat.le_of_ble_eq_true rfl) dX2_walks_83 ?_
          refine w_nextWay h21 ?_
          refine zi_istore (lc1 := [(6, _), (0, _), (2, _), (3, _), (5, _)]) dX2_walks_86 (Nat.le_of_ble_eq_true rfl) rfl ?_
          refine zi_iload 0 dX2_walks_88 rfl ?_
          refine zi_iconst (v := -1) dX2_walks_90 (by decide) ?_
          refine zi_icmp_ne 96 dX2_walks_91 (by decide) (fun c23 => ?_) (fun c23 => ?_)
          · replace h := x_iF h c23
            refine zi_iload 4 dX2_walks_96 rfl ?_
            refine zi_istore (lc1 := [(4, _), (6, _), (0, _), (2, _), (3, _), (5, _)]) dX2_walks_98 (Nat.le_of_ble_eq_true rfl) rfl ?_
            refine zi_iload 1 dX2_walks_100 rfl ?_
            refine zi_istore (lc1 := [(5, _), (4, _), (6, _), (0, _), (2, _), (3, _)]) dX2_walks_102 (Nat.le_of_ble_eq_true rfl) rfl ?_
            refine zi_goto 13 dX2_walks_104 (by decide) ?_
            refine zi_sub [3, 4, 5, 1, 0] rfl ?_
            exact ih _ _ _ _ h
          · replace h := x_iT h c23
            refine zi_sub [] rfl ?_
            exact hk94 _ h
        refine zi_icmp_ne 79 dX2_walks_72 (by decide) (fun c24 => ?_) (fun c24 => ?_)
        · replace h := x_iF h c24
          refine zi_iconst (v := 1) dX2_walks_79 (by decide) ?_
          refine zi_iload 3 dX2_walks_80 rfl ?_
          refine zi_ishl dX2_walks_82 ?_
          refine zi_sub [1, 2, 0, 4] rfl ?_
          exact hJ83 _ _ _ h
        · replace h := x_iT h c24
          refine zi_iconst (v := 0) dX2_walks_75 (by decide) ?_
          refine zi_goto 83 dX2_walks_76 (by decide) ?_
          refine zi_sub [1, 2, 0, 4] rfl ?_
          exact hJ83 _ _ _ h
      · replace h := x_iF h c17
        refine zi_iconst (v := 1) dX2_walks_63 (by decide) ?_
        refine zi_ireturn rfl rfl dX2_walks_64 ?_
        exact x_r2i h hQ
    · replace h := x_iF h c13
      refine zi_iconst (v := 3) dX2_walks_43 (by decide) ?_
      refine zi_ireturn rfl rfl dX2_walks_44 ?_
      exact x_r2i h hQ
noncomputable def D_walks (a1 : Int32) (a2 : Int32) (σ : t_S) : Option (Int32 × t_S) :=
  x_l (t_si σ 79 (0 : Int32)) fun σ1 =>
  D_walks_13 a2
    (fun (σ25 : t_S) => some ((2 : Int32), σ25))
    x_F (0 : Int32) (-1 : Int32) a1 σ1
theorem w_walks {a1 : Int32} {a2 : Int32} {rz : Int32} (h : D_walks a1 a2 σ = some (rz, σz)) (hQ : Q (.inl (some (.int rz))) (t_m b σz μ)) : z_K g (d + 4) YX2_walks [.ref b, .int a1, .int a2] (t_m b σ μ) Q := by
  unfold D_walks at h
  refine z_K.of (by decide) rfl (Nat.le_of_ble_eq_true rfl) ?_
  refine zi_aload_n 0 dX2_walks_0 rfl rfl ?_
  refine zi_iconst (v := 0) dX2_walks_1 (by decide) ?_
  refine ti_putI 79 ⟨Nat.le_of_ble_eq_true rfl, rfl, rfl⟩ (tyX2_ok 79 (Nat.le_of_ble_eq_true rfl)) q2249 dX2_walks_2 ?_
  refine x_lI (fun σ1 => z_V g (d + 4) YX2_walks 5 [(0, .ref b), (1, .int a1), (2, .int a2)] [] (t_m b σ1 μ) Q) h (fun σ1 h => ?_)
  refine zi_iconst (v := 0) dX2_walks_5 (by decide) ?_
  refine zi_istore_n (lc1 := [(3, _), (0, _), (1, _), (2, _)]) dX2_walks_6 rfl (Nat.le_of_ble_eq_true rfl) rfl ?_
  refine zi_iconst (v := -1) dX2_walks_7 (by decide) ?_
  refine zi_istore (lc1 := [(4, _), (3, _), (0, _), (1, _), (2, _)]) dX2_walks_8 (Nat.le_of_ble_eq_true rfl) rfl ?_
  refine zi_iload_n 3 dX2_walks_10 rfl rfl ?_
  refine zi_istore (lc1 := [(5, _), (4, _), (3, _), (0, _), (1, _), (2, _)]) dX2_walks_11 (Nat.le_of_ble_eq_true rfl) rfl ?_
  refine zi_sub [3, 5, 2, 1, 0] rfl ?_
  refine w_walks_13 (fun σ25 h => ?_) hQ _ _ _ _ _ h
  · refine zi_iconst (v := 2) dX2_walks_94 (by decide) ?_
    refine zi_ireturn rfl rfl dX2_walks_95 ?_
    exact x_r2i h hQ
noncomputable def D_edges_34 (f2_11 : Int32) (σ : t_S) (k215 : Int32 → Option (Int32 × t_S)) : Nat → Int32 → Int32 → Option (Int32 × t_S)
  | 0, _, _ => none
  | f + 1, v3_12, v4_13 =>
    if (12 : Int32) ≤ v4_13 then (k215 v3_12) else
    x_l (fun (s17 : Int32) => if s17 = 0 then (x_l (v3_12 ||| (0 : Int32)) fun v19 =>
    x_l (v4_13 + (1 : Int32)) fun v20 =>
    D_edges_34 f2_11 σ k215 f v19 v20) else
    x_l (fun (s21 : Int32) (s22 : Int32) (s23 : Int32) => x_l (s21 ||| (s22 <<< (s23 &&& 31))) fun v24 =>
    x_l (v4_13 + (1 : Int32)) fun v25 =>
    D_edges_34 f2_11 σ k215 f v24 v25) fun J202 =>
    if f2_11 = 0 then (x_b (D_serveAt v4_13 (0 : Int32) σ) fun r28 =>
    J202 v3_12 (1 : Int32) r28) else
    J202 v3_12 (1 : Int32) v4_13) fun J177 =>
    if f2_11 = 0 then (x_b (D_serves σ) fun r59 =>
    if r59 ≤ v4_13 then (J177 (0 : Int32)) else
    J177 (1 : Int32)) else
    if f2_11 = (1 : Int32) then (x_b (D_isNode v4_13 σ) fun r53 =>
    x_l (J177 (0 : Int32)) fun J90 =>
    if r53 = 0 then (J90) else
    x_b (D_linksAt v4_13 σ) fun r56 =>
    if r56 = (1 : Int32) then (J177 (1 : Int32)) else
    J90) else
    if f2_11 = (4 : Int32) then (x_b (D_serves σ) fun r47 =>
    x_l (J177 (0 : Int32)) fun J121 =>
    if r47 ≤ v4_13 then (J121) else
    x_b (D_isServed v4_13 σ) fun r50 =>
    if r50 = 0 then (J121) else
    J177 (1 : Int32)) else
    x_b (D_routes σ) fun r33 =>
    x_l (J177 (0 : Int32)) fun J176 =>
    if r33 ≤ v4_13 then (J176) else
    x_l (J177 (1 : Int32)) fun J172 =>
    if f2_11 = (2 : Int32) then (x_b (D_routeAt v4_13 (0 : Int32) σ) fun r40 =>
    x_b (D_routeAt v4_13 (2 : Int32) σ) fun r42 =>
    x_b (D_isUp r40 r42 σ) fun r44 =>
    if r44 = 0 then (J172) else
    J176) else
    x_b (D_isHidden v4_13 σ) fun r37 =>
    if r37 = 0 then (J176) else
    J172
theorem w_edges_34 {f2_11 : Int32} {σ : t_S} {rz : Int32} {k215 : Int32 → Option (Int32 × t_S)} (hk215 : ∀ (v3_14 : Int32), k215 v3_14 = some (rz, σz) → z_V g (d + 4) YX2_edges 215 [(3, .int v3_14)] [] (t_m b σ μ) Q) (hQ : Q (.inl (some (.int rz))) (t_m b σz μ)) : ∀ (f : Nat) (v3_12 : Int32) (v4_13 : Int32), D_edges_34 f2_11 σ k215 f v3_12 v4_13 = some (rz, σz) → z_V g (d + 4) YX2_edges 34 [(0, .ref b), (2, .int f2_11), (3, .int v3_12), (4, .int v4_13)] [] (t_m b σ μ) Q := by
  intro f
  induction f with
  | zero =>
    intro v3_12 v4_13 h
    exact absurd h (x_n _)
  | succ f ih =>
    intro v3_12 v4_13 h
    refine zi_iload 3 dX2_edges_34 rfl ?_
    refine zi_bipush (v := 12) dX2_edges_36 (by decide) ?_
    refine zi_icmp_ge 215 dX2_edges_38 (by decide) (fun c16 => ?_) (fun c16 => ?_)
    · replace h := x_iT h c16
      refine zi_sub [2] rfl ?_
      exact hk215 _ h
    · replace h := x_iF h c16
      refine zi_iload_n 1 dX2_edges_41 rfl rfl ?_
      refine x_jI (fun (J : Int32 → Option (Int32 × t_S)) => ∀ (s17 : Int32), J s17 = some (rz, σz) → z_V g (d + 4) YX2_edges 177 [(0, .ref b), (2, .int f2_11), (3, .int v3_12), (4, .int v4_13)] [.int s17] (t_m b σ μ) Q) h (fun s17 h => ?_) (fun J177 hJ177 h => ?_)
      · refine zi_istore (lc1 := [(5, _), (0, _), (2, _), (3, _), (4, _)]) dX2_edges_177 (Nat.le_of_ble_eq_true rfl) rfl ?_
        refine zi_iload_n 3 dX2_edges_179 rfl rfl ?_
        refine zi_iload 0 dX2_edges_180 rfl ?_
        refine zi_if_eq 206 dX2_edges_182 (by decide) (fun c18 => ?_) (fun c18 => ?_)
        · replace h := x_iT h c18
          refine zi_iconst (v := 0) dX2_edges_206 (by decide) ?_
          refine zi_ior dX2_edges_207 ?_
          refine zi_istore_n (lc1 := [(3, _), (5, _), (0, _), (2, _), (4, _)]) dX2_edges_208 rfl (Nat.le_of_ble_eq_true rfl) rfl ?_
          refine x_lI (fun v19 => z_V g (d + 4) YX2_edges 209 [(3, .int v19), (5, .int s17), (0, .ref b), (2, .int f2_11), (4, .int v4_13)] [] (t_m b σ μ) Q) h (fun v19 h => ?_)
          refine zi_iinc (v := (v4_13 + (1 : Int32))) (lc1 := [(4, _), (3, _), (5, _), (0, _), (2, _)]) 4 dX2_edges_209 rfl rfl (Nat.le_of_ble_eq_true rfl) rfl ?_
          refine x_lI (fun v20 => z_V g (d + 4) YX2_edges 212 [(4, .int v20), (3, .int v19), (5, .int s17), (0, .ref b), (2, .int f2_11)] [] (t_m b σ μ) Q) h (fun v20 h => ?_)
          refine zi_goto 34 dX2_edges_212 (by decide) ?_
          refine zi_sub [3, 4, 1, 0] rfl ?_
          exact ih _ _ h
        · replace h := x_iF h c18
          refine zi_iconst (v := 1) dX2_edges_185 (by decide) ?_
          refine zi_iload_n 2 dX2_edges_186 rfl rfl ?_
          refine x_jI (fun (J : Int32 → Int32 → Int32 → Option (Int32 × t_S)) => ∀ (s21 : Int32) (s22 : Int32) (s23 : Int32), J s21 s22 s23 = some (rz, σz) → z_V g (d + 4) YX2_edges 202 [(0, .ref b), (2, .int f2_11), (4, .int v4_13)] [.int s23, .int s22, .int s21] (t_m b σ μ) Q) h (fun s21 s22 s23 h => ?_) (fun J202 hJ202 h => ?_)
          · refine zi_ishl dX2_edges_202 ?_
            refine zi_goto 207 dX2_edges_203 (by decide) ?_
            refine zi_ior dX2_edges_207 ?_
            refine zi_istore_n (lc1 := [(3, _), (0, _), (2, _), (4, _)]) dX2_edges_208 rfl (Nat.le_of_ble_eq_true rfl) rfl ?_
            refine x_lI (fun v24 => z_V g (d + 4) YX2_edges 209 [(3, .int v24), (0, .ref b), (2, .int f2_11), (4, .int v4_13)] [] (t_m b σ μ) Q) h (fun v24 h => ?_)
            refine zi_iinc (v := (v4_13 + (1 : Int32))) (lc1 := [(4, _), (3, _), (0, _), (2, _)]) 3 dX2_edges_209 rfl rfl (Nat.le_of_ble_eq_true rfl) rfl ?_
            refine x_lI (fun v25 => z_V g (d + 4) YX2_edges 212 [(4, .int v25), (3, .int v24), (0, .ref b), (2, .int f2_11)] [] (t_m b σ μ) Q) h (fun v25 h => ?_)
            refine zi_goto 34 dX2_edges_212 (by decide) ?_
            refine zi_sub [2, 3, 1, 0] rfl ?_
            exact ih _ _ h
          refine zi_if_ne 200 dX2_edges_187 (by decide) (fun c26 => ?_) (fun c26 => ?_)
          · replace h := x_iF h c26
            refine zi_iload 4 dX2_edges_200 rfl ?_
            refine zi_sub [1, 2, 4] rfl ?_
            exact hJ202 _ _ _ h
          · replace h := x_iT h c26
            refine zi_aload_n 1 dX2_edges_190 rfl rfl ?_
            refine zi_iload 4 dX2_edges_191 rfl ?_
            refine zi_iconst (v := 0) dX2_edges_193 (by decide) ?_
            obtain ⟨r28, h27, h⟩ := x_bE h
            refine zi_callV [.int v4_13, .int (0 : Int32)] mX2_serveAt rfl q2603 t_rec rfl rfl (Nat.le_of_ble_eq_true rfl) dX2_edges_194 ?_
            refine w_serveAt h27 ?_
            refine zi_goto 202 dX2_edges_197 (by decide) ?_
            refine zi_sub [1, 2, 4] rfl ?_
            exact hJ202 _ _ _ h
      refine zi_if_ne 62 dX2_edges_42 (by decide) (fun c29 => ?_) (fun c29 => ?_)
      · replace h := x_iF h c29
        refine zi_iload_n 1 dX2_edges_62 rfl rfl ?_
        refine zi_iconst (v := 1) dX2_edges_63 (by decide) ?_
        refine zi_icmp_ne 94 dX2_edges_64 (by decide) (fun c30 => ?_) (fun c30 => ?_)
        · replace h := x_iF h c30
          refine zi_iload_n 1 dX2_edges_94 rfl rfl ?_
          refine zi_iconst (v := 4) dX2_edges_95 (by decide) ?_
          refine zi_icmp_ne 125 dX2_edges_96 (by decide) (fun c31 => ?_) (fun c31 => ?_)
          · replace h := x_iF h c31
            refine zi_iload 3 dX2_edges_125 rfl ?_
            refine zi_aload_n 0 dX2_edges_127 rfl rfl ?_
            obtain ⟨r33, h32, h⟩ := x_bE h
            refine zi_callV [] mX2_routes rfl q2591 t_rec rfl rfl (Nat.le_of_ble_eq_true rfl) dX2_edges_128 ?_
            refine w_routes h32 ?_
            refine x_jI (fun (J : Option (Int32 × t_S)) => J = some (rz, σz) → z_V g (d + 4) YX2_edges 176 [(0, .ref b), (2, .int f2_11), (3, .int v3_12), (4, .int v4_13)] [] (t_m b σ μ) Q) h (fun  h => ?_) (fun J176 hJ176 h => ?_)
            · refine zi_iconst (v := 0) dX2_edges_176 (by decide) ?_
              exact hJ177 _ h
            refine zi_icmp_ge 176 dX2_edges_131 (by decide) (fun c34 => ?_) (fun c34 => ?_)
            · replace h := x_iT h c34
              exact hJ176  h
            · replace h := x_iF h c34
              refine zi_iload_n 1 dX2_edges_134 rfl rfl ?_
              refine zi_iconst (v := 2) dX2_edges_135 (by decide) ?_
              refine x_jI (fun (J : Option (Int32 × t_S)) => J = some (rz, σz) → z_V g (d + 4) YX2_edges 172 [(0, .ref b), (2, .int f2_11), (3, .int v3_12), (4, .int v4_13)] [] (t_m b σ μ) Q) h (fun  h => ?_) (fun J172 hJ172 h => ?_)
              · refine zi_iconst (v := 1) dX2_edges_172 (by decide) ?_
                refine zi_goto 177 dX2_edges_173 (by decide) ?_
                exact hJ177 _ h
              refine zi_icmp_ne 163 dX2_edges_136 (by decide) (fun c35 => ?_) (fun c35 => ?_)
              · replace h := x_iF h c35
                refine zi_aload_n 0 dX2_edges_163 rfl rfl ?_
                refine zi_iload 3 dX2_edges_164 rfl ?_
                obtain ⟨r37, h36, h⟩ := x_bE h
                refine zi_callV [.int v4_13] mX2_isHidden rfl q2925 t_rec rfl rfl (Nat.le_of_ble_eq_true rfl) dX2_edges_166 ?_
                refine w_isHidden h36 ?_
                refine zi_if_eq 176 dX2_edges_169 (by decide) (fun c38 => ?_) (fun c38 => ?_)
                · replace h := x_iT h c38
                  exact hJ176  h
                · replace h := x_iF h c38
                  exact hJ172  h
              · replace h := x_iT h c35
                refine zi_aload_n 0 dX2_edges_139 rfl rfl ?_
                refine zi_aload_n 0 dX2_edges_140 rfl rfl ?_
                refine zi_iload 3 dX2_edges_141 rfl ?_
                refine zi_iconst (v := 0) dX2_edges_143 (by decide) ?_
                obtain ⟨r40, h39, h⟩ := x_bE h
                refine zi_callV [.int v4_13, .int (0 : Int32)] mX2_routeAt rfl q2595 t_rec rfl rfl (Nat.le_of_ble_eq_true rfl) dX2_edges_144 ?_
                refine w_routeAt h39 ?_
                refine zi_aload_n 0 dX2_edges_147 rfl rfl ?_
                refine zi_iload 3 dX2_edges_148 rfl ?_
                refine zi_iconst (v := 2) dX2_edges_150 (by decide) ?_
                obtain ⟨r42, h41, h⟩ := x_bE h
                refine zi_callV [.int v4_13, .int (2 : Int32)] mX2_routeAt rfl q2595 t_rec rfl rfl (Nat.le_of_ble_eq_true rfl) dX2_edges_151 ?_
                refine w_routeAt h41 ?_
                obtain ⟨r44, h43, h⟩ := x_bE h
                refine zi_callV [.int r40, .int r42] mX2_isUp rfl q2678 t_rec rfl rfl (Nat.le_of_ble_eq_true rfl) dX2_edges_154 ?_
                refine w_isUp h43 ?_
                refine zi_if_ne 176 dX2_edges_157 (by decide) (fun c45 => ?_) (fun c45 => ?_)
                · replace h := x_iF h c45
                  exact hJ176  h
                · replace h := x_iT h c45
                  refine zi_goto 172 dX2_edges_160 (by decide) ?_
                  exact hJ172  h
          · replace h := x_iT h c31
            refine zi_iload 3 dX2_edges_99 rfl ?_
            refine zi_aload_n 0 dX2_edges_101 rfl rfl ?_
            obtain ⟨r47, h46, h⟩ := x_bE h
            refine zi_callV [] mX2_serves rfl q2599 t_rec rfl rfl (Nat.le_of_ble_eq_true rfl) dX2_edges_102 ?_
            refine w_serves h46 ?_
            refine x_jI (fun (J : Option (Int32 × t_S)) => J = some (rz, σz) → z_V g (d + 4) YX2_edges 121 [(0, .ref b), (2, .int f2_11), (3, .int v3_12), (4, .int v4_13)] [] (t_m b σ μ) Q) h (fun  h => ?_) (fun J121 hJ121 h => ?_)
            · refine zi_iconst (v := 0) dX2_edges_121 (by decide) ?_
              refine zi_goto 177 dX2_edges_122 (by decide) ?_
              exact hJ177 _ h
            refine zi_icmp_ge 121 dX2_edges_105 (by decide) (fun c48 => ?_) (fun c48 => ?_)
            · replace h := x_iT h c48
              exact hJ121  h
            · replace h := x_iF h c48
              refine zi_aload_n 0 dX2_edges_108 rfl rfl ?_
              refine zi_iload 3 dX2_edges_109 rfl ?_
              obtain ⟨r50, h49, h⟩ := x_bE h
              refine zi_callV [.int v4_13] mX2_isServed rfl q2921 t_rec rfl rfl (Nat.le_of_ble_eq_true rfl) dX2_edges_111 ?_
              refine w_isServed h49 ?_
              refine zi_if_eq 121 dX2_edges_114 (by decide) (fun c51 => ?_) (fun c51 => ?_)
              · replace h := x_iT h c51
                exact hJ121  h
              · replace h := x_iF h c51
                refine zi_iconst (v := 1) dX2_edges_117 (by decide) ?_
                refine zi_goto 177 dX2_edges_118 (by decide) ?_
                exact hJ177 _ h
        · replace h := x_iT h c30
          refine zi_aload_n 0 dX2_edges_67 rfl rfl ?_
          refine zi_iload 3 dX2_edges_68 rfl ?_
          obtain ⟨r53, h52, h⟩ := x_bE h
          refine zi_callV [.int v4_13] mX2_isNode rfl q2571 t_rec rfl rfl (Nat.le_of_ble_eq_true rfl) dX2_edges_70 ?_
          refine w_isNode h52 ?_
          refine x_jI (fun (J : Option (Int32 × t_S)) => J = some (rz, σz) → z_V g (d + 4) YX2_edges 90 [(0, .ref b), (2, .int f2_11), (3, .int v3_12), (4, .int v4_13)] [] (t_m b σ μ) Q) h (fun  h => ?_) (fun J90 hJ90 h => ?_)
          · refine zi_iconst (v := 0) dX2_edges_90 (by decide) ?_
            refine zi_goto 177 dX2_edges_91 (by decide) ?_
            exact hJ177 _ h
          refine zi_if_eq 90 dX2_edges_73 (by decide) (fun c54 => ?_) (fun c54 => ?_)
          · replace h := x_iT h c54
            exact hJ90  h
          · replace h := x_iF h c54
            refine zi_aload_n 0 dX2_edges_76 rfl rfl ?_
            refine zi_iload 3 dX2_edges_77 rfl ?_
            obtain ⟨r56, h55, h⟩ := x_bE h
            refine zi_callV [.int v4_13] mX2_linksAt rfl q2917 t_rec rfl rfl (Nat.le_of_ble_eq_true rfl) dX2_edges_79 ?_
            refine w_linksAt h55 ?_
            refine zi_iconst (v := 1) dX2_edges_82 (by decide) ?_
            refine zi_icmp_ne 90 dX2_edges_83 (by decide) (fun c57 => ?_) (fun c57 => ?_)
            · replace h := x_iF h c57
              exact hJ90  h
            · replace h := x_iT h c57
              refine zi_iconst (v := 1) dX2_edges_86 (by decide) ?_
              refine zi_goto 177 dX2_edges_87 (by decide) ?_
              exact hJ177 _ h
      · replace h := x_iT h c29
        refine zi_iload 3 dX2_edges_45 rfl ?_
        refine zi_aload_n 0 dX2_edges_47 rfl rfl ?_
        obtain ⟨r59, h58, h⟩ := x_bE h
        refine zi_callV [] mX2_serves rfl q2599 t_rec rfl rfl (Nat.le_of_ble_eq_true rfl) dX2_edges_48 ?_
        refine w_serves h58 ?_
        refine zi_icmp_ge 58 dX2_edges_51 (by decide) (fun c60 => ?_) (fun c60 => ?_)
        · replace h := x_iT h c60
          refine zi_iconst (v := 0) dX2_edges_58 (by decide) ?_
          refine zi_goto 177 dX2_edges_59 (by decide) ?_
          exact hJ177 _ h
        · replace h := x_iF h c60
          refine zi_iconst (v := 1) dX2_edges_54 (by decide) ?_
          refine zi_goto 177 dX2_edges_55 (by decide) ?_
          exact hJ177 _ h
noncomputable def D_edges (a1 : Int32) (a2 : Int32) (σ : t_S) : Option (Int32 × t_S) :=
  x_l (t_si σ 0 (0 : Int32)) fun σ1 =>
  x_b2 (D_hasNet a1 σ1) fun r3 σ4 =>
  if r3 = 0 then (some ((-1 : Int32), σ4)) else
  x_b (D_in a2 (0 : Int32) (4 : Int32)) fun r7 =>
  if r7 = 0 then (some ((-1 : Int32), σ4)) else
  x_b (D_begin (-1 : Int32) σ4) fun σ10 =>
  D_edges_34 a2 σ10
    (fun (v3_61 : Int32) => some (v3_61, σ10))
    x_F (0 : Int32) (0 : Int32)
theorem w_edges {a1 : Int32} {a2 : Int32} {rz : Int32} (h : D_edges a1 a2 σ = some (rz, σz)) (hQ : Q (.inl (some (.int rz))) (t_m b σz μ)) : z_K g (d + 4) YX2_edges [.ref b, .int a1, .int a2] (t_m b σ μ) Q := by
  unfold D_edges at h
  refine z_K.of (by decide) rfl (Nat.le_of_ble_eq_true rfl) ?_
  refine zi_aload_n 0 dX2_edges_0 rfl rfl ?_
  refine zi_iconst (v := 0) dX2_edges_1 (by decide) ?_
  refine ti_putI 0 ⟨Nat.le_of_ble_eq_true rfl, rfl, rfl⟩ (tyX2_ok 0 (Nat.le_of_ble_eq_true rfl)) q2170 dX2_edges_2 ?_
  refine x_lI (fun σ1 => z_V g (d + 4) YX2_edges 5 [(0, .ref b), (1, .int a1), (2, .int a2)] [] (t_m b σ1 μ) Q) h (fun σ1 h => ?_)
  refine zi_aload_n 0 dX2_edges_5 rfl rfl ?_
  refine zi_iload_n 1 dX2_edges_6 rfl rfl ?_
  obtain ⟨r3, σ4, h2, h⟩ := x_b2E h
  refine zi_callV [.int a1] mX2_hasNet rfl q2563 t_rec rfl rfl (Nat.le_of_ble_eq_true rfl) dX2_edges_7 ?_
  refine w_hasNet h2 ?_
  refine zi_if_eq 22 dX2_edges_10 (by decide) (fun c5 => ?_) (fun c5 => ?_)
  · replace h := x_iT h c5
    refine zi_iconst (v := -1) dX2_edges_22 (by decide) ?_
    refine zi_ireturn rfl rfl dX2_edges_23 ?_
    exact x_r2i h hQ
  · replace h := x_iF h c5
    refine zi_iload_n 2 dX2_edges_13 rfl rfl ?_
    refine zi_iconst (v := 0) dX2_edges_14 (by decide) ?_
    refine zi_iconst (v := 4) dX2_edges_15 (by decide) ?_
    obtain ⟨r7, h6, h⟩ := x_bE h
    refine zi_callS [.int a2, .int (0 : Int32), .int (4 : Int32)] mX2_in rfl q2445 rfl rfl (Nat.le_of_ble_eq_true rfl) dX2_edges_16 ?_
    refine w_in h6 ?_
    refine zi_if_ne 24 dX2_edges_19 (by decide) (fun c8 => ?_) (fun c8 => ?_)
    · replace h := x_iF h c8
      refine zi_aload_n 0 dX2_edges_24 rfl rfl ?_
      refine zi_iconst (v := -1) dX2_edges_25 (by decide) ?_
      obtain ⟨σ10, h9, h⟩ := x_bE h
      refine zi_callV [.int (-1 : Int32)] mX2_begin rfl q2631 t_rec rfl rfl (Nat.le_of_ble_eq_true rfl) dX2_edges_26 ?_
      refine w_begin h9 ?_
      refine zi_iconst (v := 0) dX2_edges_29 (by decide) ?_
      refine zi_istore_n (lc1 := [(3, _), (0, _), (1, _), (2, _)]) dX2_edges_30 rfl (Nat.le_of_ble_eq_true rfl) rfl ?_
      refine zi_iconst (v := 0) dX2_edges_31 (by decide) ?_
      refine zi_istore (lc1 := [(4, _), (3, _), (0, _), (1, _), (2, _)]) dX2_edges_32 (Nat.le_of_ble_eq_true rfl) rfl ?_
      refine zi_sub [2, 4, 1, 0] rfl ?_
      refine w_edges_34 (fun v3_61 h => ?_) hQ _ _ _ h
      · refine zi_iload_n 0 dX2_edges_215 rfl rfl ?_
        refine zi_ireturn rfl rfl dX2_edges_216 ?_
        exact x_r2i h hQ
    · replace h := x_iT h c8
      refine zi_iconst (v := -1) dX2_edges_22 (by decide) ?_
      refine zi_ireturn rfl rfl dX2_edges_23 ?_
      exact x_r2i h hQ
noncomputable def D_allLines_2 (f1_1 : Int32) (k106 : Int32 → t_S → Option (Int32 × t_S)) : Nat → Int32 → t_S → Option (Int32 × t_S)
  | 0, _, _ => none
  | f + 1, v2_2, σ3 =>
    if v2_2 = 0 then (k106 v2_2 σ3) else
    if (t_i σ3 12) = 0 then (k106 v2_2 σ3) else
    x_l (t_i σ3 11) fun v8 =>
    x_l (fun (s9 : Int64) => x_l (t_si σ3 21 (1 : Int32)) fun σ10 =>
    x_l (fun (s11 : Int32) (σ12 : t_S) => x_l (fun (v2_13 : Int32) (σ14 : t_S) => if v2_13 = 0 then (D_allLines_2 f1_1 k106 f v2_13 σ14) else
    x_b (D_token σ14) fun σ17 =>
    D_allLines_2 f1_1 k106 f v2_13 σ17) fun J95 =>
    if s11 = 0 then (J95 s11 σ12) else
    if (t_i σ12 12) = (4 : Int32) then (J95 s11 σ12) else
    x_b2 (D_fails σ12) fun r21 σ22 =>
    J95 r21 σ22) fun J77 =>
    if f1_1 = 0 then (x_b2 (D_netLine s9 v8 σ10) fun r32 σ33 =>
    J77 r32 σ33) else
    if f1_1 = (1 : Int32) then (x_b2 (D_runLine s9 v8 σ10) fun r29 σ30 =>
    J77 r29 σ30) else
    x_b2 (D_logLine s9 v8 σ10) fun r26 σ27 =>
    J77 r26 σ27) fun J34 =>
    if (t_i σ3 12) = (2 : Int32) then (J34 (t_w σ3)) else
    J34 (0 : Int64)
theorem w_allLines_2 {f1_1 : Int32} {rz : Int32} {k106 : Int32 → t_S → Option (Int32 × t_S)} (hk106 : ∀ (v2_4 : Int32) (σ5 : t_S), k106 v2_4 σ5 = some (rz, σz) → z_V g (d + 5) YX2_allLines 106 [(2, .int v2_4)] [] (t_m b σ5 μ) Q) (hQ : Q (.inl (some (.int rz))) (t_m b σz μ)) : ∀ (f : Nat) (v2_2 : Int32) (σ3 : t_S), D_allLines_2 f1_1 k106 f v2_2 σ3 = some (rz, σz) → z_V g (d + 5) YX2_allLines 2 [(0, .ref b), (1, .int f1_1), (2, .int v2_2)] [] (t_m b σ3 μ) Q := by
  intro f
  induction f with
  | zero =>
    intro v2_2 σ3 h
    exact absurd h (x_n _)
  | succ f ih =>
    intro v2_2 σ3 h
    refine zi_iload_n 2 dX2_allLines_2 rfl rfl ?_
    refine zi_if_eq 106 dX2_allLines_3 (by decide) (fun c6 => ?_) (fun c6 => ?_)
    · replace h := x_iT h c6
      refine zi_sub [2] rfl ?_
      exact hk106 _ _ h
    · replace h := x_iF h c6
      refine zi_aload_n 0 dX2_allLines_6 rfl rfl ?_
      refine ti_getI 12 ⟨Nat.le_of_ble_eq_true rfl, rfl⟩ q2182 dX2_allLines_7 ?_
      refine zi_if_eq 106 dX2_allLines_10 (by decide) (fun c7 => ?_) (fun c7 => ?_)
      · replace h := x_iT h c7
        refine zi_sub [2] rfl ?_
        exact hk106 _ _ h
      · replace h := x_iF h c7
        refine zi_aload_n 0 dX2_allLines_13 rfl rfl ?_
        refine ti_getI 11 ⟨Nat.le_of_ble_eq_true rfl, rfl⟩ q2181 dX2_allLines_14 ?_
        refine zi_istore_n (lc1 := [(3, _), (0, _), (1, _), (2, _)]) dX2_allLines_17 rfl (Nat.le_of_ble_eq_true rfl) rfl ?_
        refine x_lI (fun v8 => z_V g (d + 5) YX2_allLines 18 [(3, .int v8), (0, .ref b), (1, .int f1_1), (2, .int v2_2)] [] (t_m b σ3 μ) Q) h (fun v8 h => ?_)
        refine zi_aload_n 1 dX2_allLines_18 rfl rfl ?_
        refine ti_getI 12 ⟨Nat.le_of_ble_eq_true rfl, rfl⟩ q2182 dX2_allLines_19 ?_
        refine zi_iconst (v := 2) dX2_allLines_22 (by decide) ?_
        refine x_jI (fun (J : Int64 → Option (Int32 × t_S)) => ∀ (s9 : Int64), J s9 = some (rz, σz) → z_V g (d + 5) YX2_allLines 34 [(0, .ref b), (1, .int f1_1), (3, .int v8)] [.long s9] (t_m b σ3 μ) Q) h (fun s9 h => ?_) (fun J34 hJ34 h => ?_)
        · refine zi_lstore (lc1 := [(4, _), (0, _), (1, _), (3, _)]) dX2_allLines_34 (Nat.le_of_ble_eq_true rfl) rfl ?_
          refine zi_aload_n 1 dX2_allLines_36 rfl rfl ?_
          refine zi_iconst (v := 1) dX2_allLines_37 (by decide) ?_
          refine ti_putZ 21 ⟨Nat.le_of_ble_eq_true rfl, rfl, rfl⟩ (tyX2_ok 21 (Nat.le_of_ble_eq_true rfl)) ⟨rfl, rfl⟩ q2191 dX2_allLines_38 ?_
          refine x_lI (fun σ10 => z_V g (d + 5) YX2_allLines 41 [(4, .long s9), (0, .ref b), (1, .int f1_1), (3, .int v8)] [] (t_m b σ10 μ) Q) h (fun σ10 h => ?_)
          refine zi_iload_n 2 dX2_allLines_41 rfl rfl ?_
          refine x_jI (fun (J : Int32 → t_S → Option (Int32 × t_S)) => ∀ (s11 : Int32) (σ12 : t_S), J s11 σ12 = some (rz, σz) → z_V g (d + 5) YX2_allLines 77 [(0, .ref b), (1, .int f1_1)] [.int s11] (t_m b σ12 μ) Q) h (fun s11 σ12 h => ?_) (fun J77 hJ77 h => ?_)
          · refine zi_istore_n (lc1 := [(2, _), (0, _), (1, _)]) dX2_allLines_77 rfl (Nat.le_of_ble_eq_true rfl) rfl ?_
            refine zi_iload_n 0 dX2_allLines_78 rfl rfl ?_
            refine x_jI (fun (J : Int32 → t_S → Option (Int32 × t_S)) => ∀ (v2_13 : Int32) (σ14 : t_S), J v2_13 σ14 = some (rz, σz) → z_V g (d + 5) YX2_allLines 95 [(0, .ref b), (1, .int f1_1), (2, .int v2_13)] [] (t_m b σ14 μ) Q) h (fun v2_13 σ14 h => ?_) (fun J95 hJ95 h => ?_)
            · refine zi_iload_n 2 dX2_allLines_95 rfl rfl ?_
              refine zi_if_eq 103 dX2_allLines_96 (by decide) (fun c15 => ?_) (fun c15 => ?_)
              · replace h := x_iT h c15
                refine zi_goto 2 dX2_allLines_103 (by decide) ?_
                exact ih _ _ h
              · replace h := x_iF h c15
                refine zi_aload_n 0 dX2_allLines_99 rfl rfl ?_
                obtain ⟨σ17, h16, h⟩ := x_bE h
                refine zi_callV [] mX2_token rfl q2460 t_rec rfl rfl (Nat.le_of_ble_eq_true rfl) dX2_allLines_100 ?_
                refine w_token h16 ?_
                refine zi_goto 2 dX2_allLines_103 (by decide) ?_
                exact ih _ _ h
            refine zi_if_eq 95 dX2_allLines_79 (by decide) (fun c18 => ?_) (fun c18 => ?_)
            · replace h := x_iT h c18
              refine zi_sub [1, 2, 0] rfl ?_
              exact hJ95 _ _ h
            · replace h := x_iF h c18
              refine zi_aload_n 1 dX2_allLines_82 rfl rfl ?_
              refine ti_getI 12 ⟨Nat.le_of_ble_eq_true rfl, rfl⟩ q2182 dX2_allLines_83 ?_
              refine zi_iconst (v := 4) dX2_allLines_86 (by decide) ?_
              refine zi_icmp_eq 95 dX2_allLines_87 (by decide) (fun c19 => ?_) (fun c19 => ?_)
              · replace h := x_iT h c19
                refine zi_sub [1, 2, 0] rfl ?_
                exact hJ95 _ _ h
              · replace h := x_iF h c19
                refine zi_aload_n 1 dX2_allLines_90 rfl rfl ?_
                obtain ⟨r21, σ22, h20, h⟩ := x_b2E h
                refine zi_callV [] mX2_fails rfl q2486 t_rec rfl rfl (Nat.le_of_ble_eq_true rfl) dX2_allLines_91 ?_
                refine w_fails h20 ?_
                refine zi_istore_n (lc1 := [(2, _), (0, _), (1, _)]) dX2_allLines_94 rfl (Nat.le_of_ble_eq_true rfl) rfl ?_
                refine zi_sub [1, 2, 0] rfl ?_
                exact hJ95 _ _ h
          refine zi_if_ne 55 dX2_allLines_42 (by decide) (fun c23 => ?_) (fun c23 => ?_)
          · replace h := x_iF h c23
            refine zi_iload_n 2 dX2_allLines_55 rfl rfl ?_
            refine zi_iconst (v := 1) dX2_allLines_56 (by decide) ?_
            refine zi_icmp_ne 70 dX2_allLines_57 (by decide) (fun c24 => ?_) (fun c24 => ?_)
            · replace h := x_iF h c24
              refine zi_aload_n 1 dX2_allLines_70 rfl rfl ?_
              refine zi_lload 0 dX2_allLines_71 rfl ?_
              refine zi_iload_n 3 dX2_allLines_73 rfl rfl ?_
              obtain ⟨r26, σ27, h25, h⟩ := x_b2E h
              refine zi_callV [.long s9, .int v8] mX2_logLine rfl q2545 t_rec rfl rfl (Nat.le_of_ble_eq_true rfl) dX2_allLines_74 ?_
              refine w_logLine h25 ?_
              refine zi_sub [1, 2] rfl ?_
              exact hJ77 _ _ h
            · replace h := x_iT h c24
              refine zi_aload_n 1 dX2_allLines_60 rfl rfl ?_
              refine zi_lload 0 dX2_allLines_61 rfl ?_
              refine zi_iload_n 3 dX2_allLines_63 rfl rfl ?_
              obtain ⟨r29, σ30, h28, h⟩ := x_b2E h
              refine zi_callV [.long s9, .int v8] mX2_runLine rfl q2532 t_rec rfl rfl (Nat.le_of_ble_eq_true rfl) dX2_allLines_64 ?_
              refine w_runLine h28 ?_
              refine zi_goto 77 dX2_allLines_67 (by decide) ?_
              refine zi_sub [1, 2] rfl ?_
              exact hJ77 _ _ h
          · replace h := x_iT h c23
            refine zi_aload_n 1 dX2_allLines_45 rfl rfl ?_
            refine zi_lload 0 dX2_allLines_46 rfl ?_
            refine zi_iload_n 3 dX2_allLines_48 rfl rfl ?_
            obtain ⟨r32, σ33, h31, h⟩ := x_b2E h
            refine zi_callV [.long s9, .int v8] mX2_netLine rfl q2472 t_rec rfl rfl (Nat.le_of_ble_eq_true rfl) dX2_allLines_49 ?_
            refine w_netLine h31 ?_
            refine zi_goto 77 dX2_allLines_52 (by decide) ?_
            refine zi_sub [1, 2] rfl ?_
            exact hJ77 _ _ h
        refine zi_icmp_ne 33 dX2_allLines_23 (by decide) (fun c34 => ?_) (fun c34 => ?_)
        · replace h := x_iF h c34
          refine zi_lconst (v := 0) dX2_allLines_33 (by decide) ?_
          refine zi_sub [1, 2, 0] rfl ?_
          exact hJ34 _ h
        · replace h := x_iT h c34
          refine zi_aload_n 1 dX2_allLines_26 rfl rfl ?_
          refine ti_getW q2184 dX2_allLines_27 ?_
          refine zi_goto 34 dX2_allLines_30 (by decide) ?_
          refine zi_sub [1, 2, 0] rfl ?_
          exact hJ34 _ h
noncomputable def D_allLines (a1 : Int32) (σ : t_S) : Option (Int32 × t_S) :=
  D_allLines_2 a1
    (fun (v2_35 : Int32) (σ36 : t_S) => x_g (v2_35 = 0 ∨ v2_35 = 1) <|
  some (v2_35, σ36))
    x_F (1 : Int32) σ
theorem w_allLines {a1 : Int32} {rz : Int32} (h : D_allLines a1 σ = some (rz, σz)) (hQ : Q (.inl (some (.int rz))) (t_m b σz μ)) : z_K g (d + 5) YX2_allLines [.ref b, .int a1] (t_m b σ μ) Q := by
  unfold D_allLines at h
  refine z_K.of (by decide) rfl (Nat.le_of_ble_eq_true rfl) ?_
  refine zi_iconst (v := 1) dX2_allLines_0 (by decide) ?_
  refine zi_istore_n (lc1 := [(2, _), (0, _), (1, _)]) dX2_allLines_1 rfl (Nat.le_of_ble_eq_true rfl) rfl ?_
  refine zi_sub [1, 2, 0] rfl ?_
  refine w_allLines_2 (fun v2_35 σ36 h => ?_) hQ _ _ _ h
  · refine zi_iload_n 0 dX2_allLines_106 rfl rfl ?_
    obtain ⟨hz37, h⟩ := x_gE h
    refine zi_ireturn rfl (x_nz hz37) dX2_allLines_107 ?_
    exact x_r2i h hQ
noncomputable def D_makesEntry (a1 : Int32) (a2 : Int32) (a3 : Int32) (a4 : Int32) (a5 : Int32) (σ : t_S) : Option t_S :=
  x_ga a1 6 fun j1 =>
  x_l (((64 : Int32) * a1) + (t_a σ 34 j1)) fun v2 =>
  x_ga a1 6 fun j3 =>
  x_ga a1 6 fun j4 =>
  x_l (t_sa σ 34 j4 ((t_a σ 34 j3) + (1 : Int32))) fun σ5 =>
  x_ga v2 384 fun j6 =>
  x_l (t_sa σ5 35 j6 a3) fun σ7 =>
  x_ga v2 384 fun j8 =>
  x_l (t_sa σ7 36 j8 a4) fun σ9 =>
  x_ga v2 384 fun j10 =>
  x_l (t_sa σ9 37 j10 (0 : Int32)) fun σ11 =>
  x_ga v2 384 fun j12 =>
  x_l (t_sl σ11 38 j12 (0 : Int64)) fun σ13 =>
  x_ga v2 384 fun j14 =>
  x_l (t_sl σ13 39 j14 (0 : Int64)) fun σ15 =>
  x_ga v2 384 fun j16 =>
  x_l (t_sa σ15 40 j16 a5) fun σ17 =>
  x_ga v2 384 fun j18 =>
  x_l (t_sa σ17 41 j18 (-1 : Int32)) fun σ19 =>
  x_ga v2 384 fun j20 =>
  x_l (t_sa σ19 42 j20 (0 : Int32)) fun σ21 =>
  x_ga v2 384 fun j22 =>
  x_l (t_sa σ21 43 j22 (0 : Int32)) fun σ23 =>
  x_ga v2 384 fun j24 =>
  x_l (t_sa σ23 44 j24 ((t_i σ23 27) + (t_i σ23 24))) fun σ25 =>
  x_b (D_joins v2 a2 a5 σ25) fun σ27 =>
  x_b2 (D_goesOn a1 v2 σ27) fun r29 σ30 =>
  if r29 = 0 then (x_b (D_removes a1 v2 σ30) fun σ33 =>
  x_b (D_firstNack a1 a2 a3 a4 (1 : Int32) σ33) fun σ35 =>
  some σ35) else
  some σ30
theorem w_makesEntry {a1 : Int32} {a2 : Int32} {a3 : Int32} {a4 : Int32} {a5 : Int32}  (h : D_makesEntry a1 a2 a3 a4 a5 σ = some σz) (hQ : Q (.inl none) (t_m b σz μ)) : z_K g (d + 5) YX2_makesEntry [.ref b, .int a1, .int a2, .int a3, .int a4, .int a5] (t_m b σ μ) Q := by
  unfold D_makesEntry at h
  refine z_K.of (by decide) rfl (Nat.le_of_ble_eq_true rfl) ?_
  refine zi_bipush (v := 64) dX2_makesEntry_0 (by decide) ?_
  refine zi_iload_n 1 dX2_makesEntry_2 rfl rfl ?_
  refine zi_imul dX2_makesEntry_3 ?_
  refine zi_aload_n 0 dX2_makesEntry_4 rfl rfl ?_
  refine ti_getA 34 18 t_o34 q2204 dX2_makesEntry_5 ?_
  refine zi_iload_n 1 dX2_makesEntry_8 rfl rfl ?_
  obtain ⟨j1, hj1, h⟩ := x_gaE h
  refine ti_iald 34 j1 6 17 ⟨rfl, rfl⟩ hj1 dX2_makesEntry_9 ?_
  refine zi_iadd dX2_makesEntry_10 ?_
  refine zi_istore (lc1 := [(6, _), (0, _), (1, _), (2, _), (3, _), (4, _), (5, _)]) dX2_makesEntry_11 (Nat.le_of_ble_eq_true rfl) rfl ?_
  refine x_lI (fun v2 => z_V g (d + 5) YX2_makesEntry 13 [(6, .int v2), (0, .ref b), (1, .int a1), (2, .int a2), (3, .int a3), (4, .int a4), (5, .int a5)] [] (t_m b σ μ) Q) h (fun v2 h => ?_)
  refine zi_aload_n 1 dX2_makesEntry_13 rfl rfl ?_
  refine ti_getA 34 18 t_o34 q2204 dX2_makesEntry_14 ?_
  refine zi_iload_n 2 dX2_makesEntry_17 rfl rfl ?_
  refine zi_dup2_11 dX2_makesEntry_18 rfl rfl ?_
  obtain ⟨j3, hj3, h⟩ := x_gaE h
  refine ti_iald 34 j3 6 17 ⟨rfl, rfl⟩ hj3 dX2_makesEntry_19 ?_
  refine zi_iconst (v := 1) dX2_makesEntry_20 (by decide) ?_
  refine zi_iadd dX2_makesEntry_21 ?_
  obtain ⟨j4, hj4, h⟩ := x_gaE h
  refine ti_iast 34 j4 6 17 ⟨rfl, rfl⟩ hj4 dX2_makesEntry_22 ?_
  refine x_lI (fun σ5 => z_V g (d + 5) YX2_makesEntry 23 [(6, .int v2), (0, .ref b), (1, .int a1), (2, .int a2), (3, .int a3), (4, .int a4), (5, .int a5)] [] (t_m b σ5 μ) Q) h (fun σ5 h => ?_)
  refine zi_aload_n 1 dX2_makesEntry_23 rfl rfl ?_
  refine ti_getA 35 19 t_o35 q2205 dX2_makesEntry_24 ?_
  refine zi_iload 0 dX2_makesEntry_27 rfl ?_
  refine zi_iload_n 4 dX2_makesEntry_29 rfl rfl ?_
  obtain ⟨j6, hj6, h⟩ := x_gaE h
  refine ti_iast 35 j6 384 18 ⟨rfl, rfl⟩ hj6 dX2_makesEntry_30 ?_
  refine x_lI (fun σ7 => z_V g (d + 5) YX2_makesEntry 31 [(6, .int v2), (0, .ref b), (1, .int a1), (2, .int a2), (3, .int a3), (4, .int a4), (5, .int a5)] [] (t_m b σ7 μ) Q) h (fun σ7 h => ?_)
  refine zi_aload_n 1 dX2_makesEntry_31 rfl rfl ?_
  refine ti_getA 36 20 t_o36 q2206 dX2_makesEntry_32 ?_
  refine zi_iload 0 dX2_makesEntry_35 rfl ?_
  refine zi_iload 5 dX2_makesEntry_37 rfl ?_
  obtain ⟨j8, hj8, h⟩ := x_gaE h
  refine ti_iast 36 j8 384 19 ⟨rfl, rfl⟩ hj8 dX2_makesEntry_39 ?_
  refine x_lI (fun σ9 => z_V g (d + 5) YX2_makesEntry 40 [(6, .int v2), (0, .ref b), (1, .int a1), (2, .int a2), (3, .int a3), (4, .int a4), (5, .int a5)] [] (t_m b σ9 μ) Q) h (fun σ9 h => ?_)
  refine zi_aload_n 1 dX2_makesEntry_40 rfl rfl ?_
  refine ti_getA 37 21 t_o37 q2207 dX2_makesEntry_41 ?_
  refine zi_iload 0 dX2_makesEntry_44 rfl ?_
  refine zi_iconst (v := 0) dX2_makesEntry_46 (by decide) ?_
  obtain ⟨j10, hj10, h⟩ := x_gaE h
  refine ti_iast 37 j10 384 20 ⟨rfl, rfl⟩ hj10 dX2_makesEntry_47 ?_
  refine x_lI (fun σ11 => z_V g (d + 5) YX2_makesEntry 48 [(6, .int v2), (0, .ref b), (1, .int a1), (2, .int a2), (3, .int a3), (4, .int a4), (5, .int a5)] [] (t_m b σ11 μ) Q) h (fun σ11 h => ?_)
  refine zi_aload_n 1 dX2_makesEntry_48 rfl rfl ?_
  refine ti_getA 38 22 t_o38 q2208 dX2_makesEntry_49 ?_
  refine zi_iload 0 dX2_makesEntry_52 rfl ?_
  refine zi_lconst (v := 0) dX2_makesEntry_54 (by decide) ?_
  obtain ⟨j12, hj12, h⟩ := x_gaE h
  refine ti_last 38 j12 384 21 ⟨rfl, rfl⟩ hj12 dX2_makesEntry_55 ?_
  refine x_lI (fun σ13 => z_V g (d + 5) YX2_makesEntry 56 [(6, .int v2), (0, .ref b), (1, .int a1), (2, .int a2), (3, .int a3), (4, .int a4), (5, .int a5)] [] (t_m b σ13 μ) Q) h (fun σ13 h => ?_)
  refine zi_aload_n 1 dX2_makesEntry_56 rfl rfl ?_
  refine ti_getA 39 23 t_o39 q2209 dX2_makesEntry_57 ?_
  refine zi_iload 0 dX2_makesEntry_60 rfl ?_
  refine zi_lconst (v := 0) dX2_makesEntry_62 (by decide) ?_
  obtain ⟨j14, hj14, h⟩ := x_gaE h
  refine ti_last 39 j14 384 22 ⟨rfl, rfl⟩ hj14 dX2_makesEntry_63 ?_
  refine x_lI (fun σ15 => z_V g (d + 5) YX2_makesEntry 64 [(6, .int v2), (0, .ref b), (1, .int a1), (2, .int a2), (3, .int a3), (4, .int a4), (5, .int a5)] [] (t_m b σ15 μ) Q) h (fun σ15 h => ?_)
  refine zi_aload_n 1 dX2_makesEntry_64 rfl rfl ?_
  refine ti_getA 40 24 t_o40 q2210 dX2_makesEntry_65 ?_
  refine zi_iload 0 dX2_makesEntry_68 rfl ?_
  refine zi_iload 6 dX2_makesEntry_70 rfl ?_
  obtain ⟨j16, hj16, h⟩ := x_gaE h
  refine ti_iast 40 j16 384 23 ⟨rfl, rfl⟩ hj16 dX2_makesEntry_72 ?_
  refine x_lI (fun σ17 => z_V g (d + 5) YX2_makesEntry 73 [(6, .int v2), (0, .ref b), (1, .int a1), (2, .int a2), (3, .int a3), (4, .int a4), (5, .int a5)] [] (t_m b σ17 μ) Q) h (fun σ17 h => ?_)
  refine zi_aload_n 1 dX2_makesEntry_73 rfl rfl ?_
  refine ti_getA 41 25 t_o41 q2211 dX2_makesEntry_74 ?_
  refine zi_iload 0 dX2_makesEntry_77 rfl ?_
  refine zi_iconst (v := -1) dX2_makesEntry_79 (by decide) ?_
  obtain ⟨j18, hj18, h⟩ := x_gaE h
  refine ti_iast 41 j18 384 24 ⟨rfl, rfl⟩ hj18 dX2_makesEntry_80 ?_
  refine x_lI (fun σ19 => z_V g (d + 5) YX2_makesEntry 81 [(6, .int v2), (0, .ref b), (1, .int a1), (2, .int a2), (3, .int a3), (4, .int a4), (5, .int a5)] [] (t_m b σ19 μ) Q) h (fun σ19 h => ?_)
  refine zi_aload_n 1 dX2_makesEntry_81 rfl rfl ?_
  refine ti_getA 42 26 t_o42 q2212 dX2_makesEntry_82 ?_
  refine zi_iload 0 dX2_makesEntry_85 rfl ?_
  refine zi_iconst (v := 0) dX2_makesEntry_87 (by decide) ?_
  obtain ⟨j20, hj20, h⟩ := x_gaE h
  refine ti_iast 42 j20 384 25 ⟨rfl, rfl⟩ hj20 dX2_makesEntry_88 ?_
  refine x_lI (fun σ21 => z_V g (d + 5) YX2_makesEntry 89 [(6, .int v2), (0, .ref b), (1, .int a1), (2, .int a2), (3, .int a3), (4, .int a4), (5, .int a5)] [] (t_m b σ21 μ) Q) h (fun σ21 h => ?_)
  refine zi_aload_n 1 dX2_makesEntry_89 rfl rfl ?_
  refine ti_getA 43 27 t_o43 q2213 dX2_makesEntry_90 ?_
  refine zi_iload 0 dX2_makesEntry_93 rfl ?_
  refine zi_iconst (v := 0) dX2_makesEntry_95 (by decide) ?_
  obtain ⟨j22, hj22, h⟩ := x_gaE h
  refine ti_iast 43 j22 384 26 ⟨rfl, rfl⟩ hj22 dX2_makesEntry_96 ?_
  refine x_lI (fun σ23 => z_V g (d + 5) YX2_makesEntry 97 [(6, .int v2), (0, .ref b), (1, .int a1), (2, .int a2), (3, .int a3), (4, .int a4), (5, .int a5)] [] (t_m b σ23 μ) Q) h (fun σ23 h => ?_)
  refine zi_aload_n 1 dX2_makesEntry_97 rfl rfl ?_
  refine ti_getA 44 28 t_o44 q2214 dX2_makesEntry_98 ?_
  refine zi_iload 0 dX2_makesEntry_101 rfl ?_
  refine zi_aload_n 1 dX2_makesEntry_103 rfl rfl ?_
  refine ti_getI 27 ⟨Nat.le_of_ble_eq_true rfl, rfl⟩ q2197 dX2_makesEntry_104 ?_
  refine zi_aload_n 1 dX2_makesEntry_107 rfl rfl ?_
  refine ti_getI 24 ⟨Nat.le_of_ble_eq_true rfl, rfl⟩ q2194 dX2_makesEntry_108 ?_
  refine zi_iadd dX2_makesEntry_111 ?_
  obtain ⟨j24, hj24, h⟩ := x_gaE h
  refine ti_iast 44 j24 384 27 ⟨rfl, rfl⟩ hj24 dX2_makesEntry_112 ?_
  refine x_lI (fun σ25 => z_V g (d + 5) YX2_makesEntry 113 [(6, .int v2), (0, .ref b), (1, .int a1), (2, .int a2), (3, .int a3), (4, .int a4), (5, .int a5)] [] (t_m b σ25 μ) Q) h (fun σ25 h => ?_)
  refine zi_aload_n 1 dX2_makesEntry_113 rfl rfl ?_
  refine zi_iload 0 dX2_makesEntry_114 rfl ?_
  refine zi_iload_n 3 dX2_makesEntry_116 rfl rfl ?_
  refine zi_iload 6 dX2_makesEntry_117 rfl ?_
  obtain ⟨σ27, h26, h⟩ := x_bE h
  refine zi_callV [.int v2, .int a2, .int a5] mX2_joins rfl q2719 t_rec rfl rfl (Nat.le_of_ble_eq_true rfl) dX2_makesEntry_119 ?_
  refine w_joins h26 ?_
  refine zi_aload_n 1 dX2_makesEntry_122 rfl rfl ?_
  refine zi_iload_n 2 dX2_makesEntry_123 rfl rfl ?_
  refine zi_iload 0 dX2_makesEntry_124 rfl ?_
  obtain ⟨r29, σ30, h28, h⟩ := x_b2E h
  refine zi_callV [.int a1, .int v2] mX2_goesOn rfl q2727 t_rec rfl rfl (Nat.le_of_ble_eq_true rfl) dX2_makesEntry_126 ?_
  refine w_goesOn h28 ?_
  refine zi_if_ne 149 dX2_makesEntry_129 (by decide) (fun c31 => ?_) (fun c31 => ?_)
  · replace h := x_iF h c31
    refine zi_return rfl dX2_makesEntry_149 ?_
    exact x_r0 h hQ
  · replace h := x_iT h c31
    refine zi_aload_n 1 dX2_makesEntry_132 rfl rfl ?_
    refine zi_iload_n 2 dX2_makesEntry_133 rfl rfl ?_
    refine zi_iload 0 dX2_makesEntry_134 rfl ?_
    obtain ⟨σ33, h32, h⟩ := x_bE h
    refine zi_callV [.int a1, .int v2] mX2_removes rfl q2744 t_rec rfl rfl (Nat.le_of_ble_eq_true rfl) dX2_makesEntry_136 ?_
    refine w_removes h32 ?_
    refine zi_aload_n 1 dX2_makesEntry_139 rfl rfl ?_
    refine zi_iload_n 2 dX2_makesEntry_140 rfl rfl ?_
    refine zi_iload_n 3 dX2_makesEntry_141 rfl rfl ?_
    refine zi_iload_n 4 dX2_makesEntry_142 rfl rfl ?_
    refine zi_iload 5 dX2_makesEntry_143 rfl ?_
    refine zi_iconst (v := 1) dX2_makesEntry_145 (by decide) ?_
    obtain ⟨σ35, h34, h⟩ := x_bE h
    refine zi_callV [.int a1, .int a2, .int a3, .int a4, .int (1 : Int32)] mX2_firstNack rfl q2662 t_rec rfl rfl (Nat.le_of_ble_eq_true rfl) dX2_makesEntry_146 ?_
    refine w_firstNack h34 ?_
    refine zi_return rfl dX2_makesEntry_149 ?_
    exact x_r0 h hQ
noncomputable def D_dataCome_103 (f1_10 : Int32) (f3_11 : Int32) (f4_12 : Int32) (k129 : t_S → Option t_S) : Nat → Int32 → t_S → Option t_S
  | 0, _, _ => none
  | f + 1, v5_13, σ14 =>
    if v5_13 = (-1 : Int32) then (k129 σ14) else
    x_b (D_answers f1_10 v5_13 σ14) fun σ18 =>
    x_b (D_firstFor f1_10 f3_11 f4_12 σ18) fun r20 =>
    D_dataCome_103 f1_10 f3_11 f4_12 k129 f r20 σ18
theorem w_dataCome_103 {f1_10 : Int32} {f3_11 : Int32} {f4_12 : Int32}  {k129 : t_S → Option t_S} (hk129 : ∀ (σ15 : t_S), k129 σ15 = some σz → z_V g (d + 5) YX2_dataCome 129 [] [] (t_m b σ15 μ) Q) (hQ : Q (.inl none) (t_m b σz μ)) : ∀ (f : Nat) (v5_13 : Int32) (σ14 : t_S), D_dataCome_103 f1_10 f3_11 f4_12 k129 f v5_13 σ14 = some σz → z_V g (d + 5) YX2_dataCome 103 [(0, .ref b), (1, .int f1_10), (3, .int f3_11), (4, .int f4_12), (5, .int v5_13)] [] (t_m b σ14 μ) Q := by
  intro f
  induction f with
  | zero =>
    intro v5_13 σ14 h
    exact absurd h (x_n _)
  | succ f ih =>
    intro v5_13 σ14 h
    refine zi_iload 4 dX2_dataCome_103 rfl ?_
    refine zi_iconst (v := -1) dX2_dataCome_105 (by decide) ?_
    refine zi_icmp_eq 129 dX2_dataCome_106 (by decide) (fun c16 => ?_) (fun c16 => ?_)
    · replace h := x_iT h c16
      refine zi_sub [] rfl ?_
      exact hk129 _ h
    · replace h := x_iF h c16
      refine zi_aload_n 0 dX2_dataCome_109 rfl rfl ?_
      refine zi_iload_n 1 dX2_dataCome_110 rfl rfl ?_
      refine zi_iload 4 dX2_dataCome_111 rfl ?_
      obtain ⟨σ18, h17, h⟩ := x_bE h
      refine zi_callV [.int f1_10, .int v5_13] mX2_answers rfl q2772 t_rec rfl rfl (Nat.le_of_ble_eq_true rfl) dX2_dataCome_113 ?_
      refine w_answers h17 ?_
      refine zi_aload_n 0 dX2_dataCome_116 rfl rfl ?_
      refine zi_iload_n 1 dX2_dataCome_117 rfl rfl ?_
      refine zi_iload_n 2 dX2_dataCome_118 rfl rfl ?_
      refine zi_iload 3 dX2_dataCome_119 rfl ?_
      obtain ⟨r20, h19, h⟩ := x_bE h
      refine zi_callV [.int f1_10, .int f3_11, .int f4_12] mX2_firstFor rfl q2768 t_rec rfl rfl (Nat.le_of_ble_eq_true rfl) dX2_dataCome_121 ?_
      refine w_firstFor h19 ?_
      refine zi_istore (lc1 := [(5, _), (0, _), (1, _), (3, _), (4, _)]) dX2_dataCome_124 (Nat.le_of_ble_eq_true rfl) rfl ?_
      refine zi_goto 103 dX2_dataCome_126 (by decide) ?_
      refine zi_sub [1, 2, 3, 4, 0] rfl ?_
      exact ih _ _ h
noncomputable def D_dataCome (a1 : Int32) (a2 : Int32) (a3 : Int32) (σ : t_S) : Option t_S :=
  x_l (fun (s1 : Int32) => x_b (D_firstFor a1 a3 s1 σ) fun r3 =>
  if r3 = (-1 : Int32) then (x_l (t_si σ 69 ((t_i σ 69) + (1 : Int32))) fun σ29 =>
  some σ29) else
  x_ga r3 384 fun j5 =>
  x_l (fun (σ6 : t_S) => x_b (D_ofNet ((5 : Int32) + a1) σ6) fun r8 =>
  x_l (fun (σ9 : t_S) => D_dataCome_103 a1 a3 s1
    (fun (σ21 : t_S) => some σ21)
    x_F r3 σ9) fun J103 =>
  if r8 ≤ 0 then (J103 σ6) else
  x_b (D_putsLast a1 a3 (t_i σ6 71) (t_i σ6 72) σ6) fun σ24 =>
  J103 σ24) fun J79 =>
  if (t_a σ 41 j5) = a2 then (x_ga r3 384 fun j26 =>
  x_ga (((6 : Int32) * a1) + a2) 36 fun j27 =>
  x_l (t_sa σ 29 j27 ((t_i σ 27) - (t_a σ 43 j26))) fun σ28 =>
  J79 σ28) else
  J79 σ) fun J16 =>
  if (t_i σ 71) < (t_i σ 27) then (J16 (0 : Int32)) else
  J16 (1 : Int32)
theorem w_dataCome {a1 : Int32} {a2 : Int32} {a3 : Int32}  (h : D_dataCome a1 a2 a3 σ = some σz) (hQ : Q (.inl none) (t_m b σz μ)) : z_K g (d + 5) YX2_dataCome [.ref b, .int a1, .int a2, .int a3] (t_m b σ μ) Q := by
  unfold D_dataCome at h
  refine z_K.of (by decide) rfl (Nat.le_of_ble_eq_true rfl) ?_
  refine zi_aload_n 0 dX2_dataCome_0 rfl rfl ?_
  refine ti_getI 71 ⟨Nat.le_of_ble_eq_true rfl, rfl⟩ q2241 dX2_dataCome_1 ?_
  refine zi_aload_n 0 dX2_dataCome_4 rfl rfl ?_
  refine ti_getI 27 ⟨Nat.le_of_ble_eq_true rfl, rfl⟩ q2197 dX2_dataCome_5 ?_
  refine x_jI (fun (J : Int32 → Option t_S) => ∀ (s1 : Int32), J s1 = some σz → z_V g (d + 5) YX2_dataCome 16 [(0, .ref b), (1, .int a1), (2, .int a2), (3, .int a3)] [.int s1] (t_m b σ μ) Q) h (fun s1 h => ?_) (fun J16 hJ16 h => ?_)
  · refine zi_istore (lc1 := [(4, _), (0, _), (1, _), (2, _), (3, _)]) dX2_dataCome_16 (Nat.le_of_ble_eq_true rfl) rfl ?_
    refine zi_aload_n 1 dX2_dataCome_18 rfl rfl ?_
    refine zi_iload_n 2 dX2_dataCome_19 rfl rfl ?_
    refine zi_iload_n 4 dX2_dataCome_20 rfl rfl ?_
    refine zi_iload 0 dX2_dataCome_21 rfl ?_
    obtain ⟨r3, h2, h⟩ := x_bE h
    refine zi_callV [.int a1, .int a3, .int s1] mX2_firstFor rfl q2768 t_rec rfl rfl (Nat.le_of_ble_eq_true rfl) dX2_dataCome_23 ?_
    refine w_firstFor h2 ?_
    refine zi_istore (lc1 := [(5, _), (4, _), (0, _), (1, _), (2, _), (3, _)]) dX2_dataCome_26 (Nat.le_of_ble_eq_true rfl) rfl ?_
    refine zi_iload 0 dX2_dataCome_28 rfl ?_
    refine zi_iconst (v := -1) dX2_dataCome_30 (by decide) ?_
    refine zi_icmp_ne 45 dX2_dataCome_31 (by decide) (fun c4 => ?_) (fun c4 => ?_)
    · replace h := x_iF h c4
      refine zi_aload_n 2 dX2_dataCome_45 rfl rfl ?_
      refine ti_getA 41 25 t_o41 q2211 dX2_dataCome_46 ?_
      refine zi_iload 0 dX2_dataCome_49 rfl ?_
      obtain ⟨j5, hj5, h⟩ := x_gaE h
      refine ti_iald 41 j5 384 24 ⟨rfl, rfl⟩ hj5 dX2_dataCome_51 ?_
      refine zi_iload_n 4 dX2_dataCome_52 rfl rfl ?_
      refine x_jI (fun (J : t_S → Option t_S) => ∀ (σ6 : t_S), J σ6 = some σz → z_V g (d + 5) YX2_dataCome 79 [(0, .ref b), (1, .int a1), (3, .int a3), (4, .int s1), (5, .int r3)] [] (t_m b σ6 μ) Q) h (fun σ6 h => ?_) (fun J79 hJ79 h => ?_)
      · refine zi_aload_n 0 dX2_dataCome_79 rfl rfl ?_
        refine zi_iconst (v := 5) dX2_dataCome_80 (by decide) ?_
        refine zi_iload_n 1 dX2_dataCome_81 rfl rfl ?_
        refine zi_iadd dX2_dataCome_82 ?_
        obtain ⟨r8, h7, h⟩ := x_bE h
        refine zi_callV [.int ((5 : Int32) + a1)] mX2_ofNet rfl q2567 t_rec rfl rfl (Nat.le_of_ble_eq_true rfl) dX2_dataCome_83 ?_
        refine w_ofNet h7 ?_
        refine x_jI (fun (J : t_S → Option t_S) => ∀ (σ9 : t_S), J σ9 = some σz → z_V g (d + 5) YX2_dataCome 103 [(0, .ref b), (1, .int a1), (3, .int a3), (4, .int s1), (5, .int r3)] [] (t_m b σ9 μ) Q) h (fun σ9 h => ?_) (fun J103 hJ103 h => ?_)
        · refine w_dataCome_103 (fun σ21 h => ?_) hQ _ _ _ h
          · refine zi_return rfl dX2_dataCome_129 ?_
            exact x_r0 h hQ
        refine zi_if_le 103 dX2_dataCome_86 (by decide) (fun c22 => ?_) (fun c22 => ?_)
        · replace h := x_iT h c22
          exact hJ103 _ h
        · replace h := x_iF h c22
          refine zi_aload_n 0 dX2_dataCome_89 rfl rfl ?_
          refine zi_iload_n 1 dX2_dataCome_90 rfl rfl ?_
          refine zi_iload_n 2 dX2_dataCome_91 rfl rfl ?_
          refine zi_aload_n 0 dX2_dataCome_92 rfl rfl ?_
          refine ti_getI 71 ⟨Nat.le_of_ble_eq_true rfl, rfl⟩ q2241 dX2_dataCome_93 ?_
          refine zi_aload_n 0 dX2_dataCome_96 rfl rfl ?_
          refine ti_getI 72 ⟨Nat.le_of_ble_eq_true rfl, rfl⟩ q2242 dX2_dataCome_97 ?_
          obtain ⟨σ24, h23, h⟩ := x_bE h
          refine zi_callV [.int a1, .int a3, .int (t_i σ6 71), .int (t_i σ6 72)] mX2_putsLast rfl q2689 t_rec rfl rfl (Nat.le_of_ble_eq_true rfl) dX2_dataCome_100 ?_
          refine w_putsLast h23 ?_
          exact hJ103 _ h
      refine zi_icmp_ne 79 dX2_dataCome_53 (by decide) (fun c25 => ?_) (fun c25 => ?_)
      · replace h := x_iF h c25
        refine zi_sub [2, 3, 5, 1, 0] rfl ?_
        exact hJ79 _ h
      · replace h := x_iT h c25
        refine zi_aload_n 2 dX2_dataCome_56 rfl rfl ?_
        refine ti_getA 29 13 t_o29 q2199 dX2_dataCome_57 ?_
        refine zi_bipush (v := 6) dX2_dataCome_60 (by decide) ?_
        refine zi_iload_n 3 dX2_dataCome_62 rfl rfl ?_
        refine zi_imul dX2_dataCome_63 ?_
        refine zi_iload_n 4 dX2_dataCome_64 rfl rfl ?_
        refine zi_iadd dX2_dataCome_65 ?_
        refine zi_aload_n 2 dX2_dataCome_66 rfl rfl ?_
        refine ti_getI 27 ⟨Nat.le_of_ble_eq_true rfl, rfl⟩ q2197 dX2_dataCome_67 ?_
        refine zi_aload_n 2 dX2_dataCome_70 rfl rfl ?_
        refine ti_getA 43 27 t_o43 q2213 dX2_dataCome_71 ?_
        refine zi_iload 0 dX2_dataCome_74 rfl ?_
        obtain ⟨j26, hj26, h⟩ := x_gaE h
        refine ti_iald 43 j26 384 26 ⟨rfl, rfl⟩ hj26 dX2_dataCome_76 ?_
        refine zi_isub dX2_dataCome_77 ?_
        obtain ⟨j27, hj27, h⟩ := x_gaE h
        refine ti_iast 29 j27 36 12 ⟨rfl, rfl⟩ hj27 dX2_dataCome_78 ?_
        refine x_lI (fun σ28 => z_V g (d + 5) YX2_dataCome 79 [(5, .int r3), (4, .int s1), (0, .ref b), (1, .int a1), (2, .int a2), (3, .int a3)] [] (t_m b σ28 μ) Q) h (fun σ28 h => ?_)
        refine zi_sub [2, 3, 5, 1, 0] rfl ?_
        exact hJ79 _ h
    · replace h := x_iT h c4
      refine zi_aload_n 2 dX2_dataCome_34 rfl rfl ?_
      refine zi_dup dX2_dataCome_35 rfl ?_
      refine ti_getI 69 ⟨Nat.le_of_ble_eq_true rfl, rfl⟩ q2239 dX2_dataCome_36 ?_
      refine zi_iconst (v := 1) dX2_dataCome_39 (by decide) ?_
      refine zi_iadd dX2_dataCome_40 ?_
      refine ti_putI 69 ⟨Nat.le_of_ble_eq_true rfl, rfl, rfl⟩ (tyX2_ok 69 (Nat.le_of_ble_eq_true rfl)) q2239 dX2_dataCome_41 ?_
      refine x_lI (fun σ29 => z_V g (d + 5) YX2_dataCome 44 [(5, .int r3), (4, .int s1), (0, .ref b), (1, .int a1), (2, .int a2), (3, .int a3)] [] (t_m b σ29 μ) Q) h (fun σ29 h => ?_)
      refine zi_return rfl dX2_dataCome_44 ?_
      exact x_r0 h hQ
  refine zi_icmp_lt 15 dX2_dataCome_8 (by decide) (fun c30 => ?_) (fun c30 => ?_)
  · replace h := x_iT h c30
    refine zi_iconst (v := 0) dX2_dataCome_15 (by decide) ?_
    exact hJ16 _ h
  · replace h := x_iF h c30
    refine zi_iconst (v := 1) dX2_dataCome_11 (by decide) ?_
    refine zi_goto 16 dX2_dataCome_12 (by decide) ?_
    exact hJ16 _ h
noncomputable def D_nackComes_51 (f1_11 : Int32) (f3_12 : Int32) (f4_13 : Int32) (f5_14 : Int32) (k91 : t_S → Option t_S) : Nat → Int32 → t_S → Option t_S
  | 0, _, _ => none
  | f + 1, v6_15, σ16 =>
    if (t_i σ16 23) ≤ v6_15 then (k91 σ16) else
    x_ga f5_14 384 fun j19 =>
    x_b (D_has (t_a σ16 37 j19) v6_15) fun r21 =>
    if r21 = 0 then (x_l (v6_15 + (1 : Int32)) fun v23 =>
    D_nackComes_51 f1_11 f3_12 f4_13 f5_14 k91 f v23 σ16) else
    x_b (D_nackTo f1_11 v6_15 f3_12 f4_13 σ16) fun σ25 =>
    x_l (v6_15 + (1 : Int32)) fun v26 =>
    D_nackComes_51 f1_11 f3_12 f4_13 f5_14 k91 f v26 σ25
theorem w_nackComes_51 {f1_11 : Int32} {f3_12 : Int32} {f4_13 : Int32} {f5_14 : Int32}  {k91 : t_S → Option t_S} (hk91 : ∀ (σ17 : t_S), k91 σ17 = some σz → z_V g (d + 5) YX2_nackComes 91 [(0, .ref b), (1, .int f1_11), (5, .int f5_14)] [] (t_m b σ17 μ) Q) (hQ : Q (.inl none) (t_m b σz μ)) : ∀ (f : Nat) (v6_15 : Int32) (σ16 : t_S), D_nackComes_51 f1_11 f3_12 f4_13 f5_14 k91 f v6_15 σ16 = some σz → z_V g (d + 5) YX2_nackComes 51 [(0, .ref b), (1, .int f1_11), (3, .int f3_12), (4, .int f4_13), (5, .int f5_14), (6, .int v6_15)] [] (t_m b σ16 μ) Q := by
  intro f
  induction f with
  | zero =>
    intro v6_15 σ16 h
    exact absurd h (x_n _)
  | succ f ih =>
    intro v6_15 σ16 h
    refine zi_iload 5 dX2_nackComes_51 rfl ?_
    refine zi_aload_n 0 dX2_nackComes_53 rfl rfl ?_
    refine ti_getI 23 ⟨Nat.le_of_ble_eq_true rfl, rfl⟩ q2193 dX2_nackComes_54 ?_
    refine zi_icmp_ge 91 dX2_nackComes_57 (by decide) (fun c18 => ?_) (fun c18 => ?_)
    · replace h := x_iT h c18
      refine zi_sub [0, 1, 4] rfl ?_
      exact hk91 _ h
    · replace h := x_iF h c18
      refine zi_aload_n 0 dX2_nackComes_60 rfl rfl ?_
      refine ti_getA 37 21 t_o37 q2207 dX2_nackComes_61 ?_
      refine zi_iload 4 dX2_nackComes_64 rfl ?_
      obtain ⟨j19, hj19, h⟩ := x_gaE h
      refine ti_iald 37 j19 384 20 ⟨rfl, rfl⟩ hj19 dX2_nackComes_66 ?_
      refine zi_iload 5 dX2_nackComes_67 rfl ?_
      obtain ⟨r21, h20, h⟩ := x_bE h
      refine zi_callS [.int (t_a σ16 37 j19), .int v6_15] mX2_has rfl q2682 rfl rfl (Nat.le_of_ble_eq_true rfl) dX2_nackComes_69 ?_
      refine w_has h20 ?_
      refine zi_if_eq 85 dX2_nackComes_72 (by decide) (fun c22 => ?_) (fun c22 => ?_)
      · replace h := x_iT h c22
        refine zi_iinc (v := (v6_15 + (1 : Int32))) (lc1 := [(6, _), (0, _), (1, _), (3, _), (4, _), (5, _)]) 5 dX2_nackComes_85 rfl rfl (Nat.le_of_ble_eq_true rfl) rfl ?_
        refine x_lI (fun v23 => z_V g (d + 5) YX2_nackComes 88 [(6, .int v23), (0, .ref b), (1, .int f1_11), (3, .int f3_12), (4, .int f4_13), (5, .int f5_14)] [] (t_m b σ16 μ) Q) h (fun v23 h => ?_)
        refine zi_goto 51 dX2_nackComes_88 (by decide) ?_
        refine zi_sub [1, 2, 3, 4, 5, 0] rfl ?_
        exact ih _ _ h
      · replace h := x_iF h c22
        refine zi_aload_n 0 dX2_nackComes_75 rfl rfl ?_
        refine zi_iload_n 1 dX2_nackComes_76 rfl rfl ?_
        refine zi_iload 5 dX2_nackComes_77 rfl ?_
        refine zi_iload_n 2 dX2_nackComes_79 rfl rfl ?_
        refine zi_iload 3 dX2_nackComes_80 rfl ?_
        obtain ⟨σ25, h24, h⟩ := x_bE h
        refine zi_callV [.int f1_11, .int v6_15, .int f3_12, .int f4_13] mX2_nackTo rfl q2666 t_rec rfl rfl (Nat.le_of_ble_eq_true rfl) dX2_nackComes_82 ?_
        refine w_nackTo h24 ?_
        refine zi_iinc (v := (v6_15 + (1 : Int32))) (lc1 := [(6, _), (0, _), (1, _), (3, _), (4, _), (5, _)]) 5 dX2_nackComes_85 rfl rfl (Nat.le_of_ble_eq_true rfl) rfl ?_
        refine x_lI (fun v26 => z_V g (d + 5) YX2_nackComes 88 [(6, .int v26), (0, .ref b), (1, .int f1_11), (3, .int f3_12), (4, .int f4_13), (5, .int f5_14)] [] (t_m b σ25 μ) Q) h (fun v26 h => ?_)
        refine zi_goto 51 dX2_nackComes_88 (by decide) ?_
        refine zi_sub [1, 2, 3, 4, 5, 0] rfl ?_
        exact ih _ _ h
noncomputable def D_nackComes_94 (f1_28 : Int32) (f5_29 : Int32) (k128 : t_S → Option t_S) : Nat → Int32 → t_S → Option t_S
  | 0, _, _ => none
  | f + 1, v6_30, σ31 =>
    if (64 : Int32) ≤ v6_30 then (k128 σ31) else
    x_ga f5_29 384 fun j34 =>
    x_b (D_hasL (t_l σ31 38 j34) v6_30) fun r36 =>
    if r36 = 0 then (x_l (v6_30 + (1 : Int32)) fun v38 =>
    D_nackComes_94 f1_28 f5_29 k128 f v38 σ31) else
    x_b (D_refused v6_30 σ31) fun σ40 =>
    x_l (v6_30 + (1 : Int32)) fun v41 =>
    D_nackComes_94 f1_28 f5_29 k128 f v41 σ40
theorem w_nackComes_94 {f1_28 : Int32} {f5_29 : Int32}  {k128 : t_S → Option t_S} (hk128 : ∀ (σ32 : t_S), k128 σ32 = some σz → z_V g (d + 5) YX2_nackComes 128 [(0, .ref b), (1, .int f1_28), (5, .int f5_29)] [] (t_m b σ32 μ) Q) (hQ : Q (.inl none) (t_m b σz μ)) : ∀ (f : Nat) (v6_30 : Int32) (σ31 : t_S), D_nackComes_94 f1_28 f5_29 k128 f v6_30 σ31 = some σz → z_V g (d + 5) YX2_nackComes 94 [(0, .ref b), (1, .int f1_28), (5, .int f5_29), (6, .int v6_30)] [] (t_m b σ31 μ) Q := by
  intro f
  induction f with
  | zero =>
    intro v6_30 σ31 h
    exact absurd h (x_n _)
  | succ f ih =>
    intro v6_30 σ31 h
    refine zi_iload 3 dX2_nackComes_94 rfl ?_
    refine zi_bipush (v := 64) dX2_nackComes_96 (by decide) ?_
    refine zi_icmp_ge 128 dX2_nackComes_98 (by decide) (fun c33 => ?_) (fun c33 => ?_)
    · replace h := x_iT h c33
      refine zi_sub [0, 1, 2] rfl ?_
      exact hk128 _ h
    · replace h := x_iF h c33
      refine zi_aload_n 0 dX2_nackComes_101 rfl rfl ?_
      refine ti_getA 38 22 t_o38 q2208 dX2_nackComes_102 ?_
      refine zi_iload 2 dX2_nackComes_105 rfl ?_
      obtain ⟨j34, hj34, h⟩ := x_gaE h
      refine ti_lald 38 j34 384 21 ⟨rfl, rfl⟩ hj34 dX2_nackComes_107 ?_
      refine zi_iload 3 dX2_nackComes_108 rfl ?_
      obtain ⟨r36, h35, h⟩ := x_bE h
      refine zi_callS [.long (t_l σ31 38 j34), .int v6_30] mX2_hasL rfl q2659 rfl rfl (Nat.le_of_ble_eq_true rfl) dX2_nackComes_110 ?_
      refine w_hasL h35 ?_
      refine zi_if_eq 122 dX2_nackComes_113 (by decide) (fun c37 => ?_) (fun c37 => ?_)
      · replace h := x_iT h c37
        refine zi_iinc (v := (v6_30 + (1 : Int32))) (lc1 := [(6, _), (0, _), (1, _), (5, _)]) 3 dX2_nackComes_122 rfl rfl (Nat.le_of_ble_eq_true rfl) rfl ?_
        refine x_lI (fun v38 => z_V g (d + 5) YX2_nackComes 125 [(6, .int v38), (0, .ref b), (1, .int f1_28), (5, .int f5_29)] [] (t_m b σ31 μ) Q) h (fun v38 h => ?_)
        refine zi_goto 94 dX2_nackComes_125 (by decide) ?_
        refine zi_sub [1, 2, 3, 0] rfl ?_
        exact ih _ _ h
      · replace h := x_iF h c37
        refine zi_aload_n 0 dX2_nackComes_116 rfl rfl ?_
        refine zi_iload 3 dX2_nackComes_117 rfl ?_
        obtain ⟨σ40, h39, h⟩ := x_bE h
        refine zi_callV [.int v6_30] mX2_refused rfl q2670 t_rec rfl rfl (Nat.le_of_ble_eq_true rfl) dX2_nackComes_119 ?_
        refine w_refused h39 ?_
        refine zi_iinc (v := (v6_30 + (1 : Int32))) (lc1 := [(6, _), (0, _), (1, _), (5, _)]) 3 dX2_nackComes_122 rfl rfl (Nat.le_of_ble_eq_true rfl) rfl ?_
        refine x_lI (fun v41 => z_V g (d + 5) YX2_nackComes 125 [(6, .int v41), (0, .ref b), (1, .int f1_28), (5, .int f5_29)] [] (t_m b σ40 μ) Q) h (fun v41 h => ?_)
        refine zi_goto 94 dX2_nackComes_125 (by decide) ?_
        refine zi_sub [1, 2, 3, 0] rfl ?_
        exact ih _ _ h
noncomputable def D_nackComes (a1 : Int32) (a2 : Int32) (a3 : Int32) (a4 : Int32) (σ : t_S) : Option t_S :=
  x_b (D_entryOf a1 a3 a4 σ) fun r2 =>
  if r2 = (-1 : Int32) then (some σ) else
  x_ga r2 384 fun j4 =>
  if (t_a σ 41 j4) = a2 then (x_b2 (D_goesOn a1 r2 σ) fun r7 σ8 =>
  if r7 = 0 then (x_l (t_si σ8 71 ((t_i σ8 71) + (1 : Int32))) fun σ10 =>
  D_nackComes_51 a1 a3 a4 r2
    (fun (σ27 : t_S) => D_nackComes_94 a1 r2
    (fun (σ42 : t_S) => x_ga a1 6 fun j43 =>
  x_ga r2 384 fun j44 =>
  x_ga a1 6 fun j45 =>
  x_l (t_sl σ42 28 j45 ((t_l σ42 28 j43) ||| (t_l σ42 39 j44))) fun σ46 =>
  x_b (D_removes a1 r2 σ46) fun σ48 =>
  some σ48)
    x_F (0 : Int32) σ27)
    x_F (0 : Int32) σ10) else
  some σ8) else
  some σ
theorem w_nackComes {a1 : Int32} {a2 : Int32} {a3 : Int32} {a4 : Int32}  (h : D_nackComes a1 a2 a3 a4 σ = some σz) (hQ : Q (.inl none) (t_m b σz μ)) : z_K g (d + 5) YX2_nackComes [.ref b, .int a1, .int a2, .int a3, .int a4] (t_m b σ μ) Q := by
  unfold D_nackComes at h
  refine z_K.of (by decide) rfl (Nat.le_of_ble_eq_true rfl) ?_
  refine zi_aload_n 0 dX2_nackComes_0 rfl rfl ?_
  refine zi_iload_n 1 dX2_nackComes_1 rfl rfl ?_
  refine zi_iload_n 3 dX2_nackComes_2 rfl rfl ?_
  refine zi_iload 4 dX2_nackComes_3 rfl ?_
  obtain ⟨r2, h1, h⟩ := x_bE h
  refine zi_callV [.int a1, .int a3, .int a4] mX2_entryOf rfl q2651 t_rec rfl rfl (Nat.le_of_ble_eq_true rfl) dX2_nackComes_5 ?_
  refine w_entryOf h1 ?_
  refine zi_istore (lc1 := [(5, _), (0, _), (1, _), (2, _), (3, _), (4, _)]) dX2_nackComes_8 (Nat.le_of_ble_eq_true rfl) rfl ?_
  refine zi_iload 0 dX2_nackComes_10 rfl ?_
  refine zi_iconst (v := -1) dX2_nackComes_12 (by decide) ?_
  refine zi_icmp_eq 37 dX2_nackComes_13 (by decide) (fun c3 => ?_) (fun c3 => ?_)
  · replace h := x_iT h c3
    refine zi_return rfl dX2_nackComes_37 ?_
    exact x_r0 h hQ
  · replace h := x_iF h c3
    refine zi_aload_n 1 dX2_nackComes_16 rfl rfl ?_
    refine ti_getA 41 25 t_o41 q2211 dX2_nackComes_17 ?_
    refine zi_iload 0 dX2_nackComes_20 rfl ?_
    obtain ⟨j4, hj4, h⟩ := x_gaE h
    refine ti_iald 41 j4 384 24 ⟨rfl, rfl⟩ hj4 dX2_nackComes_22 ?_
    refine zi_iload_n 3 dX2_nackComes_23 rfl rfl ?_
    refine zi_icmp_ne 37 dX2_nackComes_24 (by decide) (fun c5 => ?_) (fun c5 => ?_)
    · replace h := x_iF h c5
      refine zi_return rfl dX2_nackComes_37 ?_
      exact x_r0 h hQ
    · replace h := x_iT h c5
      refine zi_aload_n 1 dX2_nackComes_27 rfl rfl ?_
      refine zi_iload_n 2 dX2_nackComes_28 rfl rfl ?_
      refine zi_iload 0 dX2_nackComes_29 rfl ?_
      obtain ⟨r7, σ8, h6, h⟩ := x_b2E h
      refine zi_callV [.int a1, .int r2] mX2_goesOn rfl q2727 t_rec rfl rfl (Nat.le_of_ble_eq_true rfl) dX2_nackComes_31 ?_
      refine w_goesOn h6 ?_
      refine zi_if_eq 38 dX2_nackComes_34 (by decide) (fun c9 => ?_) (fun c9 => ?_)
      · replace h := x_iT h c9
        refine zi_aload_n 1 dX2_nackComes_38 rfl rfl ?_
        refine zi_dup dX2_nackComes_39 rfl ?_
        refine ti_getI 71 ⟨Nat.le_of_ble_eq_true rfl, rfl⟩ q2241 dX2_nackComes_40 ?_
        refine zi_iconst (v := 1) dX2_nackComes_43 (by decide) ?_
        refine zi_iadd dX2_nackComes_44 ?_
        refine ti_putI 71 ⟨Nat.le_of_ble_eq_true rfl, rfl, rfl⟩ (tyX2_ok 71 (Nat.le_of_ble_eq_true rfl)) q2241 dX2_nackComes_45 ?_
        refine x_lI (fun σ10 => z_V g (d + 5) YX2_nackComes 48 [(5, .int r2), (0, .ref b), (1, .int a1), (2, .int a2), (3, .int a3), (4, .int a4)] [] (t_m b σ10 μ) Q) h (fun σ10 h => ?_)
        refine zi_iconst (v := 0) dX2_nackComes_48 (by decide) ?_
        refine zi_istore (lc1 := [(6, _), (5, _), (0, _), (1, _), (2, _), (3, _), (4, _)]) dX2_nackComes_49 (Nat.le_of_ble_eq_true rfl) rfl ?_
        refine zi_sub [2, 3, 5, 6, 1, 0] rfl ?_
        refine w_nackComes_51 (fun σ27 h => ?_) hQ _ _ _ h
        · refine zi_iconst (v := 0) dX2_nackComes_91 (by decide) ?_
          refine zi_istore (lc1 := [(6, _), (0, _), (1, _), (5, _)]) dX2_nackComes_92 (Nat.le_of_ble_eq_true rfl) rfl ?_
          refine zi_sub [1, 2, 3, 0] rfl ?_
          refine w_nackComes_94 (fun σ42 h => ?_) hQ _ _ _ h
          · refine zi_aload_n 0 dX2_nackComes_128 rfl rfl ?_
            refine ti_getA 28 12 t_o28 q2198 dX2_nackComes_129 ?_
            refine zi_iload_n 1 dX2_nackComes_132 rfl rfl ?_
            refine zi_dup2_11 dX2_nackComes_133 rfl rfl ?_
            obtain ⟨j43, hj43, h⟩ := x_gaE h
            refine ti_lald 28 j43 6 11 ⟨rfl, rfl⟩ hj43 dX2_nackComes_134 ?_
            refine zi_aload_n 0 dX2_nackComes_135 rfl rfl ?_
            refine ti_getA 39 23 t_o39 q2209 dX2_nackComes_136 ?_
            refine zi_iload 2 dX2_nackComes_139 rfl ?_
            obtain ⟨j44, hj44, h⟩ := x_gaE h
            refine ti_lald 39 j44 384 22 ⟨rfl, rfl⟩ hj44 dX2_nackComes_141 ?_
            refine zi_lor dX2_nackComes_142 ?_
            obtain ⟨j45, hj45, h⟩ := x_gaE h
            refine ti_last 28 j45 6 11 ⟨rfl, rfl⟩ hj45 dX2_nackComes_143 ?_
            refine x_lI (fun σ46 => z_V g (d + 5) YX2_nackComes 144 [(0, .ref b), (1, .int a1), (5, .int r2)] [] (t_m b σ46 μ) Q) h (fun σ46 h => ?_)
            refine zi_aload_n 0 dX2_nackComes_144 rfl rfl ?_
            refine zi_iload_n 1 dX2_nackComes_145 rfl rfl ?_
            refine zi_iload 2 dX2_nackComes_146 rfl ?_
            obtain ⟨σ48, h47, h⟩ := x_bE h
            refine zi_callV [.int a1, .int r2] mX2_removes rfl q2744 t_rec rfl rfl (Nat.le_of_ble_eq_true rfl) dX2_nackComes_148 ?_
            refine w_removes h47 ?_
            refine zi_return rfl dX2_nackComes_151 ?_
            exact x_r0 h hQ
      · replace h := x_iF h c9
        refine zi_return rfl dX2_nackComes_37 ?_
        exact x_r0 h hQ
noncomputable def D_trail (a1 : Int32) (a2 : Int32) (a3 : Int32) (a4 : Int32) (σ : t_S) : Option (Int32 × t_S) :=
  x_l (t_si σ 0 (0 : Int32)) fun σ1 =>
  x_b2 (D_hasNet a1 σ1) fun r3 σ4 =>
  if r3 = 0 then (some ((-1 : Int32), σ4)) else
  x_b (D_isNode a2 σ4) fun r7 =>
  if r7 = 0 then (some ((-1 : Int32), σ4)) else
  x_b (D_isName a3) fun r10 =>
  if r10 = 0 then (some ((-1 : Int32), σ4)) else
  x_b (D_begin (-1 : Int32) σ4) fun σ13 =>
  x_b2 (D_walks a2 a3 σ13) fun r15 σ16 =>
  x_l (if a4 = (-1 : Int32) then (some ((t_i σ16 79), σ16)) else
  some (r15, σ16)) fun J56 =>
  if a4 = (-1 : Int32) then (J56) else
  if a4 = (20 : Int32) then (J56) else
  x_b (D_in a4 (0 : Int32) ((t_i σ16 79) - (1 : Int32))) fun r21 =>
  if r21 = 0 then (some ((-1 : Int32), σ16)) else
  x_ga a4 8 fun j23 =>
  some ((t_a σ16 78 j23), σ16)
theorem w_trail {a1 : Int32} {a2 : Int32} {a3 : Int32} {a4 : Int32} {rz : Int32} (h : D_trail a1 a2 a3 a4 σ = some (rz, σz)) (hQ : Q (.inl (some (.int rz))) (t_m b σz μ)) : z_K g (d + 5) YX2_trail [.ref b, .int a1, .int a2, .int a3, .int a4] (t_m b σ μ) Q := by
  unfold D_trail at h
  refine z_K.of (by decide) rfl (Nat.le_of_ble_eq_true rfl) ?_
  refine zi_aload_n 0 dX2_trail_0 rfl rfl ?_
  refine zi_iconst (v := 0) dX2_trail_1 (by decide) ?_
  refine ti_putI 0 ⟨Nat.le_of_ble_eq_true rfl, rfl, rfl⟩ (tyX2_ok 0 (Nat.le_of_ble_eq_true rfl)) q2170 dX2_trail_2 ?_
  refine x_lI (fun σ1 => z_V g (d + 5) YX2_trail 5 [(0, .ref b), (1, .int a1), (2, .int a2), (3, .int a3), (4, .int a4)] [] (t_m b σ1 μ) Q) h (fun σ1 h => ?_)
  refine zi_aload_n 0 dX2_trail_5 rfl rfl ?_
  refine zi_iload_n 1 dX2_trail_6 rfl rfl ?_
  obtain ⟨r3, σ4, h2, h⟩ := x_b2E h
  refine zi_callV [.int a1] mX2_hasNet rfl q2563 t_rec rfl rfl (Nat.le_of_ble_eq_true rfl) dX2_trail_7 ?_
  refine w_hasNet h2 ?_
  refine zi_if_eq 28 dX2_trail_10 (by decide) (fun c5 => ?_) (fun c5 => ?_)
  · replace h := x_iT h c5
    refine zi_iconst (v := -1) dX2_trail_28 (by decide) ?_
    refine zi_ireturn rfl rfl dX2_trail_29 ?_
    exact x_r2i h hQ
  · replace h := x_iF h c5
    refine zi_aload_n 0 dX2_trail_13 rfl rfl ?_
    refine zi_iload_n 2 dX2_trail_14 rfl rfl ?_
    obtain ⟨r7, h6, h⟩ := x_bE h
    refine zi_callV [.int a2] mX2_isNode rfl q2571 t_rec rfl rfl (Nat.le_of_ble_eq_true rfl) dX2_trail_15 ?_
    refine w_isNode h6 ?_
    refine zi_if_eq 28 dX2_trail_18 (by decide) (fun c8 => ?_) (fun c8 => ?_)
    · replace h := x_iT h c8
      refine zi_iconst (v := -1) dX2_trail_28 (by decide) ?_
      refine zi_ireturn rfl rfl dX2_trail_29 ?_
      exact x_r2i h hQ
    · replace h := x_iF h c8
      refine zi_iload_n 3 dX2_trail_21 rfl rfl ?_
      obtain ⟨r10, h9, h⟩ := x_bE h
      refine zi_callS [.int a3] mX2_isName rfl q2830 rfl rfl (Nat.le_of_ble_eq_true rfl) dX2_trail_22 ?_
      refine w_isName h9 ?_
      refine zi_if_ne 30 dX2_trail_25 (by decide) (fun c11 => ?_) (fun c11 => ?_)
      · replace h := x_iF h c11
        refine zi_aload_n 0 dX2_trail_30 rfl rfl ?_
        refine zi_iconst (v := -1) dX2_trail_31 (by decide) ?_
        obtain ⟨σ13, h12, h⟩ := x_bE h
        refine zi_callV [.int (-1 : Int32)] mX2_begin rfl q2631 t_rec rfl rfl (Nat.le_of_ble_eq_true rfl) dX2_trail_32 ?_
        refine w_begin h12 ?_
        refine zi_aload_n 0 dX2_trail_35 rfl rfl ?_
        refine zi_iload_n 2 dX2_trail_36 rfl rfl ?_
        refine zi_iload_n 3 dX2_trail_37 rfl rfl ?_
        obtain ⟨r15, σ16, h14, h⟩ := x_b2E h
        refine zi_callV [.int a2, .int a3] mX2_walks rfl q2849 t_rec rfl rfl (Nat.le_of_ble_eq_true rfl) dX2_trail_38 ?_
        refine w_walks h14 ?_
        refine zi_istore (lc1 := [(5, _), (0, _), (1, _), (2, _), (3, _), (4, _)]) dX2_trail_41 (Nat.le_of_ble_eq_true rfl) rfl ?_
        refine zi_iload 5 dX2_trail_43 rfl ?_
        refine zi_iconst (v := -1) dX2_trail_45 (by decide) ?_
        refine x_jI (fun (J : Option (Int32 × t_S)) => J = some (rz, σz) → z_V g (d + 5) YX2_trail 56 [(0, .ref b), (4, .int a4), (5, .int r15)] [] (t_m b σ16 μ) Q) h (fun  h => ?_) (fun J56 hJ56 h => ?_)
        · refine zi_iload 1 dX2_trail_56 rfl ?_
          refine zi_iconst (v := -1) dX2_trail_58 (by decide) ?_
          refine zi_icmp_ne 69 dX2_trail_59 (by decide) (fun c17 => ?_) (fun c17 => ?_)
          · replace h := x_iF h c17
            refine zi_iload 2 dX2_trail_69 rfl ?_
            refine zi_ireturn rfl rfl dX2_trail_71 ?_
            exact x_r2i h hQ
          · replace h := x_iT h c17
            refine zi_aload_n 0 dX2_trail_62 rfl rfl ?_
            refine ti_getI 79 ⟨Nat.le_of_ble_eq_true rfl, rfl⟩ q2249 dX2_trail_63 ?_
            refine zi_goto 71 dX2_trail_66 (by decide) ?_
            refine zi_ireturn rfl rfl dX2_trail_71 ?_
            exact x_r2i h hQ
        refine zi_icmp_eq 56 dX2_trail_46 (by decide) (fun c18 => ?_) (fun c18 => ?_)
        · replace h := x_iT h c18
          refine zi_sub [1, 5, 0] rfl ?_
          exact hJ56  h
        · replace h := x_iF h c18
          refine zi_iload 5 dX2_trail_49 rfl ?_
          refine zi_bipush (v := 20) dX2_trail_51 (by decide) ?_
          refine zi_icmp_ne 72 dX2_trail_53 (by decide) (fun c19 => ?_) (fun c19 => ?_)
          · replace h := x_iF h c19
            refine zi_iload 5 dX2_trail_72 rfl ?_
            refine zi_iconst (v := 0) dX2_trail_74 (by decide) ?_
            refine zi_aload_n 1 dX2_trail_75 rfl rfl ?_
            refine ti_getI 79 ⟨Nat.le_of_ble_eq_true rfl, rfl⟩ q2249 dX2_trail_76 ?_
            refine zi_iconst (v := 1) dX2_trail_79 (by decide) ?_
            refine zi_isub dX2_trail_80 ?_
            obtain ⟨r21, h20, h⟩ := x_bE h
            refine zi_callS [.int a4, .int (0 : Int32), .int ((t_i σ16 79) - (1 : Int32))] mX2_in rfl q2445 rfl rfl (Nat.le_of_ble_eq_true rfl) dX2_trail_81 ?_
            refine w_in h20 ?_
            refine zi_if_eq 97 dX2_trail_84 (by decide) (fun c22 => ?_) (fun c22 => ?_)
            · replace h := x_iT h c22
              refine zi_iconst (v := -1) dX2_trail_97 (by decide) ?_
              refine zi_ireturn rfl rfl dX2_trail_98 ?_
              exact x_r2i h hQ
            · replace h := x_iF h c22
              refine zi_aload_n 1 dX2_trail_87 rfl rfl ?_
              refine ti_getA 78 49 t_o78 q2248 dX2_trail_88 ?_
              refine zi_iload 5 dX2_trail_91 rfl ?_
              obtain ⟨j23, hj23, h⟩ := x_gaE h
              refine ti_iald 78 j23 8 48 ⟨rfl, rfl⟩ hj23 dX2_trail_93 ?_
              refine zi_goto 98 dX2_trail_94 (by decide) ?_
              refine zi_ireturn rfl rfl dX2_trail_98 ?_
              exact x_r2i h hQ
          · replace h := x_iT h c19
            refine zi_sub [1, 5, 0] rfl ?_
            exact hJ56  h
      · replace h := x_iT h c11
        refine zi_iconst (v := -1) dX2_trail_28 (by decide) ?_
        refine zi_ireturn rfl rfl dX2_trail_29 ?_
        exact x_r2i h hQ
noncomputable def D_readText_2 (f1_1 : Int32) (k61 : t_S → Option (Int32 × t_S)) : Nat → Int32 → t_S → Option (Int32 × t_S)
  | 0, _, _ => none
  | f + 1, v2_2, σ3 =>
    if (122 : Int32) ≤ v2_2 then (k61 σ3) else
    if f1_1 = 0 then (if v2_2 = 0 then (x_ga v2_2 122 fun j21 =>
    x_l (t_sa σ3 18 j21 (3 : Int32)) fun σ22 =>
    x_l (v2_2 + (1 : Int32)) fun v23 =>
    D_readText_2 f1_1 k61 f v23 σ22) else
    if v2_2 = (1 : Int32) then (x_ga v2_2 122 fun j18 =>
    x_l (t_sa σ3 18 j18 (20 : Int32)) fun σ19 =>
    x_l (v2_2 + (1 : Int32)) fun v20 =>
    D_readText_2 f1_1 k61 f v20 σ19) else
    x_b (D_in v2_2 (5 : Int32) (10 : Int32)) fun r10 =>
    if r10 = 0 then (x_ga v2_2 122 fun j12 =>
    x_l (t_sa σ3 18 j12 (0 : Int32)) fun σ13 =>
    x_l (v2_2 + (1 : Int32)) fun v14 =>
    D_readText_2 f1_1 k61 f v14 σ13) else
    x_ga v2_2 122 fun j15 =>
    x_l (t_sa σ3 18 j15 (2 : Int32)) fun σ16 =>
    x_l (v2_2 + (1 : Int32)) fun v17 =>
    D_readText_2 f1_1 k61 f v17 σ16) else
    x_ga v2_2 122 fun j24 =>
    x_l (t_sa σ3 18 j24 (0 : Int32)) fun σ25 =>
    x_l (v2_2 + (1 : Int32)) fun v26 =>
    D_readText_2 f1_1 k61 f v26 σ25
theorem w_readText_2 {f1_1 : Int32} {rz : Int32} {k61 : t_S → Option (Int32 × t_S)} (hk61 : ∀ (σ4 : t_S), k61 σ4 = some (rz, σz) → z_V g (d + 6) YX2_readText 61 [(0, .ref b), (1, .int f1_1)] [] (t_m b σ4 μ) Q) (hQ : Q (.inl (some (.int rz))) (t_m b σz μ)) : ∀ (f : Nat) (v2_2 : Int32) (σ3 : t_S), D_readText_2 f1_1 k61 f v2_2 σ3 = some (rz, σz) → z_V g (d + 6) YX2_readText 2 [(0, .ref b), (1, .int f1_1), (2, .int v2_2)] [] (t_m b σ3 μ) Q := by
  intro f
  induction f with
  | zero =>
    intro v2_2 σ3 h
    exact absurd h (x_n _)
  | succ f ih =>
    intro v2_2 σ3 h
    refine zi_iload_n 2 dX2_readText_2 rfl rfl ?_
    refine zi_bipush (v := 122) dX2_readText_3 (by decide) ?_
    refine zi_icmp_ge 61 dX2_readText_5 (by decide) (fun c5 => ?_) (fun c5 => ?_)
    · replace h := x_iT h c5
      refine zi_sub [0, 1] rfl ?_
      exact hk61 _ h
    · replace h := x_iF h c5
      refine zi_aload_n 0 dX2_readText_8 rfl rfl ?_
      refine ti_getA 18 9 t_o18 q2188 dX2_readText_9 ?_
      refine zi_iload_n 2 dX2_readText_12 rfl rfl ?_
      refine zi_iload_n 1 dX2_readText_13 rfl rfl ?_
      refine zi_if_eq 21 dX2_readText_14 (by decide) (fun c6 => ?_) (fun c6 => ?_)
      · replace h := x_iT h c6
        refine zi_iload_n 2 dX2_readText_21 rfl rfl ?_
        refine zi_if_ne 29 dX2_readText_22 (by decide) (fun c7 => ?_) (fun c7 => ?_)
        · replace h := x_iF h c7
          refine zi_iload_n 2 dX2_readText_29 rfl rfl ?_
          refine zi_iconst (v := 1) dX2_readText_30 (by decide) ?_
          refine zi_icmp_ne 39 dX2_readText_31 (by decide) (fun c8 => ?_) (fun c8 => ?_)
          · replace h := x_iF h c8
            refine zi_iload_n 2 dX2_readText_39 rfl rfl ?_
            refine zi_iconst (v := 5) dX2_readText_40 (by decide) ?_
            refine zi_bipush (v := 10) dX2_readText_41 (by decide) ?_
            obtain ⟨r10, h9, h⟩ := x_bE h
            refine zi_callS [.int v2_2, .int (5 : Int32), .int (10 : Int32)] mX2_in rfl q2445 rfl rfl (Nat.le_of_ble_eq_true rfl) dX2_readText_43 ?_
            refine w_in h9 ?_
            refine zi_if_eq 53 dX2_readText_46 (by decide) (fun c11 => ?_) (fun c11 => ?_)
            · replace h := x_iT h c11
              refine zi_iconst (v := 0) dX2_readText_53 (by decide) ?_
              obtain ⟨j12, hj12, h⟩ := x_gaE h
              refine ti_iast 18 j12 122 8 ⟨rfl, rfl⟩ hj12 dX2_readText_54 ?_
              refine x_lI (fun σ13 => z_V g (d + 6) YX2_readText 55 [(0, .ref b), (1, .int f1_1), (2, .int v2_2)] [] (t_m b σ13 μ) Q) h (fun σ13 h => ?_)
              refine zi_iinc (v := (v2_2 + (1 : Int32))) (lc1 := [(2, _), (0, _), (1, _)]) 2 dX2_readText_55 rfl rfl (Nat.le_of_ble_eq_true rfl) rfl ?_
              refine x_lI (fun v14 => z_V g (d + 6) YX2_readText 58 [(2, .int v14), (0, .ref b), (1, .int f1_1)] [] (t_m b σ13 μ) Q) h (fun v14 h => ?_)
              refine zi_goto 2 dX2_readText_58 (by decide) ?_
              refine zi_sub [1, 2, 0] rfl ?_
              exact ih _ _ h
            · replace h := x_iF h c11
              refine zi_iconst (v := 2) dX2_readText_49 (by decide) ?_
              refine zi_goto 54 dX2_readText_50 (by decide) ?_
              obtain ⟨j15, hj15, h⟩ := x_gaE h
              refine ti_iast 18 j15 122 8 ⟨rfl, rfl⟩ hj15 dX2_readText_54 ?_
              refine x_lI (fun σ16 => z_V g (d + 6) YX2_readText 55 [(0, .ref b), (1, .int f1_1), (2, .int v2_2)] [] (t_m b σ16 μ) Q) h (fun σ16 h => ?_)
              refine zi_iinc (v := (v2_2 + (1 : Int32))) (lc1 := [(2, _), (0, _), (1, _)]) 2 dX2_readText_55 rfl rfl (Nat.le_of_ble_eq_true rfl) rfl ?_
              refine x_lI (fun v17 => z_V g (d + 6) YX2_readText 58 [(2, .int v17), (0, .ref b), (1, .int f1_1)] [] (t_m b σ16 μ) Q) h (fun v17 h => ?_)
              refine zi_goto 2 dX2_readText_58 (by decide) ?_
              refine zi_sub [1, 2, 0] rfl ?_
              exact ih _ _ h
          · replace h := x_iT h c8
            refine zi_bipush (v := 20) dX2_readText_34 (by decide) ?_
            refine zi_goto 54 dX2_readText_36 (by decide) ?_
            obtain ⟨j18, hj18, h⟩ := x_gaE h
            refine ti_iast 18 j18 122 8 ⟨rfl, rfl⟩ hj18 dX2_readText_54 ?_
            refine x_lI (fun σ19 => z_V g (d + 6) YX2_readText 55 [(0, .ref b), (1, .int f1_1), (2, .int v2_2)] [] (t_m b σ19 μ) Q) h (fun σ19 h => ?_)
            refine zi_iinc (v := (v2_2 + (1 : Int32))) (lc1 := [(2, _), (0, _), (1, _)]) 2 dX2_readText_55 rfl rfl (Nat.le_of_ble_eq_true rfl) rfl ?_
            refine x_lI (fun v20 => z_V g (d + 6) YX2_readText 58 [(2, .int v20), (0, .ref b), (1, .int f1_1)] [] (t_m b σ19 μ) Q) h (fun v20 h => ?_)
            refine zi_goto 2 dX2_readText_58 (by decide) ?_
            refine zi_sub [1, 2, 0] rfl ?_
            exact ih _ _ h
        · replace h := x_iT h c7
          refine zi_iconst (v := 3) dX2_readText_25 (by decide) ?_
          refine zi_goto 54 dX2_readText_26 (by decide) ?_
          obtain ⟨j21, hj21, h⟩ := x_gaE h
          refine ti_iast 18 j21 122 8 ⟨rfl, rfl⟩ hj21 dX2_readText_54 ?_
          refine x_lI (fun σ22 => z_V g (d + 6) YX2_readText 55 [(0, .ref b), (1, .int f1_1), (2, .int v2_2)] [] (t_m b σ22 μ) Q) h (fun σ22 h => ?_)
          refine zi_iinc (v := (v2_2 + (1 : Int32))) (lc1 := [(2, _), (0, _), (1, _)]) 2 dX2_readText_55 rfl rfl (Nat.le_of_ble_eq_true rfl) rfl ?_
          refine x_lI (fun v23 => z_V g (d + 6) YX2_readText 58 [(2, .int v23), (0, .ref b), (1, .int f1_1)] [] (t_m b σ22 μ) Q) h (fun v23 h => ?_)
          refine zi_goto 2 dX2_readText_58 (by decide) ?_
          refine zi_sub [1, 2, 0] rfl ?_
          exact ih _ _ h
      · replace h := x_iF h c6
        refine zi_iconst (v := 0) dX2_readText_17 (by decide) ?_
        refine zi_goto 54 dX2_readText_18 (by decide) ?_
        obtain ⟨j24, hj24, h⟩ := x_gaE h
        refine ti_iast 18 j24 122 8 ⟨rfl, rfl⟩ hj24 dX2_readText_54 ?_
        refine x_lI (fun σ25 => z_V g (d + 6) YX2_readText 55 [(0, .ref b), (1, .int f1_1), (2, .int v2_2)] [] (t_m b σ25 μ) Q) h (fun σ25 h => ?_)
        refine zi_iinc (v := (v2_2 + (1 : Int32))) (lc1 := [(2, _), (0, _), (1, _)]) 2 dX2_readText_55 rfl rfl (Nat.le_of_ble_eq_true rfl) rfl ?_
        refine x_lI (fun v26 => z_V g (d + 6) YX2_readText 58 [(2, .int v26), (0, .ref b), (1, .int f1_1)] [] (t_m b σ25 μ) Q) h (fun v26 h => ?_)
        refine zi_goto 2 dX2_readText_58 (by decide) ?_
        refine zi_sub [1, 2, 0] rfl ?_
        exact ih _ _ h
noncomputable def D_readText (a1 : Int32) (σ : t_S) : Option (Int32 × t_S) :=
  D_readText_2 a1
    (fun (σ27 : t_S) => x_l (t_si σ27 20 (-1 : Int32)) fun σ28 =>
  x_l (t_si σ28 9 (0 : Int32)) fun σ29 =>
  x_l (t_si σ29 16 (0 : Int32)) fun σ30 =>
  x_b (D_token σ30) fun σ32 =>
  x_b2 (D_allLines a1 σ32) fun r34 σ35 =>
  x_l (fun (σ36 : t_S) => x_l (fun (s37 : Int32) (s38 : Int32) => x_ga s37 4 fun j39 =>
  x_l (t_sa σ36 3 j39 s38) fun σ40 =>
  x_l (fun (s41 : Int32) (s42 : Int32) => x_ga s41 4 fun j43 =>
  x_l (t_sa σ40 4 j43 s42) fun σ44 =>
  x_ga (0 : Int32) 4 fun j45 =>
  if (t_a σ44 3 j45) = 0 then (some ((1 : Int32), σ44)) else
  some ((0 : Int32), σ44)) fun J172 =>
  if r34 = 0 then (J172 (0 : Int32) (t_i σ40 15)) else
  if (t_i σ40 16) ≤ 0 then (J172 (0 : Int32) (-1 : Int32)) else
  J172 (0 : Int32) (t_i σ40 17)) fun J140 =>
  if r34 = 0 then (J140 (0 : Int32) (1 : Int32)) else
  J140 (0 : Int32) (t_i σ36 16)) fun J123 =>
  if r34 = 0 then (J123 σ35) else
  if a1 = 0 then (if (t_i σ35 16) = 0 then (x_ga (0 : Int32) 122 fun j53 =>
  if (t_i σ35 20) < (t_a σ35 18 j53) then (J123 σ35) else
  x_b (D_addsFault (4 : Int32) (t_i σ35 11) σ35) fun σ56 =>
  J123 σ56) else
  J123 σ35) else
  J123 σ35)
    x_F (0 : Int32) σ
theorem w_readText {a1 : Int32} {rz : Int32} (h : D_readText a1 σ = some (rz, σz)) (hQ : Q (.inl (some (.int rz))) (t_m b σz μ)) : z_K g (d + 6) YX2_readText [.ref b, .int a1] (t_m b σ μ) Q := by
  unfold D_readText at h
  refine z_K.of (by decide) rfl (Nat.le_of_ble_eq_true rfl) ?_
  refine zi_iconst (v := 0) dX2_readText_0 (by decide) ?_
  refine zi_istore_n (lc1 := [(2, _), (0, _), (1, _)]) dX2_readText_1 rfl (Nat.le_of_ble_eq_true rfl) rfl ?_
  refine zi_sub [1, 2, 0] rfl ?_
  refine w_readText_2 (fun σ27 h => ?_) hQ _ _ _ h
  · refine zi_aload_n 0 dX2_readText_61 rfl rfl ?_
    refine zi_iconst (v := -1) dX2_readText_62 (by decide) ?_
    refine ti_putI 20 ⟨Nat.le_of_ble_eq_true rfl, rfl, rfl⟩ (tyX2_ok 20 (Nat.le_of_ble_eq_true rfl)) q2190 dX2_readText_63 ?_
    refine x_lI (fun σ28 => z_V g (d + 6) YX2_readText 66 [(0, .ref b), (1, .int a1)] [] (t_m b σ28 μ) Q) h (fun σ28 h => ?_)
    refine zi_aload_n 0 dX2_readText_66 rfl rfl ?_
    refine zi_iconst (v := 0) dX2_readText_67 (by decide) ?_
    refine ti_putI 9 ⟨Nat.le_of_ble_eq_true rfl, rfl, rfl⟩ (tyX2_ok 9 (Nat.le_of_ble_eq_true rfl)) q2179 dX2_readText_68 ?_
    refine x_lI (fun σ29 => z_V g (d + 6) YX2_readText 71 [(0, .ref b), (1, .int a1)] [] (t_m b σ29 μ) Q) h (fun σ29 h => ?_)
    refine zi_aload_n 0 dX2_readText_71 rfl rfl ?_
    refine zi_iconst (v := 0) dX2_readText_72 (by decide) ?_
    refine ti_putI 16 ⟨Nat.le_of_ble_eq_true rfl, rfl, rfl⟩ (tyX2_ok 16 (Nat.le_of_ble_eq_true rfl)) q2186 dX2_readText_73 ?_
    refine x_lI (fun σ30 => z_V g (d + 6) YX2_readText 76 [(0, .ref b), (1, .int a1)] [] (t_m b σ30 μ) Q) h (fun σ30 h => ?_)
    refine zi_aload_n 0 dX2_readText_76 rfl rfl ?_
    obtain ⟨σ32, h31, h⟩ := x_bE h
    refine zi_callV [] mX2_token rfl q2460 t_rec rfl rfl (Nat.le_of_ble_eq_true rfl) dX2_readText_77 ?_
    refine w_token h31 ?_
    refine zi_aload_n 0 dX2_readText_80 rfl rfl ?_
    refine zi_iload_n 1 dX2_readText_81 rfl rfl ?_
    obtain ⟨r34, σ35, h33, h⟩ := x_b2E h
    refine zi_callV [.int a1] mX2_allLines rfl q2468 t_rec rfl rfl (Nat.le_of_ble_eq_true rfl) dX2_readText_82 ?_
    refine w_allLines h33 ?_
    refine zi_istore_n (lc1 := [(2, _), (0, _), (1, _)]) dX2_readText_85 rfl (Nat.le_of_ble_eq_true rfl) rfl ?_
    refine zi_iload_n 0 dX2_readText_86 rfl rfl ?_
    refine x_jI (fun (J : t_S → Option (Int32 × t_S)) => ∀ (σ36 : t_S), J σ36 = some (rz, σz) → z_V g (d + 6) YX2_readText 123 [(0, .ref b), (2, .int r34)] [] (t_m b σ36 μ) Q) h (fun σ36 h => ?_) (fun J123 hJ123 h => ?_)
    · refine zi_aload_n 0 dX2_readText_123 rfl rfl ?_
      refine ti_getA 3 3 t_o3 q2173 dX2_readText_124 ?_
      refine zi_iconst (v := 0) dX2_readText_127 (by decide) ?_
      refine zi_iload_n 1 dX2_readText_128 rfl rfl ?_
      refine x_jI (fun (J : Int32 → Int32 → Option (Int32 × t_S)) => ∀ (s37 : Int32) (s38 : Int32), J s37 s38 = some (rz, σz) → z_V g (d + 6) YX2_readText 140 [(0, .ref b), (2, .int r34)] [.int s38, .int s37, .ref (b + 3)] (t_m b σ36 μ) Q) h (fun s37 s38 h => ?_) (fun J140 hJ140 h => ?_)
      · obtain ⟨j39, hj39, h⟩ := x_gaE h
        refine ti_iast 3 j39 4 2 ⟨rfl, rfl⟩ hj39 dX2_readText_140 ?_
        refine x_lI (fun σ40 => z_V g (d + 6) YX2_readText 141 [(0, .ref b), (2, .int r34)] [] (t_m b σ40 μ) Q) h (fun σ40 h => ?_)
        refine zi_aload_n 0 dX2_readText_141 rfl rfl ?_
        refine ti_getA 4 4 t_o4 q2174 dX2_readText_142 ?_
        refine zi_iconst (v := 0) dX2_readText_145 (by decide) ?_
        refine zi_iload_n 1 dX2_readText_146 rfl rfl ?_
        refine x_jI (fun (J : Int32 → Int32 → Option (Int32 × t_S)) => ∀ (s41 : Int32) (s42 : Int32), J s41 s42 = some (rz, σz) → z_V g (d + 6) YX2_readText 172 [(0, .ref b)] [.int s42, .int s41, .ref (b + 4)] (t_m b σ40 μ) Q) h (fun s41 s42 h => ?_) (fun J172 hJ172 h => ?_)
        · obtain ⟨j43, hj43, h⟩ := x_gaE h
          refine ti_iast 4 j43 4 3 ⟨rfl, rfl⟩ hj43 dX2_readText_172 ?_
          refine x_lI (fun σ44 => z_V g (d + 6) YX2_readText 173 [(0, .ref b)] [] (t_m b σ44 μ) Q) h (fun σ44 h => ?_)
          refine zi_aload_n 0 dX2_readText_173 rfl rfl ?_
          refine ti_getA 3 3 t_o3 q2173 dX2_readText_174 ?_
          refine zi_iconst (v := 0) dX2_readText_177 (by decide) ?_
          obtain ⟨j45, hj45, h⟩ := x_gaE h
          refine ti_iald 3 j45 4 2 ⟨rfl, rfl⟩ hj45 dX2_readText_178 ?_
          refine zi_if_ne 186 dX2_readText_179 (by decide) (fun c46 => ?_) (fun c46 => ?_)
          · replace h := x_iF h c46
            refine zi_iconst (v := 0) dX2_readText_186 (by decide) ?_
            refine zi_ireturn rfl rfl dX2_readText_187 ?_
            exact x_r2i h hQ
          · replace h := x_iT h c46
            refine zi_iconst (v := 1) dX2_readText_182 (by decide) ?_
            refine zi_goto 187 dX2_readText_183 (by decide) ?_
            refine zi_ireturn rfl rfl dX2_readText_187 ?_
            exact x_r2i h hQ
        refine zi_if_ne 157 dX2_readText_147 (by decide) (fun c47 => ?_) (fun c47 => ?_)
        · replace h := x_iF h c47
          refine zi_aload_n 0 dX2_readText_157 rfl rfl ?_
          refine ti_getI 16 ⟨Nat.le_of_ble_eq_true rfl, rfl⟩ q2186 dX2_readText_158 ?_
          refine zi_if_le 171 dX2_readText_161 (by decide) (fun c48 => ?_) (fun c48 => ?_)
          · replace h := x_iT h c48
            refine zi_iconst (v := -1) dX2_readText_171 (by decide) ?_
            refine zi_sub [0] rfl ?_
            exact hJ172 _ _ h
          · replace h := x_iF h c48
            refine zi_aload_n 0 dX2_readText_164 rfl rfl ?_
            refine ti_getI 17 ⟨Nat.le_of_ble_eq_true rfl, rfl⟩ q2187 dX2_readText_165 ?_
            refine zi_goto 172 dX2_readText_168 (by decide) ?_
            refine zi_sub [0] rfl ?_
            exact hJ172 _ _ h
        · replace h := x_iT h c47
          refine zi_aload_n 0 dX2_readText_150 rfl rfl ?_
          refine ti_getI 15 ⟨Nat.le_of_ble_eq_true rfl, rfl⟩ q2185 dX2_readText_151 ?_
          refine zi_goto 172 dX2_readText_154 (by decide) ?_
          refine zi_sub [0] rfl ?_
          exact hJ172 _ _ h
      refine zi_if_eq 139 dX2_readText_129 (by decide) (fun c49 => ?_) (fun c49 => ?_)
      · replace h := x_iT h c49
        refine zi_iconst (v := 1) dX2_readText_139 (by decide) ?_
        exact hJ140 _ _ h
      · replace h := x_iF h c49
        refine zi_aload_n 0 dX2_readText_132 rfl rfl ?_
        refine ti_getI 16 ⟨Nat.le_of_ble_eq_true rfl, rfl⟩ q2186 dX2_readText_133 ?_
        refine zi_goto 140 dX2_readText_136 (by decide) ?_
        exact hJ140 _ _ h
    refine zi_if_eq 123 dX2_readText_87 (by decide) (fun c50 => ?_) (fun c50 => ?_)
    · replace h := x_iT h c50
      refine zi_sub [1, 0] rfl ?_
      exact hJ123 _ h
    · replace h := x_iF h c50
      refine zi_iload_n 2 dX2_readText_90 rfl rfl ?_
      refine zi_if_ne 123 dX2_readText_91 (by decide) (fun c51 => ?_) (fun c51 => ?_)
      · replace h := x_iF h c51
        refine zi_sub [1, 0] rfl ?_
        exact hJ123 _ h
      · replace h := x_iT h c51
        refine zi_aload_n 1 dX2_readText_94 rfl rfl ?_
        refine ti_getI 16 ⟨Nat.le_of_ble_eq_true rfl, rfl⟩ q2186 dX2_readText_95 ?_
        refine zi_if_ne 123 dX2_readText_98 (by decide) (fun c52 => ?_) (fun c52 => ?_)
        · replace h := x_iF h c52
          refine zi_sub [1, 0] rfl ?_
          exact hJ123 _ h
        · replace h := x_iT h c52
          refine zi_aload_n 1 dX2_readText_101 rfl rfl ?_
          refine ti_getI 20 ⟨Nat.le_of_ble_eq_true rfl, rfl⟩ q2190 dX2_readText_102 ?_
          refine zi_aload_n 1 dX2_readText_105 rfl rfl ?_
          refine ti_getA 18 9 t_o18 q2188 dX2_readText_106 ?_
          refine zi_iconst (v := 0) dX2_readText_109 (by decide) ?_
          obtain ⟨j53, hj53, h⟩ := x_gaE h
          refine ti_iald 18 j53 122 8 ⟨rfl, rfl⟩ hj53 dX2_readText_110 ?_
          refine zi_icmp_lt 123 dX2_readText_111 (by decide) (fun c54 => ?_) (fun c54 => ?_)
          · replace h := x_iT h c54
            refine zi_sub [1, 0] rfl ?_
            exact hJ123 _ h
          · replace h := x_iF h c54
            refine zi_aload_n 1 dX2_readText_114 rfl rfl ?_
            refine zi_iconst (v := 4) dX2_readText_115 (by decide) ?_
            refine zi_aload_n 1 dX2_readText_116 rfl rfl ?_
            refine ti_getI 11 ⟨Nat.le_of_ble_eq_true rfl, rfl⟩ q2181 dX2_readText_117 ?_
            obtain ⟨σ56, h55, h⟩ := x_bE h
            refine zi_callV [.int (4 : Int32), .int (t_i σ35 11)] mX2_addsFault rfl q2490 t_rec rfl rfl (Nat.le_of_ble_eq_true rfl) dX2_readText_120 ?_
            refine w_addsFault h55 ?_
            refine zi_sub [1, 0] rfl ?_
            exact hJ123 _ h
noncomputable def D_interest (a1 : Int32) (a2 : Int32) (a3 : Int32) (a4 : Int32) (a5 : Int32) (σ : t_S) : Option t_S :=
  x_b (D_entryOf a1 a3 a4 σ) fun r2 =>
  x_b (D_storedAt a1 a3 σ) fun r4 =>
  x_ga a1 6 fun j5 =>
  x_b (D_hasL (t_l σ 28 j5) a5) fun r7 =>
  x_l (x_l (t_si σ 68 ((t_i σ 68) + (1 : Int32))) fun σ8 =>
  x_b (D_firstNack a1 a2 a3 a4 (2 : Int32) σ8) fun σ10 =>
  some σ10) fun J53 =>
  if r7 = 0 then (x_l (x_l (x_b (D_serveFor a1 a3 σ) fun r13 =>
  if r13 = (-1 : Int32) then (if r2 = (-1 : Int32) then (x_b (D_makesEntry a1 a2 a3 a4 a5 σ) fun σ17 =>
  some σ17) else
  x_l (t_si σ 67 ((t_i σ 67) + (1 : Int32))) fun σ18 =>
  x_b (D_joins r2 a2 a5 σ18) fun σ20 =>
  some σ20) else
  x_b (D_serveFor a1 a3 σ) fun r22 =>
  x_b (D_fromServer a1 r22 a2 a3 σ) fun σ24 =>
  some σ24) fun J118 =>
  if r4 = (-1 : Int32) then (J118) else
  x_l (x_b (D_fromStore a1 r4 a2 a3 σ) fun σ27 =>
  some σ27) fun J106 =>
  if a4 = 0 then (J106) else
  x_ga (((6 : Int32) * a1) + r4) 36 fun j29 =>
  if (t_a σ 32 j29) < (t_i σ 27) then (J118) else
  J106) fun J76 =>
  if r2 = (-1 : Int32) then (J76) else
  x_ga r2 384 fun j32 =>
  x_b (D_hasL (t_l σ 39 j32) a5) fun r34 =>
  if r34 = 0 then (J76) else
  J53) else
  J53
theorem w_interest {a1 : Int32} {a2 : Int32} {a3 : Int32} {a4 : Int32} {a5 : Int32}  (h : D_interest a1 a2 a3 a4 a5 σ = some σz) (hQ : Q (.inl none) (t_m b σz μ)) : z_K g (d + 6) YX2_interest [.ref b, .int a1, .int a2, .int a3, .int a4, .int a5] (t_m b σ μ) Q := by
  unfold D_interest at h
  refine z_K.of (by decide) rfl (Nat.le_of_ble_eq_true rfl) ?_
  refine zi_aload_n 0 dX2_interest_0 rfl rfl ?_
  refine zi_iload_n 1 dX2_interest_1 rfl rfl ?_
  refine zi_iload_n 3 dX2_interest_2 rfl rfl ?_
  refine zi_iload 4 dX2_interest_3 rfl ?_
  obtain ⟨r2, h1, h⟩ := x_bE h
  refine zi_callV [.int a1, .int a3, .int a4] mX2_entryOf rfl q2651 t_rec rfl rfl (Nat.le_of_ble_eq_true rfl) dX2_interest_5 ?_
  refine w_entryOf h1 ?_
  refine zi_istore (lc1 := [(6, _), (0, _), (1, _), (2, _), (3, _), (4, _), (5, _)]) dX2_interest_8 (Nat.le_of_ble_eq_true rfl) rfl ?_
  refine zi_aload_n 1 dX2_interest_10 rfl rfl ?_
  refine zi_iload_n 2 dX2_interest_11 rfl rfl ?_
  refine zi_iload_n 4 dX2_interest_12 rfl rfl ?_
  obtain ⟨r4, h3, h⟩ := x_bE h
  refine zi_callV [.int a1, .int a3] mX2_storedAt rfl q2655 t_rec rfl rfl (Nat.le_of_ble_eq_true rfl) dX2_interest_13 ?_
  refine w_storedAt h3 ?_
  refine zi_istore (lc1 := [(7, _), (6, _), (0, _), (1, _), (2, _), (3, _), (4, _), (5, _)]) dX2_interest_16 (Nat.le_of_ble_eq_true rfl) rfl ?_
  refine zi_aload_n 2 dX2_interest_18 rfl rfl ?_
  refine ti_getA 28 12 t_o28 q2198 dX2_interest_19 ?_
  refine zi_iload_n 3 dX2_interest_22 rfl rfl ?_
  obtain ⟨j5, hj5, h⟩ := x_gaE h
  refine ti_lald 28 j5 6 11 ⟨rfl, rfl⟩ hj5 dX2_interest_23 ?_
  refine zi_iload 7 dX2_interest_24 rfl ?_
  obtain ⟨r7, h6, h⟩ := x_bE h
  refine zi_callS [.long (t_l σ 28 j5), .int a5] mX2_hasL rfl q2659 rfl rfl (Nat.le_of_ble_eq_true rfl) dX2_interest_26 ?_
  refine w_hasL h6 ?_
  refine x_jI (fun (J : Option t_S) => J = some σz → z_V g (d + 6) YX2_interest 53 [(0, .ref b), (1, .int a1), (2, .int a2), (3, .int a3), (4, .int a4)] [] (t_m b σ μ) Q) h (fun  h => ?_) (fun J53 hJ53 h => ?_)
  · refine zi_aload_n 0 dX2_interest_53 rfl rfl ?_
    refine zi_dup dX2_interest_54 rfl ?_
    refine ti_getI 68 ⟨Nat.le_of_ble_eq_true rfl, rfl⟩ q2238 dX2_interest_55 ?_
    refine zi_iconst (v := 1) dX2_interest_58 (by decide) ?_
    refine zi_iadd dX2_interest_59 ?_
    refine ti_putI 68 ⟨Nat.le_of_ble_eq_true rfl, rfl, rfl⟩ (tyX2_ok 68 (Nat.le_of_ble_eq_true rfl)) q2238 dX2_interest_60 ?_
    refine x_lI (fun σ8 => z_V g (d + 6) YX2_interest 63 [(0, .ref b), (1, .int a1), (2, .int a2), (3, .int a3), (4, .int a4)] [] (t_m b σ8 μ) Q) h (fun σ8 h => ?_)
    refine zi_aload_n 0 dX2_interest_63 rfl rfl ?_
    refine zi_iload_n 1 dX2_interest_64 rfl rfl ?_
    refine zi_iload_n 2 dX2_interest_65 rfl rfl ?_
    refine zi_iload_n 3 dX2_interest_66 rfl rfl ?_
    refine zi_iload 4 dX2_interest_67 rfl ?_
    refine zi_iconst (v := 2) dX2_interest_69 (by decide) ?_
    obtain ⟨σ10, h9, h⟩ := x_bE h
    refine zi_callV [.int a1, .int a2, .int a3, .int a4, .int (2 : Int32)] mX2_firstNack rfl q2662 t_rec rfl rfl (Nat.le_of_ble_eq_true rfl) dX2_interest_70 ?_
    refine w_firstNack h9 ?_
    refine zi_goto 183 dX2_interest_73 (by decide) ?_
    refine zi_return rfl dX2_interest_183 ?_
    exact x_r0 h hQ
  refine zi_if_ne 53 dX2_interest_29 (by decide) (fun c11 => ?_) (fun c11 => ?_)
  · replace h := x_iF h c11
    refine zi_sub [2, 3, 4, 5, 6] rfl ?_
    exact hJ53  h
  · replace h := x_iT h c11
    refine zi_iload 1 dX2_interest_32 rfl ?_
    refine zi_iconst (v := -1) dX2_interest_34 (by decide) ?_
    refine x_jI (fun (J : Option t_S) => J = some σz → z_V g (d + 6) YX2_interest 76 [(0, .ref b), (1, .int a1), (2, .int a2), (3, .int a3), (4, .int a4), (5, .int a5), (6, .int r2), (7, .int r4)] [] (t_m b σ μ) Q) h (fun  h => ?_) (fun J76 hJ76 h => ?_)
    · refine zi_iload 7 dX2_interest_76 rfl ?_
      refine zi_iconst (v := -1) dX2_interest_78 (by decide) ?_
      refine x_jI (fun (J : Option t_S) => J = some σz → z_V g (d + 6) YX2_interest 118 [(0, .ref b), (1, .int a1), (2, .int a2), (3, .int a3), (4, .int a4), (5, .int a5), (6, .int r2)] [] (t_m b σ μ) Q) h (fun  h => ?_) (fun J118 hJ118 h => ?_)
      · refine zi_aload_n 0 dX2_interest_118 rfl rfl ?_
        refine zi_iload_n 1 dX2_interest_119 rfl rfl ?_
        refine zi_iload_n 3 dX2_interest_120 rfl rfl ?_
        obtain ⟨r13, h12, h⟩ := x_bE h
        refine zi_callV [.int a1, .int a3] mX2_serveFor rfl q2705 t_rec rfl rfl (Nat.le_of_ble_eq_true rfl) dX2_interest_121 ?_
        refine w_serveFor h12 ?_
        refine zi_iconst (v := -1) dX2_interest_124 (by decide) ?_
        refine zi_icmp_eq 144 dX2_interest_125 (by decide) (fun c14 => ?_) (fun c14 => ?_)
        · replace h := x_iT h c14
          refine zi_iload 6 dX2_interest_144 rfl ?_
          refine zi_iconst (v := -1) dX2_interest_146 (by decide) ?_
          refine zi_icmp_eq 172 dX2_interest_147 (by decide) (fun c15 => ?_) (fun c15 => ?_)
          · replace h := x_iT h c15
            refine zi_aload_n 0 dX2_interest_172 rfl rfl ?_
            refine zi_iload_n 1 dX2_interest_173 rfl rfl ?_
            refine zi_iload_n 2 dX2_interest_174 rfl rfl ?_
            refine zi_iload_n 3 dX2_interest_175 rfl rfl ?_
            refine zi_iload 4 dX2_interest_176 rfl ?_
            refine zi_iload 5 dX2_interest_178 rfl ?_
            obtain ⟨σ17, h16, h⟩ := x_bE h
            refine zi_callV [.int a1, .int a2, .int a3, .int a4, .int a5] mX2_makesEntry rfl q2723 t_rec rfl rfl (Nat.le_of_ble_eq_true rfl) dX2_interest_180 ?_
            refine w_makesEntry h16 ?_
            refine zi_return rfl dX2_interest_183 ?_
            exact x_r0 h hQ
          · replace h := x_iF h c15
            refine zi_aload_n 0 dX2_interest_150 rfl rfl ?_
            refine zi_dup dX2_interest_151 rfl ?_
            refine ti_getI 67 ⟨Nat.le_of_ble_eq_true rfl, rfl⟩ q2237 dX2_interest_152 ?_
            refine zi_iconst (v := 1) dX2_interest_155 (by decide) ?_
            refine zi_iadd dX2_interest_156 ?_
            refine ti_putI 67 ⟨Nat.le_of_ble_eq_true rfl, rfl, rfl⟩ (tyX2_ok 67 (Nat.le_of_ble_eq_true rfl)) q2237 dX2_interest_157 ?_
            refine x_lI (fun σ18 => z_V g (d + 6) YX2_interest 160 [(0, .ref b), (1, .int a1), (2, .int a2), (3, .int a3), (4, .int a4), (5, .int a5), (6, .int r2)] [] (t_m b σ18 μ) Q) h (fun σ18 h => ?_)
            refine zi_aload_n 0 dX2_interest_160 rfl rfl ?_
            refine zi_iload 6 dX2_interest_161 rfl ?_
            refine zi_iload_n 2 dX2_interest_163 rfl rfl ?_
            refine zi_iload 5 dX2_interest_164 rfl ?_
            obtain ⟨σ20, h19, h⟩ := x_bE h
            refine zi_callV [.int r2, .int a2, .int a5] mX2_joins rfl q2719 t_rec rfl rfl (Nat.le_of_ble_eq_true rfl) dX2_interest_166 ?_
            refine w_joins h19 ?_
            refine zi_goto 183 dX2_interest_169 (by decide) ?_
            refine zi_return rfl dX2_interest_183 ?_
            exact x_r0 h hQ
        · replace h := x_iF h c14
          refine zi_aload_n 0 dX2_interest_128 rfl rfl ?_
          refine zi_iload_n 1 dX2_interest_129 rfl rfl ?_
          refine zi_aload_n 0 dX2_interest_130 rfl rfl ?_
          refine zi_iload_n 1 dX2_interest_131 rfl rfl ?_
          refine zi_iload_n 3 dX2_interest_132 rfl rfl ?_
          obtain ⟨r22, h21, h⟩ := x_bE h
          refine zi_callV [.int a1, .int a3] mX2_serveFor rfl q2705 t_rec rfl rfl (Nat.le_of_ble_eq_true rfl) dX2_interest_133 ?_
          refine w_serveFor h21 ?_
          refine zi_iload_n 2 dX2_interest_136 rfl rfl ?_
          refine zi_iload_n 3 dX2_interest_137 rfl rfl ?_
          obtain ⟨σ24, h23, h⟩ := x_bE h
          refine zi_callV [.int a1, .int r22, .int a2, .int a3] mX2_fromServer rfl q2715 t_rec rfl rfl (Nat.le_of_ble_eq_true rfl) dX2_interest_138 ?_
          refine w_fromServer h23 ?_
          refine zi_goto 183 dX2_interest_141 (by decide) ?_
          refine zi_return rfl dX2_interest_183 ?_
          exact x_r0 h hQ
      refine zi_icmp_eq 118 dX2_interest_79 (by decide) (fun c25 => ?_) (fun c25 => ?_)
      · replace h := x_iT h c25
        refine zi_sub [0, 1, 2, 3, 4, 5, 6] rfl ?_
        exact hJ118  h
      · replace h := x_iF h c25
        refine zi_iload 4 dX2_interest_82 rfl ?_
        refine x_jI (fun (J : Option t_S) => J = some σz → z_V g (d + 6) YX2_interest 106 [(0, .ref b), (1, .int a1), (2, .int a2), (3, .int a3), (7, .int r4)] [] (t_m b σ μ) Q) h (fun  h => ?_) (fun J106 hJ106 h => ?_)
        · refine zi_aload_n 0 dX2_interest_106 rfl rfl ?_
          refine zi_iload_n 1 dX2_interest_107 rfl rfl ?_
          refine zi_iload 4 dX2_interest_108 rfl ?_
          refine zi_iload_n 2 dX2_interest_110 rfl rfl ?_
          refine zi_iload_n 3 dX2_interest_111 rfl rfl ?_
          obtain ⟨σ27, h26, h⟩ := x_bE h
          refine zi_callV [.int a1, .int r4, .int a2, .int a3] mX2_fromStore rfl q2685 t_rec rfl rfl (Nat.le_of_ble_eq_true rfl) dX2_interest_112 ?_
          refine w_fromStore h26 ?_
          refine zi_goto 183 dX2_interest_115 (by decide) ?_
          refine zi_return rfl dX2_interest_183 ?_
          exact x_r0 h hQ
        refine zi_if_eq 106 dX2_interest_84 (by decide) (fun c28 => ?_) (fun c28 => ?_)
        · replace h := x_iT h c28
          refine zi_sub [0, 1, 2, 3, 7] rfl ?_
          exact hJ106  h
        · replace h := x_iF h c28
          refine zi_aload_n 0 dX2_interest_87 rfl rfl ?_
          refine ti_getA 32 16 t_o32 q2202 dX2_interest_88 ?_
          refine zi_bipush (v := 6) dX2_interest_91 (by decide) ?_
          refine zi_iload_n 1 dX2_interest_93 rfl rfl ?_
          refine zi_imul dX2_interest_94 ?_
          refine zi_iload 7 dX2_interest_95 rfl ?_
          refine zi_iadd dX2_interest_97 ?_
          obtain ⟨j29, hj29, h⟩ := x_gaE h
          refine ti_iald 32 j29 36 15 ⟨rfl, rfl⟩ hj29 dX2_interest_98 ?_
          refine zi_aload_n 0 dX2_interest_99 rfl rfl ?_
          refine ti_getI 27 ⟨Nat.le_of_ble_eq_true rfl, rfl⟩ q2197 dX2_interest_100 ?_
          refine zi_icmp_lt 118 dX2_interest_103 (by decide) (fun c30 => ?_) (fun c30 => ?_)
          · replace h := x_iT h c30
            refine zi_sub [0, 1, 2, 3, 4, 5, 6] rfl ?_
            exact hJ118  h
          · replace h := x_iF h c30
            refine zi_sub [0, 1, 2, 3, 7] rfl ?_
            exact hJ106  h
    refine zi_icmp_eq 76 dX2_interest_35 (by decide) (fun c31 => ?_) (fun c31 => ?_)
    · replace h := x_iT h c31
      refine zi_sub [2, 3, 4, 5, 6, 7, 1, 0] rfl ?_
      exact hJ76  h
    · replace h := x_iF h c31
      refine zi_aload_n 2 dX2_interest_38 rfl rfl ?_
      refine ti_getA 39 23 t_o39 q2209 dX2_interest_39 ?_
      refine zi_iload 1 dX2_interest_42 rfl ?_
      obtain ⟨j32, hj32, h⟩ := x_gaE h
      refine ti_lald 39 j32 384 22 ⟨rfl, rfl⟩ hj32 dX2_interest_44 ?_
      refine zi_iload 7 dX2_interest_45 rfl ?_
      obtain ⟨r34, h33, h⟩ := x_bE h
      refine zi_callS [.long (t_l σ 39 j32), .int a5] mX2_hasL rfl q2659 rfl rfl (Nat.le_of_ble_eq_true rfl) dX2_interest_47 ?_
      refine w_hasL h33 ?_
      refine zi_if_eq 76 dX2_interest_50 (by decide) (fun c35 => ?_) (fun c35 => ?_)
      · replace h := x_iT h c35
        refine zi_sub [2, 3, 4, 5, 6, 7, 1, 0] rfl ?_
        exact hJ76  h
      · replace h := x_iF h c35
        refine zi_sub [2, 3, 4, 5, 6] rfl ?_
        exact hJ53  h
noncomputable def D_text (a1 : Int32) (a2 : Int32) (σ : t_S) : Option (Int32 × t_S) :=
  x_l (t_si σ 0 (0 : Int32)) fun σ1 =>
  x_ga (0 : Int32) 4 fun j2 =>
  x_l (t_si σ1 10 (t_a σ1 2 j2)) fun σ3 =>
  x_ga (0 : Int32) 4 fun j4 =>
  x_l (t_sa σ3 2 j4 (0 : Int32)) fun σ5 =>
  x_ga (0 : Int32) 4 fun j6 =>
  x_l (t_sa σ5 3 j6 (0 : Int32)) fun σ7 =>
  x_ga (0 : Int32) 4 fun j8 =>
  x_l (t_sa σ7 4 j8 (-1 : Int32)) fun σ9 =>
  x_b (D_in a1 (0 : Int32) (2 : Int32)) fun r11 =>
  if r11 = 0 then (some ((-2 : Int32), σ9)) else
  x_l (x_b2 (D_readText a1 σ9) fun r14 σ15 =>
  if r14 = 0 then (some ((-1 : Int32), σ15)) else
  x_l (fun (s17 : Int32) => x_ga a1 12 fun j18 =>
  x_l (fun (s19 : Int32) (s20 : Int32) (s21 : Int32) => x_ga s19 12 fun j22 =>
  x_l (t_sa σ15 5 j22 (s20 + s21)) fun σ23 =>
  if a1 = 0 then (x_b (D_keep 6 976 (122 : Int32) s17 σ23) fun σ31 =>
  some (s17, σ31)) else
  if a1 = (1 : Int32) then (x_b (D_keep 7 968 (121 : Int32) s17 σ23) fun σ29 =>
  some (s17, σ29)) else
  x_b (D_keep 8 136 (17 : Int32) s17 σ23) fun σ27 =>
  some (s17, σ27)) fun J118 =>
  if a2 = (-1 : Int32) then (J118 a1 (t_a σ15 5 j18) (1 : Int32)) else
  J118 a1 (t_a σ15 5 j18) (0 : Int32)) fun J100 =>
  if a2 = (-1 : Int32) then (x_ga a1 12 fun j34 =>
  J100 (t_a σ15 5 j34)) else
  J100 a2) fun J75 =>
  if a2 = (-1 : Int32) then (x_ga a1 12 fun j39 =>
  if (t_a σ9 5 j39) = (2 : Int32) then (some ((-2 : Int32), σ9)) else
  J75) else
  x_b (D_is a1 a2 σ9) fun r37 =>
  if r37 = 0 then (some ((-2 : Int32), σ9)) else
  J75
theorem w_text {a1 : Int32} {a2 : Int32} {rz : Int32} (h : D_text a1 a2 σ = some (rz, σz)) (hQ : Q (.inl (some (.int rz))) (t_m b σz μ)) : z_K g (d + 7) YX2_text [.ref b, .int a1, .int a2] (t_m b σ μ) Q := by
  unfold D_text at h
  refine z_K.of (by decide) rfl (Nat.le_of_ble_eq_true rfl) ?_
  refine zi_aload_n 0 dX2_text_0 rfl rfl ?_
  refine zi_iconst (v := 0) dX2_text_1 (by decide) ?_
  refine ti_putI 0 ⟨Nat.le_of_ble_eq_true rfl, rfl, rfl⟩ (tyX2_ok 0 (Nat.le_of_ble_eq_true rfl)) q2170 dX2_text_2 ?_
  refine x_lI (fun σ1 => z_V g (d + 7) YX2_text 5 [(0, .ref b), (1, .int a1), (2, .int a2)] [] (t_m b σ1 μ) Q) h (fun σ1 h => ?_)
  refine zi_aload_n 0 dX2_text_5 rfl rfl ?_
  refine zi_aload_n 0 dX2_text_6 rfl rfl ?_
  refine ti_getA 2 2 t_o2 q2172 dX2_text_7 ?_
  refine zi_iconst (v := 0) dX2_text_10 (by decide) ?_
  obtain ⟨j2, hj2, h⟩ := x_gaE h
  refine ti_iald 2 j2 4 1 ⟨rfl, rfl⟩ hj2 dX2_text_11 ?_
  refine ti_putI 10 ⟨Nat.le_of_ble_eq_true rfl, rfl, rfl⟩ (tyX2_ok 10 (Nat.le_of_ble_eq_true rfl)) q2180 dX2_text_12 ?_
  refine x_lI (fun σ3 => z_V g (d + 7) YX2_text 15 [(0, .ref b), (1, .int a1), (2, .int a2)] [] (t_m b σ3 μ) Q) h (fun σ3 h => ?_)
  refine zi_aload_n 0 dX2_text_15 rfl rfl ?_
  refine ti_getA 2 2 t_o2 q2172 dX2_text_16 ?_
  refine zi_iconst (v := 0) dX2_text_19 (by decide) ?_
  refine zi_iconst (v := 0) dX2_text_20 (by decide) ?_
  obtain ⟨j4, hj4, h⟩ := x_gaE h
  refine ti_iast 2 j4 4 1 ⟨rfl, rfl⟩ hj4 dX2_text_21 ?_
  refine x_lI (fun σ5 => z_V g (d + 7) YX2_text 22 [(0, .ref b), (1, .int a1), (2, .int a2)] [] (t_m b σ5 μ) Q) h (fun σ5 h => ?_)
  refine zi_aload_n 0 dX2_text_22 rfl rfl ?_
  refine ti_getA 3 3 t_o3 q2173 dX2_text_23 ?_
  refine zi_iconst (v := 0) dX2_text_26 (by decide) ?_
  refine zi_iconst (v := 0) dX2_text_27 (by decide) ?_
  obtain ⟨j6, hj6, h⟩ := x_gaE h
  refine ti_iast 3 j6 4 2 ⟨rfl, rfl⟩ hj6 dX2_text_28 ?_
  refine x_lI (fun σ7 => z_V g (d + 7) YX2_text 29 [(0, .ref b), (1, .int a1), (2, .int a2)] [] (t_m b σ7 μ) Q) h (fun σ7 h => ?_)
  refine zi_aload_n 0 dX2_text_29 rfl rfl ?_
  refine ti_getA 4 4 t_o4 q2174 dX2_text_30 ?_
  refine zi_iconst (v := 0) dX2_text_33 (by decide) ?_
  refine zi_iconst (v := -1) dX2_text_34 (by decide) ?_
  obtain ⟨j8, hj8, h⟩ := x_gaE h
  refine ti_iast 4 j8 4 3 ⟨rfl, rfl⟩ hj8 dX2_text_35 ?_
  refine x_lI (fun σ9 => z_V g (d + 7) YX2_text 36 [(0, .ref b), (1, .int a1), (2, .int a2)] [] (t_m b σ9 μ) Q) h (fun σ9 h => ?_)
  refine zi_iload_n 1 dX2_text_36 rfl rfl ?_
  refine zi_iconst (v := 0) dX2_text_37 (by decide) ?_
  refine zi_iconst (v := 2) dX2_text_38 (by decide) ?_
  obtain ⟨r11, h10, h⟩ := x_bE h
  refine zi_callS [.int a1, .int (0 : Int32), .int (2 : Int32)] mX2_in rfl q2445 rfl rfl (Nat.le_of_ble_eq_true rfl) dX2_text_39 ?_
  refine w_in h10 ?_
  refine zi_if_eq 72 dX2_text_42 (by decide) (fun c12 => ?_) (fun c12 => ?_)
  · replace h := x_iT h c12
    refine zi_bipush (v := -2) dX2_text_72 (by decide) ?_
    refine zi_ireturn rfl rfl dX2_text_74 ?_
    exact x_r2i h hQ
  · replace h := x_iF h c12
    refine zi_iload_n 2 dX2_text_45 rfl rfl ?_
    refine zi_iconst (v := -1) dX2_text_46 (by decide) ?_
    refine x_jI (fun (J : Option (Int32 × t_S)) => J = some (rz, σz) → z_V g (d + 7) YX2_text 75 [(0, .ref b), (1, .int a1), (2, .int a2)] [] (t_m b σ9 μ) Q) h (fun  h => ?_) (fun J75 hJ75 h => ?_)
    · refine zi_aload_n 0 dX2_text_75 rfl rfl ?_
      refine zi_iload_n 1 dX2_text_76 rfl rfl ?_
      obtain ⟨r14, σ15, h13, h⟩ := x_b2E h
      refine zi_callV [.int a1] mX2_readText rfl q2456 t_rec rfl rfl (Nat.le_of_ble_eq_true rfl) dX2_text_77 ?_
      refine w_readText h13 ?_
      refine zi_if_ne 85 dX2_text_80 (by decide) (fun c16 => ?_) (fun c16 => ?_)
      · replace h := x_iF h c16
        refine zi_iload_n 2 dX2_text_85 rfl rfl ?_
        refine zi_iconst (v := -1) dX2_text_86 (by decide) ?_
        refine x_jI (fun (J : Int32 → Option (Int32 × t_S)) => ∀ (s17 : Int32), J s17 = some (rz, σz) → z_V g (d + 7) YX2_text 100 [(0, .ref b), (1, .int a1), (2, .int a2)] [.int s17] (t_m b σ15 μ) Q) h (fun s17 h => ?_) (fun J100 hJ100 h => ?_)
        · refine zi_istore_n (lc1 := [(3, _), (0, _), (1, _), (2, _)]) dX2_text_100 rfl (Nat.le_of_ble_eq_true rfl) rfl ?_
          refine zi_aload_n 1 dX2_text_101 rfl rfl ?_
          refine ti_getA 5 5 t_o5 q2175 dX2_text_102 ?_
          refine zi_iload_n 2 dX2_text_105 rfl rfl ?_
          refine zi_dup2_11 dX2_text_106 rfl rfl ?_
          obtain ⟨j18, hj18, h⟩ := x_gaE h
          refine ti_iald 5 j18 12 4 ⟨rfl, rfl⟩ hj18 dX2_text_107 ?_
          refine zi_iload_n 3 dX2_text_108 rfl rfl ?_
          refine zi_iconst (v := -1) dX2_text_109 (by decide) ?_
          refine x_jI (fun (J : Int32 → Int32 → Int32 → Option (Int32 × t_S)) => ∀ (s19 : Int32) (s20 : Int32) (s21 : Int32), J s19 s20 s21 = some (rz, σz) → z_V g (d + 7) YX2_text 118 [(0, .ref b), (1, .int a1), (3, .int s17)] [.int s21, .int s20, .int s19, .ref (b + 5)] (t_m b σ15 μ) Q) h (fun s19 s20 s21 h => ?_) (fun J118 hJ118 h => ?_)
          · refine zi_iadd dX2_text_118 ?_
            obtain ⟨j22, hj22, h⟩ := x_gaE h
            refine ti_iast 5 j22 12 4 ⟨rfl, rfl⟩ hj22 dX2_text_119 ?_
            refine x_lI (fun σ23 => z_V g (d + 7) YX2_text 120 [(0, .ref b), (1, .int a1), (3, .int s17)] [] (t_m b σ23 μ) Q) h (fun σ23 h => ?_)
            refine zi_iload_n 1 dX2_text_120 rfl rfl ?_
            refine zi_if_ne 138 dX2_text_121 (by decide) (fun c24 => ?_) (fun c24 => ?_)
            · replace h := x_iF h c24
              refine zi_iload_n 1 dX2_text_138 rfl rfl ?_
              refine zi_iconst (v := 1) dX2_text_139 (by decide) ?_
              refine zi_icmp_ne 157 dX2_text_140 (by decide) (fun c25 => ?_) (fun c25 => ?_)
              · replace h := x_iF h c25
                refine zi_aload_n 0 dX2_text_157 rfl rfl ?_
                refine zi_aload_n 0 dX2_text_158 rfl rfl ?_
                refine ti_getA 8 8 t_o8 q2178 dX2_text_159 ?_
                refine zi_bipush (v := 17) dX2_text_162 (by decide) ?_
                refine zi_iload_n 2 dX2_text_164 rfl rfl ?_
                obtain ⟨σ27, h26, h⟩ := x_bE h
                refine zi_callV [.ref (b + 8), .int (17 : Int32), .int s17] mX2_keep rfl q2551 t_rec rfl rfl (Nat.le_of_ble_eq_true rfl) dX2_text_165 ?_
                refine w_keep (7) ⟨rfl, rfl⟩ h26 ?_
                refine zi_iload_n 2 dX2_text_168 rfl rfl ?_
                refine zi_ireturn rfl rfl dX2_text_169 ?_
                exact x_r2i h hQ
              · replace h := x_iT h c25
                refine zi_aload_n 0 dX2_text_143 rfl rfl ?_
                refine zi_aload_n 0 dX2_text_144 rfl rfl ?_
                refine ti_getA 7 7 t_o7 q2177 dX2_text_145 ?_
                refine zi_bipush (v := 121) dX2_text_148 (by decide) ?_
                refine zi_iload_n 2 dX2_text_150 rfl rfl ?_
                obtain ⟨σ29, h28, h⟩ := x_bE h
                refine zi_callV [.ref (b + 7), .int (121 : Int32), .int s17] mX2_keep rfl q2551 t_rec rfl rfl (Nat.le_of_ble_eq_true rfl) dX2_text_151 ?_
                refine w_keep (6) ⟨rfl, rfl⟩ h28 ?_
                refine zi_goto 168 dX2_text_154 (by decide) ?_
                refine zi_iload_n 2 dX2_text_168 rfl rfl ?_
                refine zi_ireturn rfl rfl dX2_text_169 ?_
                exact x_r2i h hQ
            · replace h := x_iT h c24
              refine zi_aload_n 0 dX2_text_124 rfl rfl ?_
              refine zi_aload_n 0 dX2_text_125 rfl rfl ?_
              refine ti_getA 6 6 t_o6 q2176 dX2_text_126 ?_
              refine zi_bipush (v := 122) dX2_text_129 (by decide) ?_
              refine zi_iload_n 2 dX2_text_131 rfl rfl ?_
              obtain ⟨σ31, h30, h⟩ := x_bE h
              refine zi_callV [.ref (b + 6), .int (122 : Int32), .int s17] mX2_keep rfl q2551 t_rec rfl rfl (Nat.le_of_ble_eq_true rfl) dX2_text_132 ?_
              refine w_keep (5) ⟨rfl, rfl⟩ h30 ?_
              refine zi_goto 168 dX2_text_135 (by decide) ?_
              refine zi_iload_n 2 dX2_text_168 rfl rfl ?_
              refine zi_ireturn rfl rfl dX2_text_169 ?_
              exact x_r2i h hQ
          refine zi_icmp_ne 117 dX2_text_110 (by decide) (fun c32 => ?_) (fun c32 => ?_)
          · replace h := x_iF h c32
            refine zi_iconst (v := 0) dX2_text_117 (by decide) ?_
            refine zi_sub [1, 2, 0] rfl ?_
            exact hJ118 _ _ _ h
          · replace h := x_iT h c32
            refine zi_iconst (v := 1) dX2_text_113 (by decide) ?_
            refine zi_goto 118 dX2_text_114 (by decide) ?_
            refine zi_sub [1, 2, 0] rfl ?_
            exact hJ118 _ _ _ h
        refine zi_icmp_ne 99 dX2_text_87 (by decide) (fun c33 => ?_) (fun c33 => ?_)
        · replace h := x_iF h c33
          refine zi_iload_n 2 dX2_text_99 rfl rfl ?_
          exact hJ100 _ h
        · replace h := x_iT h c33
          refine zi_aload_n 0 dX2_text_90 rfl rfl ?_
          refine ti_getA 5 5 t_o5 q2175 dX2_text_91 ?_
          refine zi_iload_n 1 dX2_text_94 rfl rfl ?_
          obtain ⟨j34, hj34, h⟩ := x_gaE h
          refine ti_iald 5 j34 12 4 ⟨rfl, rfl⟩ hj34 dX2_text_95 ?_
          refine zi_goto 100 dX2_text_96 (by decide) ?_
          exact hJ100 _ h
      · replace h := x_iT h c16
        refine zi_iconst (v := -1) dX2_text_83 (by decide) ?_
        refine zi_ireturn rfl rfl dX2_text_84 ?_
        exact x_r2i h hQ
    refine zi_icmp_ne 63 dX2_text_47 (by decide) (fun c35 => ?_) (fun c35 => ?_)
    · replace h := x_iF h c35
      refine zi_aload_n 0 dX2_text_63 rfl rfl ?_
      refine zi_iload_n 1 dX2_text_64 rfl rfl ?_
      refine zi_iload_n 2 dX2_text_65 rfl rfl ?_
      obtain ⟨r37, h36, h⟩ := x_bE h
      refine zi_callV [.int a1, .int a2] mX2_is rfl q2452 t_rec rfl rfl (Nat.le_of_ble_eq_true rfl) dX2_text_66 ?_
      refine w_is h36 ?_
      refine zi_if_ne 75 dX2_text_69 (by decide) (fun c38 => ?_) (fun c38 => ?_)
      · replace h := x_iF h c38
        exact hJ75  h
      · replace h := x_iT h c38
        refine zi_bipush (v := -2) dX2_text_72 (by decide) ?_
        refine zi_ireturn rfl rfl dX2_text_74 ?_
        exact x_r2i h hQ
    · replace h := x_iT h c35
      refine zi_aload_n 0 dX2_text_50 rfl rfl ?_
      refine ti_getA 5 5 t_o5 q2175 dX2_text_51 ?_
      refine zi_iload_n 1 dX2_text_54 rfl rfl ?_
      obtain ⟨j39, hj39, h⟩ := x_gaE h
      refine ti_iald 5 j39 12 4 ⟨rfl, rfl⟩ hj39 dX2_text_55 ?_
      refine zi_iconst (v := 2) dX2_text_56 (by decide) ?_
      refine zi_icmp_ne 75 dX2_text_57 (by decide) (fun c40 => ?_) (fun c40 => ?_)
      · replace h := x_iF h c40
        exact hJ75  h
      · replace h := x_iT h c40
        refine zi_goto 72 dX2_text_60 (by decide) ?_
        refine zi_bipush (v := -2) dX2_text_72 (by decide) ?_
        refine zi_ireturn rfl rfl dX2_text_74 ?_
        exact x_r2i h hQ
noncomputable def D_asks (a1 : Int32) (a2 : Int32) (a3 : Int32) (a4 : Int32) (σ : t_S) : Option (Int32 × t_S) :=
  x_b (D_isNode a1 σ) fun r2 =>
  if r2 = 0 then (some ((0 : Int32), σ)) else
  x_ga a4 64 fun j4 =>
  x_l (t_sa σ 57 j4 (0 : Int32)) fun σ5 =>
  x_ga a4 64 fun j6 =>
  x_l (t_sa σ5 59 j6 (t_i σ5 27)) fun σ7 =>
  x_b (D_interest a1 ((100 : Int32) + a4) a2 a3 a4 σ7) fun σ9 =>
  some ((1 : Int32), σ9)
theorem w_asks {a1 : Int32} {a2 : Int32} {a3 : Int32} {a4 : Int32} {rz : Int32} (h : D_asks a1 a2 a3 a4 σ = some (rz, σz)) (hQ : Q (.inl (some (.int rz))) (t_m b σz μ)) : z_K g (d + 7) YX2_asks [.ref b, .int a1, .int a2, .int a3, .int a4] (t_m b σ μ) Q := by
  unfold D_asks at h
  refine z_K.of (by decide) rfl (Nat.le_of_ble_eq_true rfl) ?_
  refine zi_aload_n 0 dX2_asks_0 rfl rfl ?_
  refine zi_iload_n 1 dX2_asks_1 rfl rfl ?_
  obtain ⟨r2, h1, h⟩ := x_bE h
  refine zi_callV [.int a1] mX2_isNode rfl q2571 t_rec rfl rfl (Nat.le_of_ble_eq_true rfl) dX2_asks_2 ?_
  refine w_isNode h1 ?_
  refine zi_if_ne 10 dX2_asks_5 (by decide) (fun c3 => ?_) (fun c3 => ?_)
  · replace h := x_iF h c3
    refine zi_aload_n 0 dX2_asks_10 rfl rfl ?_
    refine ti_getA 57 40 t_o57 q2227 dX2_asks_11 ?_
    refine zi_iload 4 dX2_asks_14 rfl ?_
    refine zi_iconst (v := 0) dX2_asks_16 (by decide) ?_
    obtain ⟨j4, hj4, h⟩ := x_gaE h
    refine ti_iast 57 j4 64 39 ⟨rfl, rfl⟩ hj4 dX2_asks_17 ?_
    refine x_lI (fun σ5 => z_V g (d + 7) YX2_asks 18 [(0, .ref b), (1, .int a1), (2, .int a2), (3, .int a3), (4, .int a4)] [] (t_m b σ5 μ) Q) h (fun σ5 h => ?_)
    refine zi_aload_n 0 dX2_asks_18 rfl rfl ?_
    refine ti_getA 59 42 t_o59 q2229 dX2_asks_19 ?_
    refine zi_iload 4 dX2_asks_22 rfl ?_
    refine zi_aload_n 0 dX2_asks_24 rfl rfl ?_
    refine ti_getI 27 ⟨Nat.le_of_ble_eq_true rfl, rfl⟩ q2197 dX2_asks_25 ?_
    obtain ⟨j6, hj6, h⟩ := x_gaE h
    refine ti_iast 59 j6 64 41 ⟨rfl, rfl⟩ hj6 dX2_asks_28 ?_
    refine x_lI (fun σ7 => z_V g (d + 7) YX2_asks 29 [(0, .ref b), (1, .int a1), (2, .int a2), (3, .int a3), (4, .int a4)] [] (t_m b σ7 μ) Q) h (fun σ7 h => ?_)
    refine zi_aload_n 0 dX2_asks_29 rfl rfl ?_
    refine zi_iload_n 1 dX2_asks_30 rfl rfl ?_
    refine zi_bipush (v := 100) dX2_asks_31 (by decide) ?_
    refine zi_iload 4 dX2_asks_33 rfl ?_
    refine zi_iadd dX2_asks_35 ?_
    refine zi_iload_n 2 dX2_asks_36 rfl rfl ?_
    refine zi_iload_n 3 dX2_asks_37 rfl rfl ?_
    refine zi_iload 4 dX2_asks_38 rfl ?_
    obtain ⟨σ9, h8, h⟩ := x_bE h
    refine zi_callV [.int a1, .int ((100 : Int32) + a4), .int a2, .int a3, .int a4] mX2_interest rfl q2647 t_rec rfl rfl (Nat.le_of_ble_eq_true rfl) dX2_asks_40 ?_
    refine w_interest h8 ?_
    refine zi_iconst (v := 1) dX2_asks_43 (by decide) ?_
    refine zi_ireturn rfl rfl dX2_asks_44 ?_
    exact x_r2i h hQ
  · replace h := x_iT h c3
    refine zi_iconst (v := 0) dX2_asks_8 (by decide) ?_
    refine zi_ireturn rfl rfl dX2_asks_9 ?_
    exact x_r2i h hQ
noncomputable def D_comes (a1 : Int32) (σ : t_S) : Option t_S :=
  x_ga a1 4096 fun j1 =>
  x_l (t_si σ 71 (t_a σ 53 j1)) fun σ2 =>
  x_ga a1 4096 fun j3 =>
  x_l (t_si σ2 72 (t_a σ2 54 j3)) fun σ4 =>
  x_ga a1 4096 fun j5 =>
  x_l (t_si σ4 73 (t_a σ4 55 j5)) fun σ6 =>
  x_ga a1 4096 fun j7 =>
  x_l (t_si σ6 74 (t_a σ6 56 j7)) fun σ8 =>
  x_ga a1 4096 fun j9 =>
  if (t_a σ8 46 j9) = 0 then (x_ga a1 4096 fun j24 =>
  x_ga a1 4096 fun j25 =>
  x_ga a1 4096 fun j26 =>
  x_ga a1 4096 fun j27 =>
  x_ga a1 4096 fun j28 =>
  x_b (D_interest (t_a σ8 48 j24) (t_a σ8 47 j25) (t_a σ8 49 j26) (t_a σ8 50 j27) (t_a σ8 51 j28) σ8) fun σ30 =>
  some σ30) else
  x_ga a1 4096 fun j11 =>
  if (t_a σ8 46 j11) = (1 : Int32) then (x_ga a1 4096 fun j19 =>
  x_ga a1 4096 fun j20 =>
  x_ga a1 4096 fun j21 =>
  x_b (D_dataCome (t_a σ8 48 j19) (t_a σ8 47 j20) (t_a σ8 49 j21) σ8) fun σ23 =>
  some σ23) else
  x_ga a1 4096 fun j13 =>
  x_ga a1 4096 fun j14 =>
  x_ga a1 4096 fun j15 =>
  x_ga a1 4096 fun j16 =>
  x_b (D_nackComes (t_a σ8 48 j13) (t_a σ8 47 j14) (t_a σ8 49 j15) (t_a σ8 50 j16) σ8) fun σ18 =>
  some σ18
theorem w_comes {a1 : Int32}  (h : D_comes a1 σ = some σz) (hQ : Q (.inl none) (t_m b σz μ)) : z_K g (d + 7) YX2_comes [.ref b, .int a1] (t_m b σ μ) Q := by
  unfold D_comes at h
  refine z_K.of (by decide) rfl (Nat.le_of_ble_eq_true rfl) ?_
  refine zi_aload_n 0 dX2_comes_0 rfl rfl ?_
  refine zi_aload_n 0 dX2_comes_1 rfl rfl ?_
  refine ti_getA 53 36 t_o53 q2223 dX2_comes_2 ?_
  refine zi_iload_n 1 dX2_comes_5 rfl rfl ?_
  obtain ⟨j1, hj1, h⟩ := x_gaE h
  refine ti_iald 53 j1 4096 35 ⟨rfl, rfl⟩ hj1 dX2_comes_6 ?_
  refine ti_putI 71 ⟨Nat.le_of_ble_eq_true rfl, rfl, rfl⟩ (tyX2_ok 71 (Nat.le_of_ble_eq_true rfl)) q2241 dX2_comes_7 ?_
  refine x_lI (fun σ2 => z_V g (d + 7) YX2_comes 10 [(0, .ref b), (1, .int a1)] [] (t_m b σ2 μ) Q) h (fun σ2 h => ?_)
  refine zi_aload_n 0 dX2_comes_10 rfl rfl ?_
  refine zi_aload_n 0 dX2_comes_11 rfl rfl ?_
  refine ti_getA 54 37 t_o54 q2224 dX2_comes_12 ?_
  refine zi_iload_n 1 dX2_comes_15 rfl rfl ?_
  obtain ⟨j3, hj3, h⟩ := x_gaE h
  refine ti_iald 54 j3 4096 36 ⟨rfl, rfl⟩ hj3 dX2_comes_16 ?_
  refine ti_putI 72 ⟨Nat.le_of_ble_eq_true rfl, rfl, rfl⟩ (tyX2_ok 72 (Nat.le_of_ble_eq_true rfl)) q2242 dX2_comes_17 ?_
  refine x_lI (fun σ4 => z_V g (d + 7) YX2_comes 20 [(0, .ref b), (1, .int a1)] [] (t_m b σ4 μ) Q) h (fun σ4 h => ?_)
  refine zi_aload_n 0 dX2_comes_20 rfl rfl ?_
  refine zi_aload_n 0 dX2_comes_21 rfl rfl ?_
  refine ti_getA 55 38 t_o55 q2225 dX2_comes_22 ?_
  refine zi_iload_n 1 dX2_comes_25 rfl rfl ?_
  obtain ⟨j5, hj5, h⟩ := x_gaE h
  refine ti_iald 55 j5 4096 37 ⟨rfl, rfl⟩ hj5 dX2_comes_26 ?_
  refine ti_putI 73 ⟨Nat.le_of_ble_eq_true rfl, rfl, rfl⟩ (tyX2_ok 73 (Nat.le_of_ble_eq_true rfl)) q2243 dX2_comes_27 ?_
  refine x_lI (fun σ6 => z_V g (d + 7) YX2_comes 30 [(0, .ref b), (1, .int a1)] [] (t_m b σ6 μ) Q) h (fun σ6 h => ?_)
  refine zi_aload_n 0 dX2_comes_30 rfl rfl ?_
  refine zi_aload_n 0 dX2_comes_31 rfl rfl ?_
  refine ti_getA 56 39 t_o56 q2226 dX2_comes_32 ?_
  refine zi_iload_n 1 dX2_comes_35 rfl rfl ?_
  obtain ⟨j7, hj7, h⟩ := x_gaE h
  refine ti_iald 56 j7 4096 38 ⟨rfl, rfl⟩ hj7 dX2_comes_36 ?_
  refine ti_putI 74 ⟨Nat.le_of_ble_eq_true rfl, rfl, rfl⟩ (tyX2_ok 74 (Nat.le_of_ble_eq_true rfl)) q2244 dX2_comes_37 ?_
  refine x_lI (fun σ8 => z_V g (d + 7) YX2_comes 40 [(0, .ref b), (1, .int a1)] [] (t_m b σ8 μ) Q) h (fun σ8 h => ?_)
  refine zi_aload_n 0 dX2_comes_40 rfl rfl ?_
  refine ti_getA 46 29 t_o46 q2216 dX2_comes_41 ?_
  refine zi_iload_n 1 dX2_comes_44 rfl rfl ?_
  obtain ⟨j9, hj9, h⟩ := x_gaE h
  refine ti_iald 46 j9 4096 28 ⟨rfl, rfl⟩ hj9 dX2_comes_45 ?_
  refine zi_if_ne 86 dX2_comes_46 (by decide) (fun c10 => ?_) (fun c10 => ?_)
  · replace h := x_iF h c10
    refine zi_aload_n 0 dX2_comes_86 rfl rfl ?_
    refine ti_getA 46 29 t_o46 q2216 dX2_comes_87 ?_
    refine zi_iload_n 1 dX2_comes_90 rfl rfl ?_
    obtain ⟨j11, hj11, h⟩ := x_gaE h
    refine ti_iald 46 j11 4096 28 ⟨rfl, rfl⟩ hj11 dX2_comes_91 ?_
    refine zi_iconst (v := 1) dX2_comes_92 (by decide) ?_
    refine zi_icmp_ne 121 dX2_comes_93 (by decide) (fun c12 => ?_) (fun c12 => ?_)
    · replace h := x_iF h c12
      refine zi_aload_n 0 dX2_comes_121 rfl rfl ?_
      refine zi_aload_n 0 dX2_comes_122 rfl rfl ?_
      refine ti_getA 48 31 t_o48 q2218 dX2_comes_123 ?_
      refine zi_iload_n 1 dX2_comes_126 rfl rfl ?_
      obtain ⟨j13, hj13, h⟩ := x_gaE h
      refine ti_iald 48 j13 4096 30 ⟨rfl, rfl⟩ hj13 dX2_comes_127 ?_
      refine zi_aload_n 0 dX2_comes_128 rfl rfl ?_
      refine ti_getA 47 30 t_o47 q2217 dX2_comes_129 ?_
      refine zi_iload_n 1 dX2_comes_132 rfl rfl ?_
      obtain ⟨j14, hj14, h⟩ := x_gaE h
      refine ti_iald 47 j14 4096 29 ⟨rfl, rfl⟩ hj14 dX2_comes_133 ?_
      refine zi_aload_n 0 dX2_comes_134 rfl rfl ?_
      refine ti_getA 49 32 t_o49 q2219 dX2_comes_135 ?_
      refine zi_iload_n 1 dX2_comes_138 rfl rfl ?_
      obtain ⟨j15, hj15, h⟩ := x_gaE h
      refine ti_iald 49 j15 4096 31 ⟨rfl, rfl⟩ hj15 dX2_comes_139 ?_
      refine zi_aload_n 0 dX2_comes_140 rfl rfl ?_
      refine ti_getA 50 33 t_o50 q2220 dX2_comes_141 ?_
      refine zi_iload_n 1 dX2_comes_144 rfl rfl ?_
      obtain ⟨j16, hj16, h⟩ := x_gaE h
      refine ti_iald 50 j16 4096 32 ⟨rfl, rfl⟩ hj16 dX2_comes_145 ?_
      obtain ⟨σ18, h17, h⟩ := x_bE h
      refine zi_callV [.int (t_a σ8 48 j13), .int (t_a σ8 47 j14), .int (t_a σ8 49 j15), .int (t_a σ8 50 j16)] mX2_nackComes rfl q2776 t_rec rfl rfl (Nat.le_of_ble_eq_true rfl) dX2_comes_146 ?_
      refine w_nackComes h17 ?_
      refine zi_return rfl dX2_comes_149 ?_
      exact x_r0 h hQ
    · replace h := x_iT h c12
      refine zi_aload_n 0 dX2_comes_96 rfl rfl ?_
      refine zi_aload_n 0 dX2_comes_97 rfl rfl ?_
      refine ti_getA 48 31 t_o48 q2218 dX2_comes_98 ?_
      refine zi_iload_n 1 dX2_comes_101 rfl rfl ?_
      obtain ⟨j19, hj19, h⟩ := x_gaE h
      refine ti_iald 48 j19 4096 30 ⟨rfl, rfl⟩ hj19 dX2_comes_102 ?_
      refine zi_aload_n 0 dX2_comes_103 rfl rfl ?_
      refine ti_getA 47 30 t_o47 q2217 dX2_comes_104 ?_
      refine zi_iload_n 1 dX2_comes_107 rfl rfl ?_
      obtain ⟨j20, hj20, h⟩ := x_gaE h
      refine ti_iald 47 j20 4096 29 ⟨rfl, rfl⟩ hj20 dX2_comes_108 ?_
      refine zi_aload_n 0 dX2_comes_109 rfl rfl ?_
      refine ti_getA 49 32 t_o49 q2219 dX2_comes_110 ?_
      refine zi_iload_n 1 dX2_comes_113 rfl rfl ?_
      obtain ⟨j21, hj21, h⟩ := x_gaE h
      refine ti_iald 49 j21 4096 31 ⟨rfl, rfl⟩ hj21 dX2_comes_114 ?_
      obtain ⟨σ23, h22, h⟩ := x_bE h
      refine zi_callV [.int (t_a σ8 48 j19), .int (t_a σ8 47 j20), .int (t_a σ8 49 j21)] mX2_dataCome rfl q2764 t_rec rfl rfl (Nat.le_of_ble_eq_true rfl) dX2_comes_115 ?_
      refine w_dataCome h22 ?_
      refine zi_goto 149 dX2_comes_118 (by decide) ?_
      refine zi_return rfl dX2_comes_149 ?_
      exact x_r0 h hQ
  · replace h := x_iT h c10
    refine zi_aload_n 0 dX2_comes_49 rfl rfl ?_
    refine zi_aload_n 0 dX2_comes_50 rfl rfl ?_
    refine ti_getA 48 31 t_o48 q2218 dX2_comes_51 ?_
    refine zi_iload_n 1 dX2_comes_54 rfl rfl ?_
    obtain ⟨j24, hj24, h⟩ := x_gaE h
    refine ti_iald 48 j24 4096 30 ⟨rfl, rfl⟩ hj24 dX2_comes_55 ?_
    refine zi_aload_n 0 dX2_comes_56 rfl rfl ?_
    refine ti_getA 47 30 t_o47 q2217 dX2_comes_57 ?_
    refine zi_iload_n 1 dX2_comes_60 rfl rfl ?_
    obtain ⟨j25, hj25, h⟩ := x_gaE h
    refine ti_iald 47 j25 4096 29 ⟨rfl, rfl⟩ hj25 dX2_comes_61 ?_
    refine zi_aload_n 0 dX2_comes_62 rfl rfl ?_
    refine ti_getA 49 32 t_o49 q2219 dX2_comes_63 ?_
    refine zi_iload_n 1 dX2_comes_66 rfl rfl ?_
    obtain ⟨j26, hj26, h⟩ := x_gaE h
    refine ti_iald 49 j26 4096 31 ⟨rfl, rfl⟩ hj26 dX2_comes_67 ?_
    refine zi_aload_n 0 dX2_comes_68 rfl rfl ?_
    refine ti_getA 50 33 t_o50 q2220 dX2_comes_69 ?_
    refine zi_iload_n 1 dX2_comes_72 rfl rfl ?_
    obtain ⟨j27, hj27, h⟩ := x_gaE h
    refine ti_iald 50 j27 4096 32 ⟨rfl, rfl⟩ hj27 dX2_comes_73 ?_
    refine zi_aload_n 0 dX2_comes_74 rfl rfl ?_
    refine ti_getA 51 34 t_o51 q2221 dX2_comes_75 ?_
    refine zi_iload_n 1 dX2_comes_78 rfl rfl ?_
    obtain ⟨j28, hj28, h⟩ := x_gaE h
    refine ti_iald 51 j28 4096 33 ⟨rfl, rfl⟩ hj28 dX2_comes_79 ?_
    obtain ⟨σ30, h29, h⟩ := x_bE h
    refine zi_callV [.int (t_a σ8 48 j24), .int (t_a σ8 47 j25), .int (t_a σ8 49 j26), .int (t_a σ8 50 j27), .int (t_a σ8 51 j28)] mX2_interest rfl q2647 t_rec rfl rfl (Nat.le_of_ble_eq_true rfl) dX2_comes_80 ?_
    refine w_interest h29 ?_
    refine zi_goto 149 dX2_comes_83 (by decide) ?_
    refine zi_return rfl dX2_comes_149 ?_
    exact x_r0 h hQ
noncomputable def D_goesBy_21 (f1_5 : Int32) (k50 : t_S → Option t_S) : Nat → Int32 → t_S → Option t_S
  | 0, _, _ => none
  | f + 1, v2_6, σ7 =>
    if f1_5 ≤ v2_6 then (k50 σ7) else
    x_ga v2_6 4096 fun j10 =>
    if (t_a σ7 52 j10) = (t_i σ7 27) then (x_b (D_comes v2_6 σ7) fun σ14 =>
    x_l (v2_6 + (1 : Int32)) fun v15 =>
    D_goesBy_21 f1_5 k50 f v15 σ14) else
    x_l (v2_6 + (1 : Int32)) fun v12 =>
    D_goesBy_21 f1_5 k50 f v12 σ7
theorem w_goesBy_21 {f1_5 : Int32}  {k50 : t_S → Option t_S} (hk50 : ∀ (σ8 : t_S), k50 σ8 = some σz → z_V g (d + 8) YX2_goesBy 50 [(0, .ref b)] [] (t_m b σ8 μ) Q) (hQ : Q (.inl none) (t_m b σz μ)) : ∀ (f : Nat) (v2_6 : Int32) (σ7 : t_S), D_goesBy_21 f1_5 k50 f v2_6 σ7 = some σz → z_V g (d + 8) YX2_goesBy 21 [(0, .ref b), (1, .int f1_5), (2, .int v2_6)] [] (t_m b σ7 μ) Q := by
  intro f
  induction f with
  | zero =>
    intro v2_6 σ7 h
    exact absurd h (x_n _)
  | succ f ih =>
    intro v2_6 σ7 h
    refine zi_iload_n 2 dX2_goesBy_21 rfl rfl ?_
    refine zi_iload_n 1 dX2_goesBy_22 rfl rfl ?_
    refine zi_icmp_ge 50 dX2_goesBy_23 (by decide) (fun c9 => ?_) (fun c9 => ?_)
    · replace h := x_iT h c9
      refine zi_sub [0] rfl ?_
      exact hk50 _ h
    · replace h := x_iF h c9
      refine zi_aload_n 0 dX2_goesBy_26 rfl rfl ?_
      refine ti_getA 52 35 t_o52 q2222 dX2_goesBy_27 ?_
      refine zi_iload_n 2 dX2_goesBy_30 rfl rfl ?_
      obtain ⟨j10, hj10, h⟩ := x_gaE h
      refine ti_iald 52 j10 4096 34 ⟨rfl, rfl⟩ hj10 dX2_goesBy_31 ?_
      refine zi_aload_n 0 dX2_goesBy_32 rfl rfl ?_
      refine ti_getI 27 ⟨Nat.le_of_ble_eq_true rfl, rfl⟩ q2197 dX2_goesBy_33 ?_
      refine zi_icmp_ne 44 dX2_goesBy_36 (by decide) (fun c11 => ?_) (fun c11 => ?_)
      · replace h := x_iF h c11
        refine zi_iinc (v := (v2_6 + (1 : Int32))) (lc1 := [(2, _), (0, _), (1, _)]) 2 dX2_goesBy_44 rfl rfl (Nat.le_of_ble_eq_true rfl) rfl ?_
        refine x_lI (fun v12 => z_V g (d + 8) YX2_goesBy 47 [(2, .int v12), (0, .ref b), (1, .int f1_5)] [] (t_m b σ7 μ) Q) h (fun v12 h => ?_)
        refine zi_goto 21 dX2_goesBy_47 (by decide) ?_
        refine zi_sub [1, 2, 0] rfl ?_
        exact ih _ _ h
      · replace h := x_iT h c11
        refine zi_aload_n 0 dX2_goesBy_39 rfl rfl ?_
        refine zi_iload_n 2 dX2_goesBy_40 rfl rfl ?_
        obtain ⟨σ14, h13, h⟩ := x_bE h
        refine zi_callV [.int v2_6] mX2_comes rfl q2760 t_rec rfl rfl (Nat.le_of_ble_eq_true rfl) dX2_goesBy_41 ?_
        refine w_comes h13 ?_
        refine zi_iinc (v := (v2_6 + (1 : Int32))) (lc1 := [(2, _), (0, _), (1, _)]) 2 dX2_goesBy_44 rfl rfl (Nat.le_of_ble_eq_true rfl) rfl ?_
        refine x_lI (fun v15 => z_V g (d + 8) YX2_goesBy 47 [(2, .int v15), (0, .ref b), (1, .int f1_5)] [] (t_m b σ14 μ) Q) h (fun v15 h => ?_)
        refine zi_goto 21 dX2_goesBy_47 (by decide) ?_
        refine zi_sub [1, 2, 0] rfl ?_
        exact ih _ _ h
noncomputable def D_goesBy_54  (k90 : Int32 → t_S → Option t_S) : Nat → Int32 → Int32 → t_S → Option t_S
  | 0, _, _, _ => none
  | f + 1, v2_17, v3_18, σ19 =>
    if (t_i σ19 45) ≤ v3_18 then (k90 v2_17 σ19) else
    x_ga v3_18 4096 fun j23 =>
    if (t_a σ19 52 j23) ≤ (t_i σ19 27) then (x_l (v3_18 + (1 : Int32)) fun v25 =>
    D_goesBy_54 k90 f v2_17 v25 σ19) else
    x_b (D_moves v3_18 v2_17 σ19) fun σ27 =>
    x_l (v2_17 + (1 : Int32)) fun v28 =>
    x_l (v3_18 + (1 : Int32)) fun v29 =>
    D_goesBy_54 k90 f v28 v29 σ27
theorem w_goesBy_54   {k90 : Int32 → t_S → Option t_S} (hk90 : ∀ (v2_20 : Int32) (σ21 : t_S), k90 v2_20 σ21 = some σz → z_V g (d + 8) YX2_goesBy 90 [(0, .ref b), (2, .int v2_20)] [] (t_m b σ21 μ) Q) (hQ : Q (.inl none) (t_m b σz μ)) : ∀ (f : Nat) (v2_17 : Int32) (v3_18 : Int32) (σ19 : t_S), D_goesBy_54 k90 f v2_17 v3_18 σ19 = some σz → z_V g (d + 8) YX2_goesBy 54 [(0, .ref b), (2, .int v2_17), (3, .int v3_18)] [] (t_m b σ19 μ) Q := by
  intro f
  induction f with
  | zero =>
    intro v2_17 v3_18 σ19 h
    exact absurd h (x_n _)
  | succ f ih =>
    intro v2_17 v3_18 σ19 h
    refine zi_iload_n 2 dX2_goesBy_54 rfl rfl ?_
    refine zi_aload_n 0 dX2_goesBy_55 rfl rfl ?_
    refine ti_getI 45 ⟨Nat.le_of_ble_eq_true rfl, rfl⟩ q2215 dX2_goesBy_56 ?_
    refine zi_icmp_ge 90 dX2_goesBy_59 (by decide) (fun c22 => ?_) (fun c22 => ?_)
    · replace h := x_iT h c22
      refine zi_sub [0, 1] rfl ?_
      exact hk90 _ _ h
    · replace h := x_iF h c22
      refine zi_aload_n 0 dX2_goesBy_62 rfl rfl ?_
      refine ti_getA 52 35 t_o52 q2222 dX2_goesBy_63 ?_
      refine zi_iload_n 2 dX2_goesBy_66 rfl rfl ?_
      obtain ⟨j23, hj23, h⟩ := x_gaE h
      refine ti_iald 52 j23 4096 34 ⟨rfl, rfl⟩ hj23 dX2_goesBy_67 ?_
      refine zi_aload_n 0 dX2_goesBy_68 rfl rfl ?_
      refine ti_getI 27 ⟨Nat.le_of_ble_eq_true rfl, rfl⟩ q2197 dX2_goesBy_69 ?_
      refine zi_icmp_le 84 dX2_goesBy_72 (by decide) (fun c24 => ?_) (fun c24 => ?_)
      · replace h := x_iT h c24
        refine zi_iinc (v := (v3_18 + (1 : Int32))) (lc1 := [(3, _), (0, _), (2, _)]) 2 dX2_goesBy_84 rfl rfl (Nat.le_of_ble_eq_true rfl) rfl ?_
        refine x_lI (fun v25 => z_V g (d + 8) YX2_goesBy 87 [(3, .int v25), (0, .ref b), (2, .int v2_17)] [] (t_m b σ19 μ) Q) h (fun v25 h => ?_)
        refine zi_goto 54 dX2_goesBy_87 (by decide) ?_
        refine zi_sub [1, 2, 0] rfl ?_
        exact ih _ _ _ h
      · replace h := x_iF h c24
        refine zi_aload_n 0 dX2_goesBy_75 rfl rfl ?_
        refine zi_iload_n 2 dX2_goesBy_76 rfl rfl ?_
        refine zi_iload_n 1 dX2_goesBy_77 rfl rfl ?_
        obtain ⟨σ27, h26, h⟩ := x_bE h
        refine zi_callV [.int v3_18, .int v2_17] mX2_moves rfl q2780 t_rec rfl rfl (Nat.le_of_ble_eq_true rfl) dX2_goesBy_78 ?_
        refine w_moves h26 ?_
        refine zi_iinc (v := (v2_17 + (1 : Int32))) (lc1 := [(2, _), (0, _), (3, _)]) 1 dX2_goesBy_81 rfl rfl (Nat.le_of_ble_eq_true rfl) rfl ?_
        refine x_lI (fun v28 => z_V g (d + 8) YX2_goesBy 84 [(2, .int v28), (0, .ref b), (3, .int v3_18)] [] (t_m b σ27 μ) Q) h (fun v28 h => ?_)
        refine zi_iinc (v := (v3_18 + (1 : Int32))) (lc1 := [(3, _), (2, _), (0, _)]) 2 dX2_goesBy_84 rfl rfl (Nat.le_of_ble_eq_true rfl) rfl ?_
        refine x_lI (fun v29 => z_V g (d + 8) YX2_goesBy 87 [(3, .int v29), (2, .int v28), (0, .ref b)] [] (t_m b σ27 μ) Q) h (fun v29 h => ?_)
        refine zi_goto 54 dX2_goesBy_87 (by decide) ?_
        refine zi_sub [2, 1, 0] rfl ?_
        exact ih _ _ _ h
noncomputable def D_goesBy  (σ : t_S) : Option t_S :=
  x_l (t_si σ 27 ((t_i σ 27) + (1 : Int32))) fun σ1 =>
  x_b (D_endsAll σ1) fun σ3 =>
  x_l (t_i σ3 45) fun v4 =>
  D_goesBy_21 v4
    (fun (σ16 : t_S) => D_goesBy_54
    (fun (v2_30 : Int32) (σ31 : t_S) => x_l (t_si σ31 45 v2_30) fun σ32 =>
  some σ32)
    x_F (0 : Int32) (0 : Int32) σ16)
    x_F (0 : Int32) σ3
theorem w_goesBy   (h : D_goesBy σ = some σz) (hQ : Q (.inl none) (t_m b σz μ)) : z_K g (d + 8) YX2_goesBy [.ref b] (t_m b σ μ) Q := by
  unfold D_goesBy at h
  refine z_K.of (by decide) rfl (Nat.le_of_ble_eq_true rfl) ?_
  refine zi_aload_n 0 dX2_goesBy_0 rfl rfl ?_
  refine zi_dup dX2_goesBy_1 rfl ?_
  refine ti_getI 27 ⟨Nat.le_of_ble_eq_true rfl, rfl⟩ q2197 dX2_goesBy_2 ?_
  refine zi_iconst (v := 1) dX2_goesBy_5 (by decide) ?_
  refine zi_iadd dX2_goesBy_6 ?_
  refine ti_putI 27 ⟨Nat.le_of_ble_eq_true rfl, rfl, rfl⟩ (tyX2_ok 27 (Nat.le_of_ble_eq_true rfl)) q2197 dX2_goesBy_7 ?_
  refine x_lI (fun σ1 => z_V g (d + 8) YX2_goesBy 10 [(0, .ref b)] [] (t_m b σ1 μ) Q) h (fun σ1 h => ?_)
  refine zi_aload_n 0 dX2_goesBy_10 rfl rfl ?_
  obtain ⟨σ3, h2, h⟩ := x_bE h
  refine zi_callV [] mX2_endsAll rfl q2756 t_rec rfl rfl (Nat.le_of_ble_eq_true rfl) dX2_goesBy_11 ?_
  refine w_endsAll h2 ?_
  refine zi_aload_n 0 dX2_goesBy_14 rfl rfl ?_
  refine ti_getI 45 ⟨Nat.le_of_ble_eq_true rfl, rfl⟩ q2215 dX2_goesBy_15 ?_
  refine zi_istore_n (lc1 := [(1, _), (0, _)]) dX2_goesBy_18 rfl (Nat.le_of_ble_eq_true rfl) rfl ?_
  refine x_lI (fun v4 => z_V g (d + 8) YX2_goesBy 19 [(1, .int v4), (0, .ref b)] [] (t_m b σ3 μ) Q) h (fun v4 h => ?_)
  refine zi_iconst (v := 0) dX2_goesBy_19 (by decide) ?_
  refine zi_istore_n (lc1 := [(2, _), (1, _), (0, _)]) dX2_goesBy_20 rfl (Nat.le_of_ble_eq_true rfl) rfl ?_
  refine zi_sub [2, 1, 0] rfl ?_
  refine w_goesBy_21 (fun σ16 h => ?_) hQ _ _ _ h
  · refine zi_iconst (v := 0) dX2_goesBy_50 (by decide) ?_
    refine zi_istore_n (lc1 := [(2, _), (0, _)]) dX2_goesBy_51 rfl (Nat.le_of_ble_eq_true rfl) rfl ?_
    refine zi_iconst (v := 0) dX2_goesBy_52 (by decide) ?_
    refine zi_istore_n (lc1 := [(3, _), (2, _), (0, _)]) dX2_goesBy_53 rfl (Nat.le_of_ble_eq_true rfl) rfl ?_
    refine zi_sub [2, 1, 0] rfl ?_
    refine w_goesBy_54 (fun v2_30 σ31 h => ?_) hQ _ _ _ _ h
    · refine zi_aload_n 0 dX2_goesBy_90 rfl rfl ?_
      refine zi_iload_n 1 dX2_goesBy_91 rfl rfl ?_
      refine ti_putI 45 ⟨Nat.le_of_ble_eq_true rfl, rfl, rfl⟩ (tyX2_ok 45 (Nat.le_of_ble_eq_true rfl)) q2215 dX2_goesBy_92 ?_
      refine x_lI (fun σ32 => z_V g (d + 8) YX2_goesBy 95 [(0, .ref b), (2, .int v2_30)] [] (t_m b σ32 μ) Q) h (fun σ32 h => ?_)
      refine zi_return rfl dX2_goesBy_95 ?_
      exact x_r0 h hQ
noncomputable def D_waits_15 (f1_2 : Int32) (k30 : t_S → Option (Int32 × t_S)) : Nat → Int32 → t_S → Option (Int32 × t_S)
  | 0, _, _ => none
  | f + 1, v2_3, σ4 =>
    if f1_2 ≤ v2_3 then (k30 σ4) else
    x_b (D_goesBy σ4) fun σ8 =>
    x_l (v2_3 + (1 : Int32)) fun v9 =>
    D_waits_15 f1_2 k30 f v9 σ8
theorem w_waits_15 {f1_2 : Int32} {rz : Int32} {k30 : t_S → Option (Int32 × t_S)} (hk30 : ∀ (σ5 : t_S), k30 σ5 = some (rz, σz) → z_V g (d + 9) YX2_waits 30 [] [] (t_m b σ5 μ) Q) (hQ : Q (.inl (some (.int rz))) (t_m b σz μ)) : ∀ (f : Nat) (v2_3 : Int32) (σ4 : t_S), D_waits_15 f1_2 k30 f v2_3 σ4 = some (rz, σz) → z_V g (d + 9) YX2_waits 15 [(0, .ref b), (1, .int f1_2), (2, .int v2_3)] [] (t_m b σ4 μ) Q := by
  intro f
  induction f with
  | zero =>
    intro v2_3 σ4 h
    exact absurd h (x_n _)
  | succ f ih =>
    intro v2_3 σ4 h
    refine zi_iload_n 2 dX2_waits_15 rfl rfl ?_
    refine zi_iload_n 1 dX2_waits_16 rfl rfl ?_
    refine zi_icmp_ge 30 dX2_waits_17 (by decide) (fun c6 => ?_) (fun c6 => ?_)
    · replace h := x_iT h c6
      refine zi_sub [] rfl ?_
      exact hk30 _ h
    · replace h := x_iF h c6
      refine zi_aload_n 0 dX2_waits_20 rfl rfl ?_
      obtain ⟨σ8, h7, h⟩ := x_bE h
      refine zi_callV [] mX2_goesBy rfl q2752 t_rec rfl rfl (Nat.le_of_ble_eq_true rfl) dX2_waits_21 ?_
      refine w_goesBy h7 ?_
      refine zi_iinc (v := (v2_3 + (1 : Int32))) (lc1 := [(2, _), (0, _), (1, _)]) 2 dX2_waits_24 rfl rfl (Nat.le_of_ble_eq_true rfl) rfl ?_
      refine x_lI (fun v9 => z_V g (d + 9) YX2_waits 27 [(2, .int v9), (0, .ref b), (1, .int f1_2)] [] (t_m b σ8 μ) Q) h (fun v9 h => ?_)
      refine zi_goto 15 dX2_waits_27 (by decide) ?_
      refine zi_sub [1, 2, 0] rfl ?_
      exact ih _ _ h
noncomputable def D_waits (a1 : Int32) (σ : t_S) : Option (Int32 × t_S) :=
  if ((t_i σ 27) + a1) ≤ (99 : Int32) then (D_waits_15 a1
    (fun (σ10 : t_S) => some ((1 : Int32), σ10))
    x_F (0 : Int32) σ) else
  some ((0 : Int32), σ)
theorem w_waits {a1 : Int32} {rz : Int32} (h : D_waits a1 σ = some (rz, σz)) (hQ : Q (.inl (some (.int rz))) (t_m b σz μ)) : z_K g (d + 9) YX2_waits [.ref b, .int a1] (t_m b σ μ) Q := by
  unfold D_waits at h
  refine z_K.of (by decide) rfl (Nat.le_of_ble_eq_true rfl) ?_
  refine zi_aload_n 0 dX2_waits_0 rfl rfl ?_
  refine ti_getI 27 ⟨Nat.le_of_ble_eq_true rfl, rfl⟩ q2197 dX2_waits_1 ?_
  refine zi_iload_n 1 dX2_waits_4 rfl rfl ?_
  refine zi_iadd dX2_waits_5 ?_
  refine zi_bipush (v := 99) dX2_waits_6 (by decide) ?_
  refine zi_icmp_le 13 dX2_waits_8 (by decide) (fun c1 => ?_) (fun c1 => ?_)
  · replace h := x_iT h c1
    refine zi_iconst (v := 0) dX2_waits_13 (by decide) ?_
    refine zi_istore_n (lc1 := [(2, _), (0, _), (1, _)]) dX2_waits_14 rfl (Nat.le_of_ble_eq_true rfl) rfl ?_
    refine zi_sub [1, 2, 0] rfl ?_
    refine w_waits_15 (fun σ10 h => ?_) hQ _ _ _ h
    · refine zi_iconst (v := 1) dX2_waits_30 (by decide) ?_
      refine zi_ireturn rfl rfl dX2_waits_31 ?_
      exact x_r2i h hQ
  · replace h := x_iF h c1
    refine zi_iconst (v := 0) dX2_waits_11 (by decide) ?_
    refine zi_ireturn rfl rfl dX2_waits_12 ?_
    exact x_r2i h hQ
noncomputable def D_does (a1 : Int32) (a2 : Int32) (a3 : Int32) (a4 : Int32) (σ : t_S) : Option (Int32 × t_S) :=
  if a1 = 0 then (x_b2 (D_asks a2 a3 a1 a4 σ) fun r3 σ4 =>
  x_g (r3 = 0 ∨ r3 = 1) <|
  some (r3, σ4)) else
  if a1 = 1 then (x_b2 (D_asks a2 a3 a1 a4 σ) fun r8 σ9 =>
  x_g (r8 = 0 ∨ r8 = 1) <|
  some (r8, σ9)) else
  if a1 = 2 then (x_b2 (D_waits a2 σ) fun r13 σ14 =>
  x_g (r13 = 0 ∨ r13 = 1) <|
  some (r13, σ14)) else
  if a1 = (3 : Int32) then (x_b2 (D_changes a2 a3 (1 : Int32) σ) fun r22 σ23 =>
  x_g (r22 = 0 ∨ r22 = 1) <|
  some (r22, σ23)) else
  x_b2 (D_changes a2 a3 (0 : Int32) σ) fun r18 σ19 =>
  x_g (r18 = 0 ∨ r18 = 1) <|
  some (r18, σ19)
theorem w_does {a1 : Int32} {a2 : Int32} {a3 : Int32} {a4 : Int32} {rz : Int32} (h : D_does a1 a2 a3 a4 σ = some (rz, σz)) (hQ : Q (.inl (some (.int rz))) (t_m b σz μ)) : z_K g (d + 10) YX2_does [.ref b, .int a1, .int a2, .int a3, .int a4] (t_m b σ μ) Q := by
  unfold D_does at h
  refine z_K.of (by decide) rfl (Nat.le_of_ble_eq_true rfl) ?_
  refine zi_iload_n 1 dX2_does_0 rfl rfl ?_
  rcases Decidable.em (a1 = (0 : Int32)) with c1 | c1
  · replace h := x_iT h c1
    refine zi_tableIn 28 dX2_does_1 (by rw [c1]; decide) (by rw [c1]; decide) (by rw [c1] <;> rfl) (by decide) ?_
    refine zi_aload_n 0 dX2_does_28 rfl rfl ?_
    refine zi_iload_n 2 dX2_does_29 rfl rfl ?_
    refine zi_iload_n 3 dX2_does_30 rfl rfl ?_
    refine zi_iload_n 1 dX2_does_31 rfl rfl ?_
    refine zi_iload 4 dX2_does_32 rfl ?_
    obtain ⟨r3, σ4, h2, h⟩ := x_b2E h
    refine zi_callV [.int a2, .int a3, .int a1, .int a4] mX2_asks rfl q2643 t_rec rfl rfl (Nat.le_of_ble_eq_true rfl) dX2_does_34 ?_
    refine w_asks h2 ?_
    obtain ⟨hz5, h⟩ := x_gE h
    refine zi_ireturn rfl (x_nz hz5) dX2_does_37 ?_
    exact x_r2i h hQ
  replace h := x_iF h c1
  rcases Decidable.em (a1 = (1 : Int32)) with c6 | c6
  · replace h := x_iT h c6
    refine zi_tableIn 28 dX2_does_1 (by rw [c6]; decide) (by rw [c6]; decide) (by rw [c6] <;> rfl) (by decide) ?_
    refine zi_aload_n 0 dX2_does_28 rfl rfl ?_
    refine zi_iload_n 2 dX2_does_29 rfl rfl ?_
    refine zi_iload_n 3 dX2_does_30 rfl rfl ?_
    refine zi_iload_n 1 dX2_does_31 rfl rfl ?_
    refine zi_iload 4 dX2_does_32 rfl ?_
    obtain ⟨r8, σ9, h7, h⟩ := x_b2E h
    refine zi_callV [.int a2, .int a3, .int a1, .int a4] mX2_asks rfl q2643 t_rec rfl rfl (Nat.le_of_ble_eq_true rfl) dX2_does_34 ?_
    refine w_asks h7 ?_
    obtain ⟨hz10, h⟩ := x_gE h
    refine zi_ireturn rfl (x_nz hz10) dX2_does_37 ?_
    exact x_r2i h hQ
  replace h := x_iF h c6
  rcases Decidable.em (a1 = (2 : Int32)) with c11 | c11
  · replace h := x_iT h c11
    refine zi_tableIn 38 dX2_does_1 (by rw [c11]; decide) (by rw [c11]; decide) (by rw [c11] <;> rfl) (by decide) ?_
    refine zi_aload_n 0 dX2_does_38 rfl rfl ?_
    refine zi_iload_n 2 dX2_does_39 rfl rfl ?_
    obtain ⟨r13, σ14, h12, h⟩ := x_b2E h
    refine zi_callV [.int a2] mX2_waits rfl q2748 t_rec rfl rfl (Nat.le_of_ble_eq_true rfl) dX2_does_40 ?_
    refine w_waits h12 ?_
    obtain ⟨hz15, h⟩ := x_gE h
    refine zi_ireturn rfl (x_nz hz15) dX2_does_43 ?_
    exact x_r2i h hQ
  replace h := x_iF h c11
  have hO := x_swO (v := a1) (0) (2) (fun i h1 h2 => by
    rcases (show i = 0 ∨ i = 1 ∨ i = 2 by omega) with rfl | rfl | rfl
    · exact c1
    · exact c6
    · exact c11)
  refine zi_tableOut 44 dX2_does_1 hO (by decide) ?_
  refine zi_aload_n 0 dX2_does_44 rfl rfl ?_
  refine zi_iload_n 2 dX2_does_45 rfl rfl ?_
  refine zi_iload_n 3 dX2_does_46 rfl rfl ?_
  refine zi_iload_n 1 dX2_does_47 rfl rfl ?_
  refine zi_iconst (v := 3) dX2_does_48 (by decide) ?_
  refine zi_icmp_ne 56 dX2_does_49 (by decide) (fun c16 => ?_) (fun c16 => ?_)
  · replace h := x_iF h c16
    refine zi_iconst (v := 0) dX2_does_56 (by decide) ?_
    obtain ⟨r18, σ19, h17, h⟩ := x_b2E h
    refine zi_callV [.int a2, .int a3, .int (0 : Int32)] mX2_changes rfl q2784 t_rec rfl rfl (Nat.le_of_ble_eq_true rfl) dX2_does_57 ?_
    refine w_changes h17 ?_
    obtain ⟨hz20, h⟩ := x_gE h
    refine zi_ireturn rfl (x_nz hz20) dX2_does_60 ?_
    exact x_r2i h hQ
  · replace h := x_iT h c16
    refine zi_iconst (v := 1) dX2_does_52 (by decide) ?_
    refine zi_goto 57 dX2_does_53 (by decide) ?_
    obtain ⟨r22, σ23, h21, h⟩ := x_b2E h
    refine zi_callV [.int a2, .int a3, .int (1 : Int32)] mX2_changes rfl q2784 t_rec rfl rfl (Nat.le_of_ble_eq_true rfl) dX2_does_57 ?_
    refine w_changes h21 ?_
    obtain ⟨hz24, h⟩ := x_gE h
    refine zi_ireturn rfl (x_nz hz24) dX2_does_60 ?_
    exact x_r2i h hQ
noncomputable def D_alone (a1 : Int32) (a2 : Int32) (a3 : Int32) (a4 : Int32) (a5 : Int32) (σ : t_S) : Option (Int32 × t_S) :=
  x_l (t_si σ 0 (0 : Int32)) fun σ1 =>
  x_b2 (D_hasNet a1 σ1) fun r3 σ4 =>
  if r3 = 0 then (some ((-2 : Int32), σ4)) else
  x_b (D_isNode a2 σ4) fun r7 =>
  if r7 = 0 then (some ((-2 : Int32), σ4)) else
  x_b (D_isName a3) fun r10 =>
  if r10 = 0 then (some ((-2 : Int32), σ4)) else
  x_b (D_in a4 (0 : Int32) (1 : Int32)) fun r13 =>
  if r13 = 0 then (some ((-2 : Int32), σ4)) else
  x_b (D_in a5 (0 : Int32) (2 : Int32)) fun r16 =>
  if r16 = 0 then (some ((-2 : Int32), σ4)) else
  x_b (D_begin (-1 : Int32) σ4) fun σ19 =>
  x_b2 (D_asks a2 a3 a4 (0 : Int32) σ19) fun r21 σ22 =>
  x_b2 (D_waits (99 : Int32) σ22) fun r24 σ25 =>
  if a5 = (2 : Int32) then (some ((t_i σ25 65), σ25)) else
  x_b (D_ofAsk (0 : Int32) a5 σ25) fun r28 =>
  some (r28, σ25)
theorem w_alone {a1 : Int32} {a2 : Int32} {a3 : Int32} {a4 : Int32} {a5 : Int32} {rz : Int32} (h : D_alone a1 a2 a3 a4 a5 σ = some (rz, σz)) (hQ : Q (.inl (some (.int rz))) (t_m b σz μ)) : z_K g (d + 10) YX2_alone [.ref b, .int a1, .int a2, .int a3, .int a4, .int a5] (t_m b σ μ) Q := by
  unfold D_alone at h
  refine z_K.of (by decide) rfl (Nat.le_of_ble_eq_true rfl) ?_
  refine zi_aload_n 0 dX2_alone_0 rfl rfl ?_
  refine zi_iconst (v := 0) dX2_alone_1 (by decide) ?_
  refine ti_putI 0 ⟨Nat.le_of_ble_eq_true rfl, rfl, rfl⟩ (tyX2_ok 0 (Nat.le_of_ble_eq_true rfl)) q2170 dX2_alone_2 ?_
  refine x_lI (fun σ1 => z_V g (d + 10) YX2_alone 5 [(0, .ref b), (1, .int a1), (2, .int a2), (3, .int a3), (4, .int a4), (5, .int a5)] [] (t_m b σ1 μ) Q) h (fun σ1 h => ?_)
  refine zi_aload_n 0 dX2_alone_5 rfl rfl ?_
  refine zi_iload_n 1 dX2_alone_6 rfl rfl ?_
  obtain ⟨r3, σ4, h2, h⟩ := x_b2E h
  refine zi_callV [.int a1] mX2_hasNet rfl q2563 t_rec rfl rfl (Nat.le_of_ble_eq_true rfl) dX2_alone_7 ?_
  refine w_hasNet h2 ?_
  refine zi_if_eq 48 dX2_alone_10 (by decide) (fun c5 => ?_) (fun c5 => ?_)
  · replace h := x_iT h c5
    refine zi_bipush (v := -2) dX2_alone_48 (by decide) ?_
    refine zi_ireturn rfl rfl dX2_alone_50 ?_
    exact x_r2i h hQ
  · replace h := x_iF h c5
    refine zi_aload_n 0 dX2_alone_13 rfl rfl ?_
    refine zi_iload_n 2 dX2_alone_14 rfl rfl ?_
    obtain ⟨r7, h6, h⟩ := x_bE h
    refine zi_callV [.int a2] mX2_isNode rfl q2571 t_rec rfl rfl (Nat.le_of_ble_eq_true rfl) dX2_alone_15 ?_
    refine w_isNode h6 ?_
    refine zi_if_eq 48 dX2_alone_18 (by decide) (fun c8 => ?_) (fun c8 => ?_)
    · replace h := x_iT h c8
      refine zi_bipush (v := -2) dX2_alone_48 (by decide) ?_
      refine zi_ireturn rfl rfl dX2_alone_50 ?_
      exact x_r2i h hQ
    · replace h := x_iF h c8
      refine zi_iload_n 3 dX2_alone_21 rfl rfl ?_
      obtain ⟨r10, h9, h⟩ := x_bE h
      refine zi_callS [.int a3] mX2_isName rfl q2830 rfl rfl (Nat.le_of_ble_eq_true rfl) dX2_alone_22 ?_
      refine w_isName h9 ?_
      refine zi_if_eq 48 dX2_alone_25 (by decide) (fun c11 => ?_) (fun c11 => ?_)
      · replace h := x_iT h c11
        refine zi_bipush (v := -2) dX2_alone_48 (by decide) ?_
        refine zi_ireturn rfl rfl dX2_alone_50 ?_
        exact x_r2i h hQ
      · replace h := x_iF h c11
        refine zi_iload 4 dX2_alone_28 rfl ?_
        refine zi_iconst (v := 0) dX2_alone_30 (by decide) ?_
        refine zi_iconst (v := 1) dX2_alone_31 (by decide) ?_
        obtain ⟨r13, h12, h⟩ := x_bE h
        refine zi_callS [.int a4, .int (0 : Int32), .int (1 : Int32)] mX2_in rfl q2445 rfl rfl (Nat.le_of_ble_eq_true rfl) dX2_alone_32 ?_
        refine w_in h12 ?_
        refine zi_if_eq 48 dX2_alone_35 (by decide) (fun c14 => ?_) (fun c14 => ?_)
        · replace h := x_iT h c14
          refine zi_bipush (v := -2) dX2_alone_48 (by decide) ?_
          refine zi_ireturn rfl rfl dX2_alone_50 ?_
          exact x_r2i h hQ
        · replace h := x_iF h c14
          refine zi_iload 5 dX2_alone_38 rfl ?_
          refine zi_iconst (v := 0) dX2_alone_40 (by decide) ?_
          refine zi_iconst (v := 2) dX2_alone_41 (by decide) ?_
          obtain ⟨r16, h15, h⟩ := x_bE h
          refine zi_callS [.int a5, .int (0 : Int32), .int (2 : Int32)] mX2_in rfl q2445 rfl rfl (Nat.le_of_ble_eq_true rfl) dX2_alone_42 ?_
          refine w_in h15 ?_
          refine zi_if_ne 51 dX2_alone_45 (by decide) (fun c17 => ?_) (fun c17 => ?_)
          · replace h := x_iF h c17
            refine zi_aload_n 0 dX2_alone_51 rfl rfl ?_
            refine zi_iconst (v := -1) dX2_alone_52 (by decide) ?_
            obtain ⟨σ19, h18, h⟩ := x_bE h
            refine zi_callV [.int (-1 : Int32)] mX2_begin rfl q2631 t_rec rfl rfl (Nat.le_of_ble_eq_true rfl) dX2_alone_53 ?_
            refine w_begin h18 ?_
            refine zi_aload_n 0 dX2_alone_56 rfl rfl ?_
            refine zi_iload_n 2 dX2_alone_57 rfl rfl ?_
            refine zi_iload_n 3 dX2_alone_58 rfl rfl ?_
            refine zi_iload 4 dX2_alone_59 rfl ?_
            refine zi_iconst (v := 0) dX2_alone_61 (by decide) ?_
            obtain ⟨r21, σ22, h20, h⟩ := x_b2E h
            refine zi_callV [.int a2, .int a3, .int a4, .int (0 : Int32)] mX2_asks rfl q2643 t_rec rfl rfl (Nat.le_of_ble_eq_true rfl) dX2_alone_62 ?_
            refine w_asks h20 ?_
            refine zi_pop dX2_alone_65 rfl ?_
            refine zi_aload_n 0 dX2_alone_66 rfl rfl ?_
            refine zi_bipush (v := 99) dX2_alone_67 (by decide) ?_
            obtain ⟨r24, σ25, h23, h⟩ := x_b2E h
            refine zi_callV [.int (99 : Int32)] mX2_waits rfl q2748 t_rec rfl rfl (Nat.le_of_ble_eq_true rfl) dX2_alone_69 ?_
            refine w_waits h23 ?_
            refine zi_pop dX2_alone_72 rfl ?_
            refine zi_iload 5 dX2_alone_73 rfl ?_
            refine zi_iconst (v := 2) dX2_alone_75 (by decide) ?_
            refine zi_icmp_ne 86 dX2_alone_76 (by decide) (fun c26 => ?_) (fun c26 => ?_)
            · replace h := x_iF h c26
              refine zi_aload_n 0 dX2_alone_86 rfl rfl ?_
              refine zi_iconst (v := 0) dX2_alone_87 (by decide) ?_
              refine zi_iload 5 dX2_alone_88 rfl ?_
              obtain ⟨r28, h27, h⟩ := x_bE h
              refine zi_callV [.int (0 : Int32), .int a5] mX2_ofAsk rfl q2822 t_rec rfl rfl (Nat.le_of_ble_eq_true rfl) dX2_alone_90 ?_
              refine w_ofAsk h27 ?_
              refine zi_ireturn rfl rfl dX2_alone_93 ?_
              exact x_r2i h hQ
            · replace h := x_iT h c26
              refine zi_aload_n 0 dX2_alone_79 rfl rfl ?_
              refine ti_getI 65 ⟨Nat.le_of_ble_eq_true rfl, rfl⟩ q2235 dX2_alone_80 ?_
              refine zi_goto 93 dX2_alone_83 (by decide) ?_
              refine zi_ireturn rfl rfl dX2_alone_93 ?_
              exact x_r2i h hQ
          · replace h := x_iT h c17
            refine zi_bipush (v := -2) dX2_alone_48 (by decide) ?_
            refine zi_ireturn rfl rfl dX2_alone_50 ?_
            exact x_r2i h hQ
noncomputable def D_play_7 (f1_2 : Int32) (k59 : Int32 → t_S → Option (Int32 × t_S)) : Nat → Int32 → t_S → Option (Int32 × t_S)
  | 0, _, _ => none
  | f + 1, v2_3, σ4 =>
    if f1_2 ≤ v2_3 then (k59 v2_3 σ4) else
    x_b (D_deedOf v2_3 (0 : Int32) σ4) fun r9 =>
    x_b (D_deedOf v2_3 (1 : Int32) σ4) fun r11 =>
    x_b (D_deedOf v2_3 (2 : Int32) σ4) fun r13 =>
    x_b2 (D_does r9 r11 r13 v2_3 σ4) fun r15 σ16 =>
    if r15 = 0 then (k59 v2_3 σ16) else
    x_l (v2_3 + (1 : Int32)) fun v18 =>
    x_b (D_entriesAll σ16) fun r20 =>
    x_b (D_greater (t_i σ16 76) r20) fun r22 =>
    x_l (t_si σ16 76 r22) fun σ23 =>
    D_play_7 f1_2 k59 f v18 σ23
theorem w_play_7 {f1_2 : Int32} {rz : Int32} {k59 : Int32 → t_S → Option (Int32 × t_S)} (hk59 : ∀ (v2_5 : Int32) (σ6 : t_S), k59 v2_5 σ6 = some (rz, σz) → z_V g (d + 11) YX2_play 59 [(2, .int v2_5)] [] (t_m b σ6 μ) Q) (hQ : Q (.inl (some (.int rz))) (t_m b σz μ)) : ∀ (f : Nat) (v2_3 : Int32) (σ4 : t_S), D_play_7 f1_2 k59 f v2_3 σ4 = some (rz, σz) → z_V g (d + 11) YX2_play 7 [(0, .ref b), (1, .int f1_2), (2, .int v2_3)] [] (t_m b σ4 μ) Q := by
  intro f
  induction f with
  | zero =>
    intro v2_3 σ4 h
    exact absurd h (x_n _)
  | succ f ih =>
    intro v2_3 σ4 h
    refine zi_iload_n 2 dX2_play_7 rfl rfl ?_
    refine zi_iload_n 1 dX2_play_8 rfl rfl ?_
    refine zi_icmp_ge 59 dX2_play_9 (by decide) (fun c7 => ?_) (fun c7 => ?_)
    · replace h := x_iT h c7
      refine zi_sub [2] rfl ?_
      exact hk59 _ _ h
    · replace h := x_iF h c7
      refine zi_aload_n 0 dX2_play_12 rfl rfl ?_
      refine zi_aload_n 0 dX2_play_13 rfl rfl ?_
      refine zi_iload_n 2 dX2_play_14 rfl rfl ?_
      refine zi_iconst (v := 0) dX2_play_15 (by decide) ?_
      obtain ⟨r9, h8, h⟩ := x_bE h
      refine zi_callV [.int v2_3, .int (0 : Int32)] mX2_deedOf rfl q2619 t_rec rfl rfl (Nat.le_of_ble_eq_true rfl) dX2_play_16 ?_
      refine w_deedOf h8 ?_
      refine zi_aload_n 0 dX2_play_19 rfl rfl ?_
      refine zi_iload_n 2 dX2_play_20 rfl rfl ?_
      refine zi_iconst (v := 1) dX2_play_21 (by decide) ?_
      obtain ⟨r11, h10, h⟩ := x_bE h
      refine zi_callV [.int v2_3, .int (1 : Int32)] mX2_deedOf rfl q2619 t_rec rfl rfl (Nat.le_of_ble_eq_true rfl) dX2_play_22 ?_
      refine w_deedOf h10 ?_
      refine zi_aload_n 0 dX2_play_25 rfl rfl ?_
      refine zi_iload_n 2 dX2_play_26 rfl rfl ?_
      refine zi_iconst (v := 2) dX2_play_27 (by decide) ?_
      obtain ⟨r13, h12, h⟩ := x_bE h
      refine zi_callV [.int v2_3, .int (2 : Int32)] mX2_deedOf rfl q2619 t_rec rfl rfl (Nat.le_of_ble_eq_true rfl) dX2_play_28 ?_
      refine w_deedOf h12 ?_
      refine zi_iload_n 2 dX2_play_31 rfl rfl ?_
      obtain ⟨r15, σ16, h14, h⟩ := x_b2E h
      refine zi_callV [.int r9, .int r11, .int r13, .int v2_3] mX2_does rfl q2639 t_rec rfl rfl (Nat.le_of_ble_eq_true rfl) dX2_play_32 ?_
      refine w_does h14 ?_
      refine zi_if_eq 59 dX2_play_35 (by decide) (fun c17 => ?_) (fun c17 => ?_)
      · replace h := x_iT h c17
        refine zi_sub [2] rfl ?_
        exact hk59 _ _ h
      · replace h := x_iF h c17
        refine zi_iinc (v := (v2_3 + (1 : Int32))) (lc1 := [(2, _), (0, _), (1, _)]) 2 dX2_play_38 rfl rfl (Nat.le_of_ble_eq_true rfl) rfl ?_
        refine x_lI (fun v18 => z_V g (d + 11) YX2_play 41 [(2, .int v18), (0, .ref b), (1, .int f1_2)] [] (t_m b σ16 μ) Q) h (fun v18 h => ?_)
        refine zi_aload_n 1 dX2_play_41 rfl rfl ?_
        refine zi_aload_n 1 dX2_play_42 rfl rfl ?_
        refine ti_getI 76 ⟨Nat.le_of_ble_eq_true rfl, rfl⟩ q2246 dX2_play_43 ?_
        refine zi_aload_n 1 dX2_play_46 rfl rfl ?_
        obtain ⟨r20, h19, h⟩ := x_bE h
        refine zi_callV [] mX2_entriesAll rfl q2788 t_rec rfl rfl (Nat.le_of_ble_eq_true rfl) dX2_play_47 ?_
        refine w_entriesAll h19 ?_
        obtain ⟨r22, h21, h⟩ := x_bE h
        refine zi_callS [.int (t_i σ16 76), .int r20] mX2_greater rfl q2499 rfl rfl (Nat.le_of_ble_eq_true rfl) dX2_play_50 ?_
        refine w_greater h21 ?_
        refine ti_putI 76 ⟨Nat.le_of_ble_eq_true rfl, rfl, rfl⟩ (tyX2_ok 76 (Nat.le_of_ble_eq_true rfl)) q2246 dX2_play_53 ?_
        refine x_lI (fun σ23 => z_V g (d + 11) YX2_play 56 [(2, .int v18), (0, .ref b), (1, .int f1_2)] [] (t_m b σ23 μ) Q) h (fun σ23 h => ?_)
        refine zi_goto 7 dX2_play_56 (by decide) ?_
        refine zi_sub [1, 2, 0] rfl ?_
        exact ih _ _ h
noncomputable def D_play (a1 : Int32) (σ : t_S) : Option (Int32 × t_S) :=
  x_l (t_si σ 76 (0 : Int32)) fun σ1 =>
  D_play_7 a1
    (fun (v2_24 : Int32) (σ25 : t_S) => some (v2_24, σ25))
    x_F (0 : Int32) σ1
theorem w_play {a1 : Int32} {rz : Int32} (h : D_play a1 σ = some (rz, σz)) (hQ : Q (.inl (some (.int rz))) (t_m b σz μ)) : z_K g (d + 11) YX2_play [.ref b, .int a1] (t_m b σ μ) Q := by
  unfold D_play at h
  refine z_K.of (by decide) rfl (Nat.le_of_ble_eq_true rfl) ?_
  refine zi_aload_n 0 dX2_play_0 rfl rfl ?_
  refine zi_iconst (v := 0) dX2_play_1 (by decide) ?_
  refine ti_putI 76 ⟨Nat.le_of_ble_eq_true rfl, rfl, rfl⟩ (tyX2_ok 76 (Nat.le_of_ble_eq_true rfl)) q2246 dX2_play_2 ?_
  refine x_lI (fun σ1 => z_V g (d + 11) YX2_play 5 [(0, .ref b), (1, .int a1)] [] (t_m b σ1 μ) Q) h (fun σ1 h => ?_)
  refine zi_iconst (v := 0) dX2_play_5 (by decide) ?_
  refine zi_istore_n (lc1 := [(2, _), (0, _), (1, _)]) dX2_play_6 rfl (Nat.le_of_ble_eq_true rfl) rfl ?_
  refine zi_sub [1, 2, 0] rfl ?_
  refine w_play_7 (fun v2_24 σ25 h => ?_) hQ _ _ _ h
  · refine zi_iload_n 0 dX2_play_59 rfl rfl ?_
    refine zi_ireturn rfl rfl dX2_play_60 ?_
    exact x_r2i h hQ
noncomputable def D_drawDeed (a1 : Int32) (σ : t_S) : Option t_S :=
  x_b2 (D_draw (10 : Int32) σ) fun r2 σ3 =>
  if (5 : Int32) ≤ r2 then (if (9 : Int32) ≤ r2 then (x_b (D_links σ3) fun r7 =>
  if r7 ≤ 0 then (some σ3) else
  x_b (D_links σ3) fun r10 =>
  x_b2 (D_draw r10 σ3) fun r12 σ13 =>
  x_b (D_linkAt r12 (0 : Int32) σ13) fun r15 =>
  x_b (D_linkAt r12 (1 : Int32) σ13) fun r17 =>
  x_b (D_has (t_i σ13 26) r12) fun r19 =>
  if r19 = 0 then (x_b2 (D_changes r15 r17 (1 : Int32) σ13) fun r25 σ26 =>
  some σ26) else
  x_b2 (D_changes r15 r17 (0 : Int32) σ13) fun r22 σ23 =>
  some σ23) else
  x_b2 (D_draw (5 : Int32) σ3) fun r28 σ29 =>
  x_b2 (D_waits ((1 : Int32) + r28) σ29) fun r31 σ32 =>
  some σ32) else
  x_b (D_serves σ3) fun r34 =>
  if r34 ≤ 0 then (some σ3) else
  x_b2 (D_draw (t_i σ3 23) σ3) fun r37 σ38 =>
  x_b (D_serves σ38) fun r40 =>
  x_b2 (D_draw r40 σ38) fun r42 σ43 =>
  x_b (D_serveAt r42 (1 : Int32) σ43) fun r45 =>
  x_b2 (D_draw (3 : Int32) σ43) fun r47 σ48 =>
  x_l (fun (s49 : Int32) => x_l (fun (s50 : Int32) => x_b2 (D_does s50 r37 s49 a1 σ48) fun r52 σ53 =>
  some σ53) fun J90 =>
  if (4 : Int32) ≤ r2 then (J90 (1 : Int32)) else
  J90 (0 : Int32)) fun J77 =>
  x_l (J77 r45) fun J75 =>
  if r47 ≤ 0 then (J75) else
  x_b (D_lettersOf r45) fun r57 =>
  if (4 : Int32) ≤ r57 then (J75) else
  J77 (((27 : Int32) * r45) + r47)
theorem w_drawDeed {a1 : Int32}  (h : D_drawDeed a1 σ = some σz) (hQ : Q (.inl none) (t_m b σz μ)) : z_K g (d + 11) YX2_drawDeed [.ref b, .int a1] (t_m b σ μ) Q := by
  unfold D_drawDeed at h
  refine z_K.of (by decide) rfl (Nat.le_of_ble_eq_true rfl) ?_
  refine zi_aload_n 0 dX2_drawDeed_0 rfl rfl ?_
  refine zi_bipush (v := 10) dX2_drawDeed_1 (by decide) ?_
  obtain ⟨r2, σ3, h1, h⟩ := x_b2E h
  refine zi_callV [.int (10 : Int32)] mX2_draw rfl q2897 t_rec rfl rfl (Nat.le_of_ble_eq_true rfl) dX2_drawDeed_3 ?_
  refine w_draw h1 ?_
  refine zi_istore_n (lc1 := [(2, _), (0, _), (1, _)]) dX2_drawDeed_6 rfl (Nat.le_of_ble_eq_true rfl) rfl ?_
  refine zi_iload_n 0 dX2_drawDeed_7 rfl rfl ?_
  refine zi_iconst (v := 5) dX2_drawDeed_8 (by decide) ?_
  refine zi_icmp_ge 101 dX2_drawDeed_9 (by decide) (fun c4 => ?_) (fun c4 => ?_)
  · replace h := x_iT h c4
    refine zi_iload_n 0 dX2_drawDeed_101 rfl rfl ?_
    refine zi_bipush (v := 9) dX2_drawDeed_102 (by decide) ?_
    refine zi_icmp_ge 122 dX2_drawDeed_104 (by decide) (fun c5 => ?_) (fun c5 => ?_)
    · replace h := x_iT h c5
      refine zi_aload_n 1 dX2_drawDeed_122 rfl rfl ?_
      obtain ⟨r7, h6, h⟩ := x_bE h
      refine zi_callV [] mX2_links rfl q2579 t_rec rfl rfl (Nat.le_of_ble_eq_true rfl) dX2_drawDeed_123 ?_
      refine w_links h6 ?_
      refine zi_if_le 171 dX2_drawDeed_126 (by decide) (fun c8 => ?_) (fun c8 => ?_)
      · replace h := x_iT h c8
        refine zi_return rfl dX2_drawDeed_171 ?_
        exact x_r0 h hQ
      · replace h := x_iF h c8
        refine zi_aload_n 1 dX2_drawDeed_129 rfl rfl ?_
        refine zi_aload_n 1 dX2_drawDeed_130 rfl rfl ?_
        obtain ⟨r10, h9, h⟩ := x_bE h
        refine zi_callV [] mX2_links rfl q2579 t_rec rfl rfl (Nat.le_of_ble_eq_true rfl) dX2_drawDeed_131 ?_
        refine w_links h9 ?_
        obtain ⟨r12, σ13, h11, h⟩ := x_b2E h
        refine zi_callV [.int r10] mX2_draw rfl q2897 t_rec rfl rfl (Nat.le_of_ble_eq_true rfl) dX2_drawDeed_134 ?_
        refine w_draw h11 ?_
        refine zi_istore_n (lc1 := [(3, _), (2, _), (0, _), (1, _)]) dX2_drawDeed_137 rfl (Nat.le_of_ble_eq_true rfl) rfl ?_
        refine zi_aload_n 2 dX2_drawDeed_138 rfl rfl ?_
        refine zi_aload_n 2 dX2_drawDeed_139 rfl rfl ?_
        refine zi_iload_n 0 dX2_drawDeed_140 rfl rfl ?_
        refine zi_iconst (v := 0) dX2_drawDeed_141 (by decide) ?_
        obtain ⟨r15, h14, h⟩ := x_bE h
        refine zi_callV [.int r12, .int (0 : Int32)] mX2_linkAt rfl q2583 t_rec rfl rfl (Nat.le_of_ble_eq_true rfl) dX2_drawDeed_142 ?_
        refine w_linkAt h14 ?_
        refine zi_aload_n 2 dX2_drawDeed_145 rfl rfl ?_
        refine zi_iload_n 0 dX2_drawDeed_146 rfl rfl ?_
        refine zi_iconst (v := 1) dX2_drawDeed_147 (by decide) ?_
        obtain ⟨r17, h16, h⟩ := x_bE h
        refine zi_callV [.int r12, .int (1 : Int32)] mX2_linkAt rfl q2583 t_rec rfl rfl (Nat.le_of_ble_eq_true rfl) dX2_drawDeed_148 ?_
        refine w_linkAt h16 ?_
        refine zi_aload_n 2 dX2_drawDeed_151 rfl rfl ?_
        refine ti_getI 26 ⟨Nat.le_of_ble_eq_true rfl, rfl⟩ q2196 dX2_drawDeed_152 ?_
        refine zi_iload_n 0 dX2_drawDeed_155 rfl rfl ?_
        obtain ⟨r19, h18, h⟩ := x_bE h
        refine zi_callS [.int (t_i σ13 26), .int r12] mX2_has rfl q2682 rfl rfl (Nat.le_of_ble_eq_true rfl) dX2_drawDeed_156 ?_
        refine w_has h18 ?_
        refine zi_if_ne 166 dX2_drawDeed_159 (by decide) (fun c20 => ?_) (fun c20 => ?_)
        · replace h := x_iF h c20
          refine zi_iconst (v := 0) dX2_drawDeed_166 (by decide) ?_
          obtain ⟨r22, σ23, h21, h⟩ := x_b2E h
          refine zi_callV [.int r15, .int r17, .int (0 : Int32)] mX2_changes rfl q2784 t_rec rfl rfl (Nat.le_of_ble_eq_true rfl) dX2_drawDeed_167 ?_
          refine w_changes h21 ?_
          refine zi_pop dX2_drawDeed_170 rfl ?_
          refine zi_return rfl dX2_drawDeed_171 ?_
          exact x_r0 h hQ
        · replace h := x_iT h c20
          refine zi_iconst (v := 1) dX2_drawDeed_162 (by decide) ?_
          refine zi_goto 167 dX2_drawDeed_163 (by decide) ?_
          obtain ⟨r25, σ26, h24, h⟩ := x_b2E h
          refine zi_callV [.int r15, .int r17, .int (1 : Int32)] mX2_changes rfl q2784 t_rec rfl rfl (Nat.le_of_ble_eq_true rfl) dX2_drawDeed_167 ?_
          refine w_changes h24 ?_
          refine zi_pop dX2_drawDeed_170 rfl ?_
          refine zi_return rfl dX2_drawDeed_171 ?_
          exact x_r0 h hQ
    · replace h := x_iF h c5
      refine zi_aload_n 1 dX2_drawDeed_107 rfl rfl ?_
      refine zi_iconst (v := 1) dX2_drawDeed_108 (by decide) ?_
      refine zi_aload_n 1 dX2_drawDeed_109 rfl rfl ?_
      refine zi_iconst (v := 5) dX2_drawDeed_110 (by decide) ?_
      obtain ⟨r28, σ29, h27, h⟩ := x_b2E h
      refine zi_callV [.int (5 : Int32)] mX2_draw rfl q2897 t_rec rfl rfl (Nat.le_of_ble_eq_true rfl) dX2_drawDeed_111 ?_
      refine w_draw h27 ?_
      refine zi_iadd dX2_drawDeed_114 ?_
      obtain ⟨r31, σ32, h30, h⟩ := x_b2E h
      refine zi_callV [.int ((1 : Int32) + r28)] mX2_waits rfl q2748 t_rec rfl rfl (Nat.le_of_ble_eq_true rfl) dX2_drawDeed_115 ?_
      refine w_waits h30 ?_
      refine zi_pop dX2_drawDeed_118 rfl ?_
      refine zi_goto 171 dX2_drawDeed_119 (by decide) ?_
      refine zi_return rfl dX2_drawDeed_171 ?_
      exact x_r0 h hQ
  · replace h := x_iF h c4
    refine zi_aload_n 1 dX2_drawDeed_12 rfl rfl ?_
    obtain ⟨r34, h33, h⟩ := x_bE h
    refine zi_callV [] mX2_serves rfl q2599 t_rec rfl rfl (Nat.le_of_ble_eq_true rfl) dX2_drawDeed_13 ?_
    refine w_serves h33 ?_
    refine zi_if_le 171 dX2_drawDeed_16 (by decide) (fun c35 => ?_) (fun c35 => ?_)
    · replace h := x_iT h c35
      refine zi_return rfl dX2_drawDeed_171 ?_
      exact x_r0 h hQ
    · replace h := x_iF h c35
      refine zi_aload_n 1 dX2_drawDeed_19 rfl rfl ?_
      refine zi_aload_n 1 dX2_drawDeed_20 rfl rfl ?_
      refine ti_getI 23 ⟨Nat.le_of_ble_eq_true rfl, rfl⟩ q2193 dX2_drawDeed_21 ?_
      obtain ⟨r37, σ38, h36, h⟩ := x_b2E h
      refine zi_callV [.int (t_i σ3 23)] mX2_draw rfl q2897 t_rec rfl rfl (Nat.le_of_ble_eq_true rfl) dX2_drawDeed_24 ?_
      refine w_draw h36 ?_
      refine zi_istore_n (lc1 := [(3, _), (2, _), (0, _), (1, _)]) dX2_drawDeed_27 rfl (Nat.le_of_ble_eq_true rfl) rfl ?_
      refine zi_aload_n 2 dX2_drawDeed_28 rfl rfl ?_
      refine zi_aload_n 2 dX2_drawDeed_29 rfl rfl ?_
      refine zi_aload_n 2 dX2_drawDeed_30 rfl rfl ?_
      obtain ⟨r40, h39, h⟩ := x_bE h
      refine zi_callV [] mX2_serves rfl q2599 t_rec rfl rfl (Nat.le_of_ble_eq_true rfl) dX2_drawDeed_31 ?_
      refine w_serves h39 ?_
      obtain ⟨r42, σ43, h41, h⟩ := x_b2E h
      refine zi_callV [.int r40] mX2_draw rfl q2897 t_rec rfl rfl (Nat.le_of_ble_eq_true rfl) dX2_drawDeed_34 ?_
      refine w_draw h41 ?_
      refine zi_iconst (v := 1) dX2_drawDeed_37 (by decide) ?_
      obtain ⟨r45, h44, h⟩ := x_bE h
      refine zi_callV [.int r42, .int (1 : Int32)] mX2_serveAt rfl q2603 t_rec rfl rfl (Nat.le_of_ble_eq_true rfl) dX2_drawDeed_38 ?_
      refine w_serveAt h44 ?_
      refine zi_istore (lc1 := [(4, _), (3, _), (2, _), (0, _), (1, _)]) dX2_drawDeed_41 (Nat.le_of_ble_eq_true rfl) rfl ?_
      refine zi_aload_n 3 dX2_drawDeed_43 rfl rfl ?_
      refine zi_iconst (v := 3) dX2_drawDeed_44 (by decide) ?_
      obtain ⟨r47, σ48, h46, h⟩ := x_b2E h
      refine zi_callV [.int (3 : Int32)] mX2_draw rfl q2897 t_rec rfl rfl (Nat.le_of_ble_eq_true rfl) dX2_drawDeed_45 ?_
      refine w_draw h46 ?_
      refine zi_istore (lc1 := [(5, _), (4, _), (3, _), (2, _), (0, _), (1, _)]) dX2_drawDeed_48 (Nat.le_of_ble_eq_true rfl) rfl ?_
      refine zi_iload 0 dX2_drawDeed_50 rfl ?_
      refine x_jI (fun (J : Int32 → Option t_S) => ∀ (s49 : Int32), J s49 = some σz → z_V g (d + 11) YX2_drawDeed 77 [(0, .ref b), (1, .int a1), (2, .int r2), (3, .int r37)] [.int s49] (t_m b σ48 μ) Q) h (fun s49 h => ?_) (fun J77 hJ77 h => ?_)
      · refine zi_istore (lc1 := [(4, _), (0, _), (1, _), (2, _), (3, _)]) dX2_drawDeed_77 (Nat.le_of_ble_eq_true rfl) rfl ?_
        refine zi_aload_n 1 dX2_drawDeed_79 rfl rfl ?_
        refine zi_iload_n 3 dX2_drawDeed_80 rfl rfl ?_
        refine zi_iconst (v := 4) dX2_drawDeed_81 (by decide) ?_
        refine x_jI (fun (J : Int32 → Option t_S) => ∀ (s50 : Int32), J s50 = some σz → z_V g (d + 11) YX2_drawDeed 90 [(1, .int a1), (3, .int r37), (4, .int s49)] [.int s50, .ref b] (t_m b σ48 μ) Q) h (fun s50 h => ?_) (fun J90 hJ90 h => ?_)
        · refine zi_iload_n 1 dX2_drawDeed_90 rfl rfl ?_
          refine zi_iload 2 dX2_drawDeed_91 rfl ?_
          refine zi_iload_n 0 dX2_drawDeed_93 rfl rfl ?_
          obtain ⟨r52, σ53, h51, h⟩ := x_b2E h
          refine zi_callV [.int s50, .int r37, .int s49, .int a1] mX2_does rfl q2639 t_rec rfl rfl (Nat.le_of_ble_eq_true rfl) dX2_drawDeed_94 ?_
          refine w_does h51 ?_
          refine zi_pop dX2_drawDeed_97 rfl ?_
          refine zi_goto 171 dX2_drawDeed_98 (by decide) ?_
          refine zi_return rfl dX2_drawDeed_171 ?_
          exact x_r0 h hQ
        refine zi_icmp_ge 89 dX2_drawDeed_82 (by decide) (fun c54 => ?_) (fun c54 => ?_)
        · replace h := x_iT h c54
          refine zi_iconst (v := 1) dX2_drawDeed_89 (by decide) ?_
          refine zi_sub [2, 4, 0] rfl ?_
          exact hJ90 _ h
        · replace h := x_iF h c54
          refine zi_iconst (v := 0) dX2_drawDeed_85 (by decide) ?_
          refine zi_goto 90 dX2_drawDeed_86 (by decide) ?_
          refine zi_sub [2, 4, 0] rfl ?_
          exact hJ90 _ h
      refine x_jI (fun (J : Option t_S) => J = some σz → z_V g (d + 11) YX2_drawDeed 75 [(0, .ref b), (1, .int a1), (2, .int r2), (3, .int r37), (4, .int r45)] [] (t_m b σ48 μ) Q) h (fun  h => ?_) (fun J75 hJ75 h => ?_)
      · refine zi_iload 4 dX2_drawDeed_75 rfl ?_
        refine zi_sub [0, 1, 2, 3] rfl ?_
        exact hJ77 _ h
      refine zi_if_le 75 dX2_drawDeed_52 (by decide) (fun c55 => ?_) (fun c55 => ?_)
      · replace h := x_iT h c55
        refine zi_sub [4, 5, 3, 2, 1] rfl ?_
        exact hJ75  h
      · replace h := x_iF h c55
        refine zi_iload 1 dX2_drawDeed_55 rfl ?_
        obtain ⟨r57, h56, h⟩ := x_bE h
        refine zi_callS [.int r45] mX2_lettersOf rfl q2712 rfl rfl (Nat.le_of_ble_eq_true rfl) dX2_drawDeed_57 ?_
        refine w_lettersOf h56 ?_
        refine zi_iconst (v := 4) dX2_drawDeed_60 (by decide) ?_
        refine zi_icmp_ge 75 dX2_drawDeed_61 (by decide) (fun c58 => ?_) (fun c58 => ?_)
        · replace h := x_iT h c58
          refine zi_sub [4, 5, 3, 2, 1] rfl ?_
          exact hJ75  h
        · replace h := x_iF h c58
          refine zi_bipush (v := 27) dX2_drawDeed_64 (by decide) ?_
          refine zi_iload 1 dX2_drawDeed_66 rfl ?_
          refine zi_imul dX2_drawDeed_68 ?_
          refine zi_iload 0 dX2_drawDeed_69 rfl ?_
          refine zi_iadd dX2_drawDeed_71 ?_
          refine zi_goto 77 dX2_drawDeed_72 (by decide) ?_
          refine zi_sub [4, 5, 3, 2] rfl ?_
          exact hJ77 _ h
noncomputable def D_stop (a1 : Int32) (a2 : Int32) (σ : t_S) : Option (Int32 × t_S) :=
  x_l (t_si σ 0 (0 : Int32)) fun σ1 =>
  x_b2 (D_lay a1 a2 σ1) fun r3 σ4 =>
  if r3 = 0 then (some ((-1 : Int32), σ4)) else
  x_b (D_deeds σ4) fun r7 =>
  x_b2 (D_play r7 σ4) fun r9 σ10 =>
  some (r9, σ10)
theorem w_stop {a1 : Int32} {a2 : Int32} {rz : Int32} (h : D_stop a1 a2 σ = some (rz, σz)) (hQ : Q (.inl (some (.int rz))) (t_m b σz μ)) : z_K g (d + 12) YX2_stop [.ref b, .int a1, .int a2] (t_m b σ μ) Q := by
  unfold D_stop at h
  refine z_K.of (by decide) rfl (Nat.le_of_ble_eq_true rfl) ?_
  refine zi_aload_n 0 dX2_stop_0 rfl rfl ?_
  refine zi_iconst (v := 0) dX2_stop_1 (by decide) ?_
  refine ti_putI 0 ⟨Nat.le_of_ble_eq_true rfl, rfl, rfl⟩ (tyX2_ok 0 (Nat.le_of_ble_eq_true rfl)) q2170 dX2_stop_2 ?_
  refine x_lI (fun σ1 => z_V g (d + 12) YX2_stop 5 [(0, .ref b), (1, .int a1), (2, .int a2)] [] (t_m b σ1 μ) Q) h (fun σ1 h => ?_)
  refine zi_aload_n 0 dX2_stop_5 rfl rfl ?_
  refine zi_iload_n 1 dX2_stop_6 rfl rfl ?_
  refine zi_iload_n 2 dX2_stop_7 rfl rfl ?_
  obtain ⟨r3, σ4, h2, h⟩ := x_b2E h
  refine zi_callV [.int a1, .int a2] mX2_lay rfl q2627 t_rec rfl rfl (Nat.le_of_ble_eq_true rfl) dX2_stop_8 ?_
  refine w_lay h2 ?_
  refine zi_if_eq 25 dX2_stop_11 (by decide) (fun c5 => ?_) (fun c5 => ?_)
  · replace h := x_iT h c5
    refine zi_iconst (v := -1) dX2_stop_25 (by decide) ?_
    refine zi_ireturn rfl rfl dX2_stop_26 ?_
    exact x_r2i h hQ
  · replace h := x_iF h c5
    refine zi_aload_n 0 dX2_stop_14 rfl rfl ?_
    refine zi_aload_n 0 dX2_stop_15 rfl rfl ?_
    obtain ⟨r7, h6, h⟩ := x_bE h
    refine zi_callV [] mX2_deeds rfl q2615 t_rec rfl rfl (Nat.le_of_ble_eq_true rfl) dX2_stop_16 ?_
    refine w_deeds h6 ?_
    obtain ⟨r9, σ10, h8, h⟩ := x_b2E h
    refine zi_callV [.int r7] mX2_play rfl q2635 t_rec rfl rfl (Nat.le_of_ble_eq_true rfl) dX2_stop_19 ?_
    refine w_play h8 ?_
    refine zi_goto 26 dX2_stop_22 (by decide) ?_
    refine zi_ireturn rfl rfl dX2_stop_26 ?_
    exact x_r2i h hQ
noncomputable def D_layState (a1 : Int32) (a2 : Int32) (a3 : Int32) (σ : t_S) : Option (Int32 × t_S) :=
  x_b2 (D_lay a1 a2 σ) fun r2 σ3 =>
  if r2 = 0 then (some ((0 : Int32), σ3)) else
  x_b (D_deeds σ3) fun r6 =>
  x_b (D_in a3 (0 : Int32) r6) fun r8 =>
  if r8 = 0 then (some ((0 : Int32), σ3)) else
  x_b2 (D_play a3 σ3) fun r11 σ12 =>
  if r11 = a3 then (some ((1 : Int32), σ12)) else
  some ((0 : Int32), σ12)
theorem w_layState {a1 : Int32} {a2 : Int32} {a3 : Int32} {rz : Int32} (h : D_layState a1 a2 a3 σ = some (rz, σz)) (hQ : Q (.inl (some (.int rz))) (t_m b σz μ)) : z_K g (d + 12) YX2_layState [.ref b, .int a1, .int a2, .int a3] (t_m b σ μ) Q := by
  unfold D_layState at h
  refine z_K.of (by decide) rfl (Nat.le_of_ble_eq_true rfl) ?_
  refine zi_aload_n 0 dX2_layState_0 rfl rfl ?_
  refine zi_iload_n 1 dX2_layState_1 rfl rfl ?_
  refine zi_iload_n 2 dX2_layState_2 rfl rfl ?_
  obtain ⟨r2, σ3, h1, h⟩ := x_b2E h
  refine zi_callV [.int a1, .int a2] mX2_lay rfl q2627 t_rec rfl rfl (Nat.le_of_ble_eq_true rfl) dX2_layState_3 ?_
  refine w_lay h1 ?_
  refine zi_if_eq 34 dX2_layState_6 (by decide) (fun c4 => ?_) (fun c4 => ?_)
  · replace h := x_iT h c4
    refine zi_iconst (v := 0) dX2_layState_34 (by decide) ?_
    refine zi_ireturn rfl rfl dX2_layState_35 ?_
    exact x_r2i h hQ
  · replace h := x_iF h c4
    refine zi_iload_n 3 dX2_layState_9 rfl rfl ?_
    refine zi_iconst (v := 0) dX2_layState_10 (by decide) ?_
    refine zi_aload_n 0 dX2_layState_11 rfl rfl ?_
    obtain ⟨r6, h5, h⟩ := x_bE h
    refine zi_callV [] mX2_deeds rfl q2615 t_rec rfl rfl (Nat.le_of_ble_eq_true rfl) dX2_layState_12 ?_
    refine w_deeds h5 ?_
    obtain ⟨r8, h7, h⟩ := x_bE h
    refine zi_callS [.int a3, .int (0 : Int32), .int r6] mX2_in rfl q2445 rfl rfl (Nat.le_of_ble_eq_true rfl) dX2_layState_15 ?_
    refine w_in h7 ?_
    refine zi_if_eq 34 dX2_layState_18 (by decide) (fun c9 => ?_) (fun c9 => ?_)
    · replace h := x_iT h c9
      refine zi_iconst (v := 0) dX2_layState_34 (by decide) ?_
      refine zi_ireturn rfl rfl dX2_layState_35 ?_
      exact x_r2i h hQ
    · replace h := x_iF h c9
      refine zi_aload_n 0 dX2_layState_21 rfl rfl ?_
      refine zi_iload_n 3 dX2_layState_22 rfl rfl ?_
      obtain ⟨r11, σ12, h10, h⟩ := x_b2E h
      refine zi_callV [.int a3] mX2_play rfl q2635 t_rec rfl rfl (Nat.le_of_ble_eq_true rfl) dX2_layState_23 ?_
      refine w_play h10 ?_
      refine zi_iload_n 3 dX2_layState_26 rfl rfl ?_
      refine zi_icmp_ne 34 dX2_layState_27 (by decide) (fun c13 => ?_) (fun c13 => ?_)
      · replace h := x_iF h c13
        refine zi_iconst (v := 0) dX2_layState_34 (by decide) ?_
        refine zi_ireturn rfl rfl dX2_layState_35 ?_
        exact x_r2i h hQ
      · replace h := x_iT h c13
        refine zi_iconst (v := 1) dX2_layState_30 (by decide) ?_
        refine zi_goto 35 dX2_layState_31 (by decide) ?_
        refine zi_ireturn rfl rfl dX2_layState_35 ?_
        exact x_r2i h hQ
noncomputable def D_why (a1 : Int32) (a2 : Int32) (a3 : Int32) (a4 : Int32) (σ : t_S) : Option (Int32 × t_S) :=
  x_l (t_si σ 0 (0 : Int32)) fun σ1 =>
  x_b2 (D_lay a1 a2 σ1) fun r3 σ4 =>
  if r3 = 0 then (some ((-2 : Int32), σ4)) else
  x_b (D_deeds σ4) fun r7 =>
  x_b (D_in a3 (0 : Int32) (r7 - (1 : Int32))) fun r9 =>
  if r9 = 0 then (some ((-2 : Int32), σ4)) else
  x_b (D_deeds σ4) fun r12 =>
  x_b2 (D_play r12 σ4) fun r14 σ15 =>
  x_ga a3 64 fun j16 =>
  if (t_a σ15 57 j16) = (-1 : Int32) then (some ((-2 : Int32), σ15)) else
  x_b (D_ofAsk a3 a4 σ15) fun r19 =>
  some (r19, σ15)
theorem w_why {a1 : Int32} {a2 : Int32} {a3 : Int32} {a4 : Int32} {rz : Int32} (h : D_why a1 a2 a3 a4 σ = some (rz, σz)) (hQ : Q (.inl (some (.int rz))) (t_m b σz μ)) : z_K g (d + 12) YX2_why [.ref b, .int a1, .int a2, .int a3, .int a4] (t_m b σ μ) Q := by
  unfold D_why at h
  refine z_K.of (by decide) rfl (Nat.le_of_ble_eq_true rfl) ?_
  refine zi_aload_n 0 dX2_why_0 rfl rfl ?_
  refine zi_iconst (v := 0) dX2_why_1 (by decide) ?_
  refine ti_putI 0 ⟨Nat.le_of_ble_eq_true rfl, rfl, rfl⟩ (tyX2_ok 0 (Nat.le_of_ble_eq_true rfl)) q2170 dX2_why_2 ?_
  refine x_lI (fun σ1 => z_V g (d + 12) YX2_why 5 [(0, .ref b), (1, .int a1), (2, .int a2), (3, .int a3), (4, .int a4)] [] (t_m b σ1 μ) Q) h (fun σ1 h => ?_)
  refine zi_aload_n 0 dX2_why_5 rfl rfl ?_
  refine zi_iload_n 1 dX2_why_6 rfl rfl ?_
  refine zi_iload_n 2 dX2_why_7 rfl rfl ?_
  obtain ⟨r3, σ4, h2, h⟩ := x_b2E h
  refine zi_callV [.int a1, .int a2] mX2_lay rfl q2627 t_rec rfl rfl (Nat.le_of_ble_eq_true rfl) dX2_why_8 ?_
  refine w_lay h2 ?_
  refine zi_if_eq 28 dX2_why_11 (by decide) (fun c5 => ?_) (fun c5 => ?_)
  · replace h := x_iT h c5
    refine zi_bipush (v := -2) dX2_why_28 (by decide) ?_
    refine zi_ireturn rfl rfl dX2_why_30 ?_
    exact x_r2i h hQ
  · replace h := x_iF h c5
    refine zi_iload_n 3 dX2_why_14 rfl rfl ?_
    refine zi_iconst (v := 0) dX2_why_15 (by decide) ?_
    refine zi_aload_n 0 dX2_why_16 rfl rfl ?_
    obtain ⟨r7, h6, h⟩ := x_bE h
    refine zi_callV [] mX2_deeds rfl q2615 t_rec rfl rfl (Nat.le_of_ble_eq_true rfl) dX2_why_17 ?_
    refine w_deeds h6 ?_
    refine zi_iconst (v := 1) dX2_why_20 (by decide) ?_
    refine zi_isub dX2_why_21 ?_
    obtain ⟨r9, h8, h⟩ := x_bE h
    refine zi_callS [.int a3, .int (0 : Int32), .int (r7 - (1 : Int32))] mX2_in rfl q2445 rfl rfl (Nat.le_of_ble_eq_true rfl) dX2_why_22 ?_
    refine w_in h8 ?_
    refine zi_if_ne 31 dX2_why_25 (by decide) (fun c10 => ?_) (fun c10 => ?_)
    · replace h := x_iF h c10
      refine zi_aload_n 0 dX2_why_31 rfl rfl ?_
      refine zi_aload_n 0 dX2_why_32 rfl rfl ?_
      obtain ⟨r12, h11, h⟩ := x_bE h
      refine zi_callV [] mX2_deeds rfl q2615 t_rec rfl rfl (Nat.le_of_ble_eq_true rfl) dX2_why_33 ?_
      refine w_deeds h11 ?_
      obtain ⟨r14, σ15, h13, h⟩ := x_b2E h
      refine zi_callV [.int r12] mX2_play rfl q2635 t_rec rfl rfl (Nat.le_of_ble_eq_true rfl) dX2_why_36 ?_
      refine w_play h13 ?_
      refine zi_pop dX2_why_39 rfl ?_
      refine zi_aload_n 0 dX2_why_40 rfl rfl ?_
      refine ti_getA 57 40 t_o57 q2227 dX2_why_41 ?_
      refine zi_iload_n 3 dX2_why_44 rfl rfl ?_
      obtain ⟨j16, hj16, h⟩ := x_gaE h
      refine ti_iald 57 j16 64 39 ⟨rfl, rfl⟩ hj16 dX2_why_45 ?_
      refine zi_iconst (v := -1) dX2_why_46 (by decide) ?_
      refine zi_icmp_ne 55 dX2_why_47 (by decide) (fun c17 => ?_) (fun c17 => ?_)
      · replace h := x_iF h c17
        refine zi_aload_n 0 dX2_why_55 rfl rfl ?_
        refine zi_iload_n 3 dX2_why_56 rfl rfl ?_
        refine zi_iload 4 dX2_why_57 rfl ?_
        obtain ⟨r19, h18, h⟩ := x_bE h
        refine zi_callV [.int a3, .int a4] mX2_ofAsk rfl q2822 t_rec rfl rfl (Nat.le_of_ble_eq_true rfl) dX2_why_59 ?_
        refine w_ofAsk h18 ?_
        refine zi_ireturn rfl rfl dX2_why_62 ?_
        exact x_r2i h hQ
      · replace h := x_iT h c17
        refine zi_bipush (v := -2) dX2_why_50 (by decide) ?_
        refine zi_goto 62 dX2_why_52 (by decide) ?_
        refine zi_ireturn rfl rfl dX2_why_62 ?_
        exact x_r2i h hQ
    · replace h := x_iT h c10
      refine zi_bipush (v := -2) dX2_why_28 (by decide) ?_
      refine zi_ireturn rfl rfl dX2_why_30 ?_
      exact x_r2i h hQ
noncomputable def D_fits_39 (f4_12 : Int32) (k60 : t_S → Option (Int32 × t_S)) : Nat → Int32 → t_S → Option (Int32 × t_S)
  | 0, _, _ => none
  | f + 1, v5_13, σ14 =>
    if (40 : Int32) ≤ v5_13 then (k60 σ14) else
    x_ga v5_13 40 fun j17 =>
    x_l (t_sa σ14 84 j17 (0 : Int32)) fun σ18 =>
    x_l (v5_13 + (1 : Int32)) fun v19 =>
    D_fits_39 f4_12 k60 f v19 σ18
theorem w_fits_39 {f4_12 : Int32} {rz : Int32} {k60 : t_S → Option (Int32 × t_S)} (hk60 : ∀ (σ15 : t_S), k60 σ15 = some (rz, σz) → z_V g (d + 12) YX2_fits 60 [(0, .ref b), (4, .int f4_12)] [] (t_m b σ15 μ) Q) (hQ : Q (.inl (some (.int rz))) (t_m b σz μ)) : ∀ (f : Nat) (v5_13 : Int32) (σ14 : t_S), D_fits_39 f4_12 k60 f v5_13 σ14 = some (rz, σz) → z_V g (d + 12) YX2_fits 39 [(0, .ref b), (4, .int f4_12), (5, .int v5_13)] [] (t_m b σ14 μ) Q := by
  intro f
  induction f with
  | zero =>
    intro v5_13 σ14 h
    exact absurd h (x_n _)
  | succ f ih =>
    intro v5_13 σ14 h
    refine zi_iload 2 dX2_fits_39 rfl ?_
    refine zi_bipush (v := 40) dX2_fits_41 (by decide) ?_
    refine zi_icmp_ge 60 dX2_fits_43 (by decide) (fun c16 => ?_) (fun c16 => ?_)
    · replace h := x_iT h c16
      refine zi_sub [0, 1] rfl ?_
      exact hk60 _ h
    · replace h := x_iF h c16
      refine zi_aload_n 0 dX2_fits_46 rfl rfl ?_
      refine ti_getA 84 51 t_o84 q2254 dX2_fits_47 ?_
      refine zi_iload 2 dX2_fits_50 rfl ?_
      refine zi_iconst (v := 0) dX2_fits_52 (by decide) ?_
      obtain ⟨j17, hj17, h⟩ := x_gaE h
      refine ti_iast 84 j17 40 50 ⟨rfl, rfl⟩ hj17 dX2_fits_53 ?_
      refine x_lI (fun σ18 => z_V g (d + 12) YX2_fits 54 [(0, .ref b), (4, .int f4_12), (5, .int v5_13)] [] (t_m b σ18 μ) Q) h (fun σ18 h => ?_)
      refine zi_iinc (v := (v5_13 + (1 : Int32))) (lc1 := [(5, _), (0, _), (4, _)]) 2 dX2_fits_54 rfl rfl (Nat.le_of_ble_eq_true rfl) rfl ?_
      refine x_lI (fun v19 => z_V g (d + 12) YX2_fits 57 [(5, .int v19), (0, .ref b), (4, .int f4_12)] [] (t_m b σ18 μ) Q) h (fun v19 h => ?_)
      refine zi_goto 39 dX2_fits_57 (by decide) ?_
      refine zi_sub [1, 2, 0] rfl ?_
      exact ih _ _ h
noncomputable def D_fits_63 (f4_21 : Int32) (k111 : t_S → Option (Int32 × t_S)) : Nat → Int32 → t_S → Option (Int32 × t_S)
  | 0, _, _ => none
  | f + 1, v5_22, σ23 =>
    x_b (D_links σ23) fun r26 =>
    if r26 ≤ v5_22 then (k111 σ23) else
    x_b (D_begin v5_22 σ23) fun σ29 =>
    x_b (D_deeds σ29) fun r31 =>
    x_b2 (D_play r31 σ29) fun r33 σ34 =>
    x_b (D_isSo σ34) fun r36 =>
    if r36 = 0 then (x_l (v5_22 + (1 : Int32)) fun v38 =>
    D_fits_63 f4_21 k111 f v38 σ34) else
    x_b (D_noteFit v5_22 (f4_21 - (10 : Int32)) σ34) fun σ40 =>
    x_l (v5_22 + (1 : Int32)) fun v41 =>
    D_fits_63 f4_21 k111 f v41 σ40
theorem w_fits_63 {f4_21 : Int32} {rz : Int32} {k111 : t_S → Option (Int32 × t_S)} (hk111 : ∀ (σ24 : t_S), k111 σ24 = some (rz, σz) → z_V g (d + 12) YX2_fits 111 [(0, .ref b), (4, .int f4_21)] [] (t_m b σ24 μ) Q) (hQ : Q (.inl (some (.int rz))) (t_m b σz μ)) : ∀ (f : Nat) (v5_22 : Int32) (σ23 : t_S), D_fits_63 f4_21 k111 f v5_22 σ23 = some (rz, σz) → z_V g (d + 12) YX2_fits 63 [(0, .ref b), (4, .int f4_21), (5, .int v5_22)] [] (t_m b σ23 μ) Q := by
  intro f
  induction f with
  | zero =>
    intro v5_22 σ23 h
    exact absurd h (x_n _)
  | succ f ih =>
    intro v5_22 σ23 h
    refine zi_iload 2 dX2_fits_63 rfl ?_
    refine zi_aload_n 0 dX2_fits_65 rfl rfl ?_
    obtain ⟨r26, h25, h⟩ := x_bE h
    refine zi_callV [] mX2_links rfl q2579 t_rec rfl rfl (Nat.le_of_ble_eq_true rfl) dX2_fits_66 ?_
    refine w_links h25 ?_
    refine zi_icmp_ge 111 dX2_fits_69 (by decide) (fun c27 => ?_) (fun c27 => ?_)
    · replace h := x_iT h c27
      refine zi_sub [0, 1] rfl ?_
      exact hk111 _ h
    · replace h := x_iF h c27
      refine zi_aload_n 0 dX2_fits_72 rfl rfl ?_
      refine zi_iload 2 dX2_fits_73 rfl ?_
      obtain ⟨σ29, h28, h⟩ := x_bE h
      refine zi_callV [.int v5_22] mX2_begin rfl q2631 t_rec rfl rfl (Nat.le_of_ble_eq_true rfl) dX2_fits_75 ?_
      refine w_begin h28 ?_
      refine zi_aload_n 0 dX2_fits_78 rfl rfl ?_
      refine zi_aload_n 0 dX2_fits_79 rfl rfl ?_
      obtain ⟨r31, h30, h⟩ := x_bE h
      refine zi_callV [] mX2_deeds rfl q2615 t_rec rfl rfl (Nat.le_of_ble_eq_true rfl) dX2_fits_80 ?_
      refine w_deeds h30 ?_
      obtain ⟨r33, σ34, h32, h⟩ := x_b2E h
      refine zi_callV [.int r31] mX2_play rfl q2635 t_rec rfl rfl (Nat.le_of_ble_eq_true rfl) dX2_fits_83 ?_
      refine w_play h32 ?_
      refine zi_pop dX2_fits_86 rfl ?_
      refine zi_aload_n 0 dX2_fits_87 rfl rfl ?_
      obtain ⟨r36, h35, h⟩ := x_bE h
      refine zi_callV [] mX2_isSo rfl q2877 t_rec rfl rfl (Nat.le_of_ble_eq_true rfl) dX2_fits_88 ?_
      refine w_isSo h35 ?_
      refine zi_if_eq 105 dX2_fits_91 (by decide) (fun c37 => ?_) (fun c37 => ?_)
      · replace h := x_iT h c37
        refine zi_iinc (v := (v5_22 + (1 : Int32))) (lc1 := [(5, _), (0, _), (4, _)]) 2 dX2_fits_105 rfl rfl (Nat.le_of_ble_eq_true rfl) rfl ?_
        refine x_lI (fun v38 => z_V g (d + 12) YX2_fits 108 [(5, .int v38), (0, .ref b), (4, .int f4_21)] [] (t_m b σ34 μ) Q) h (fun v38 h => ?_)
        refine zi_goto 63 dX2_fits_108 (by decide) ?_
        refine zi_sub [1, 2, 0] rfl ?_
        exact ih _ _ h
      · replace h := x_iF h c37
        refine zi_aload_n 0 dX2_fits_94 rfl rfl ?_
        refine zi_iload 2 dX2_fits_95 rfl ?_
        refine zi_iload 1 dX2_fits_97 rfl ?_
        refine zi_bipush (v := 10) dX2_fits_99 (by decide) ?_
        refine zi_isub dX2_fits_101 ?_
        obtain ⟨σ40, h39, h⟩ := x_bE h
        refine zi_callV [.int v5_22, .int (f4_21 - (10 : Int32))] mX2_noteFit rfl q2881 t_rec rfl rfl (Nat.le_of_ble_eq_true rfl) dX2_fits_102 ?_
        refine w_noteFit h39 ?_
        refine zi_iinc (v := (v5_22 + (1 : Int32))) (lc1 := [(5, _), (0, _), (4, _)]) 2 dX2_fits_105 rfl rfl (Nat.le_of_ble_eq_true rfl) rfl ?_
        refine x_lI (fun v41 => z_V g (d + 12) YX2_fits 108 [(5, .int v41), (0, .ref b), (4, .int f4_21)] [] (t_m b σ40 μ) Q) h (fun v41 h => ?_)
        refine zi_goto 63 dX2_fits_108 (by decide) ?_
        refine zi_sub [1, 2, 0] rfl ?_
        exact ih _ _ h
noncomputable def D_fits (a1 : Int32) (a2 : Int32) (a3 : Int32) (a4 : Int32) (σ : t_S) : Option (Int32 × t_S) :=
  x_l (t_si σ 0 (0 : Int32)) fun σ1 =>
  x_b2 (D_hasLog a3 σ1) fun r3 σ4 =>
  if r3 = 0 then (some ((-2 : Int32), σ4)) else
  x_b2 (D_lay a1 a2 σ4) fun r7 σ8 =>
  if r7 = 0 then (some ((-2 : Int32), σ8)) else
  x_l (t_si σ8 82 (0 : Int32)) fun σ10 =>
  x_l (t_si σ10 83 (-2 : Int32)) fun σ11 =>
  D_fits_39 a4
    (fun (σ20 : t_S) => D_fits_63 a4
    (fun (σ42 : t_S) => if a4 < (10 : Int32) then (if a4 = 0 then (some ((t_i σ42 82), σ42)) else
  if a4 = (1 : Int32) then (x_b (D_askWhat σ42) fun r47 =>
  some (r47, σ42)) else
  some ((-2 : Int32), σ42)) else
  some ((t_i σ42 83), σ42))
    x_F (-1 : Int32) σ20)
    x_F (0 : Int32) σ11
theorem w_fits {a1 : Int32} {a2 : Int32} {a3 : Int32} {a4 : Int32} {rz : Int32} (h : D_fits a1 a2 a3 a4 σ = some (rz, σz)) (hQ : Q (.inl (some (.int rz))) (t_m b σz μ)) : z_K g (d + 12) YX2_fits [.ref b, .int a1, .int a2, .int a3, .int a4] (t_m b σ μ) Q := by
  unfold D_fits at h
  refine z_K.of (by decide) rfl (Nat.le_of_ble_eq_true rfl) ?_
  refine zi_aload_n 0 dX2_fits_0 rfl rfl ?_
  refine zi_iconst (v := 0) dX2_fits_1 (by decide) ?_
  refine ti_putI 0 ⟨Nat.le_of_ble_eq_true rfl, rfl, rfl⟩ (tyX2_ok 0 (Nat.le_of_ble_eq_true rfl)) q2170 dX2_fits_2 ?_
  refine x_lI (fun σ1 => z_V g (d + 12) YX2_fits 5 [(0, .ref b), (1, .int a1), (2, .int a2), (3, .int a3), (4, .int a4)] [] (t_m b σ1 μ) Q) h (fun σ1 h => ?_)
  refine zi_aload_n 0 dX2_fits_5 rfl rfl ?_
  refine zi_iload_n 3 dX2_fits_6 rfl rfl ?_
  obtain ⟨r3, σ4, h2, h⟩ := x_b2E h
  refine zi_callV [.int a3] mX2_hasLog rfl q2861 t_rec rfl rfl (Nat.le_of_ble_eq_true rfl) dX2_fits_7 ?_
  refine w_hasLog h2 ?_
  refine zi_if_eq 22 dX2_fits_10 (by decide) (fun c5 => ?_) (fun c5 => ?_)
  · replace h := x_iT h c5
    refine zi_bipush (v := -2) dX2_fits_22 (by decide) ?_
    refine zi_ireturn rfl rfl dX2_fits_24 ?_
    exact x_r2i h hQ
  · replace h := x_iF h c5
    refine zi_aload_n 0 dX2_fits_13 rfl rfl ?_
    refine zi_iload_n 1 dX2_fits_14 rfl rfl ?_
    refine zi_iload_n 2 dX2_fits_15 rfl rfl ?_
    obtain ⟨r7, σ8, h6, h⟩ := x_b2E h
    refine zi_callV [.int a1, .int a2] mX2_lay rfl q2627 t_rec rfl rfl (Nat.le_of_ble_eq_true rfl) dX2_fits_16 ?_
    refine w_lay h6 ?_
    refine zi_if_ne 25 dX2_fits_19 (by decide) (fun c9 => ?_) (fun c9 => ?_)
    · replace h := x_iF h c9
      refine zi_aload_n 0 dX2_fits_25 rfl rfl ?_
      refine zi_iconst (v := 0) dX2_fits_26 (by decide) ?_
      refine ti_putI 82 ⟨Nat.le_of_ble_eq_true rfl, rfl, rfl⟩ (tyX2_ok 82 (Nat.le_of_ble_eq_true rfl)) q2252 dX2_fits_27 ?_
      refine x_lI (fun σ10 => z_V g (d + 12) YX2_fits 30 [(0, .ref b), (1, .int a1), (2, .int a2), (3, .int a3), (4, .int a4)] [] (t_m b σ10 μ) Q) h (fun σ10 h => ?_)
      refine zi_aload_n 0 dX2_fits_30 rfl rfl ?_
      refine zi_bipush (v := -2) dX2_fits_31 (by decide) ?_
      refine ti_putI 83 ⟨Nat.le_of_ble_eq_true rfl, rfl, rfl⟩ (tyX2_ok 83 (Nat.le_of_ble_eq_true rfl)) q2253 dX2_fits_33 ?_
      refine x_lI (fun σ11 => z_V g (d + 12) YX2_fits 36 [(0, .ref b), (1, .int a1), (2, .int a2), (3, .int a3), (4, .int a4)] [] (t_m b σ11 μ) Q) h (fun σ11 h => ?_)
      refine zi_iconst (v := 0) dX2_fits_36 (by decide) ?_
      refine zi_istore (lc1 := [(5, _), (0, _), (1, _), (2, _), (3, _), (4, _)]) dX2_fits_37 (Nat.le_of_ble_eq_true rfl) rfl ?_
      refine zi_sub [1, 5, 0] rfl ?_
      refine w_fits_39 (fun σ20 h => ?_) hQ _ _ _ h
      · refine zi_iconst (v := -1) dX2_fits_60 (by decide) ?_
        refine zi_istore (lc1 := [(5, _), (0, _), (4, _)]) dX2_fits_61 (Nat.le_of_ble_eq_true rfl) rfl ?_
        refine zi_sub [1, 2, 0] rfl ?_
        refine w_fits_63 (fun σ42 h => ?_) hQ _ _ _ h
        · refine zi_iload 1 dX2_fits_111 rfl ?_
          refine zi_bipush (v := 10) dX2_fits_113 (by decide) ?_
          refine zi_icmp_lt 123 dX2_fits_115 (by decide) (fun c43 => ?_) (fun c43 => ?_)
          · replace h := x_iT h c43
            refine zi_iload 1 dX2_fits_123 rfl ?_
            refine zi_if_ne 135 dX2_fits_125 (by decide) (fun c44 => ?_) (fun c44 => ?_)
            · replace h := x_iF h c44
              refine zi_iload 1 dX2_fits_135 rfl ?_
              refine zi_iconst (v := 1) dX2_fits_137 (by decide) ?_
              refine zi_icmp_ne 148 dX2_fits_138 (by decide) (fun c45 => ?_) (fun c45 => ?_)
              · replace h := x_iF h c45
                refine zi_bipush (v := -2) dX2_fits_148 (by decide) ?_
                refine zi_ireturn rfl rfl dX2_fits_150 ?_
                exact x_r2i h hQ
              · replace h := x_iT h c45
                refine zi_aload_n 0 dX2_fits_141 rfl rfl ?_
                obtain ⟨r47, h46, h⟩ := x_bE h
                refine zi_callV [] mX2_askWhat rfl q2885 t_rec rfl rfl (Nat.le_of_ble_eq_true rfl) dX2_fits_142 ?_
                refine w_askWhat h46 ?_
                refine zi_goto 150 dX2_fits_145 (by decide) ?_
                refine zi_ireturn rfl rfl dX2_fits_150 ?_
                exact x_r2i h hQ
            · replace h := x_iT h c44
              refine zi_aload_n 0 dX2_fits_128 rfl rfl ?_
              refine ti_getI 82 ⟨Nat.le_of_ble_eq_true rfl, rfl⟩ q2252 dX2_fits_129 ?_
              refine zi_goto 150 dX2_fits_132 (by decide) ?_
              refine zi_ireturn rfl rfl dX2_fits_150 ?_
              exact x_r2i h hQ
          · replace h := x_iF h c43
            refine zi_aload_n 0 dX2_fits_118 rfl rfl ?_
            refine ti_getI 83 ⟨Nat.le_of_ble_eq_true rfl, rfl⟩ q2253 dX2_fits_119 ?_
            refine zi_ireturn rfl rfl dX2_fits_122 ?_
            exact x_r2i h hQ
    · replace h := x_iT h c9
      refine zi_bipush (v := -2) dX2_fits_22 (by decide) ?_
      refine zi_ireturn rfl rfl dX2_fits_24 ?_
      exact x_r2i h hQ
noncomputable def D_drawn_39 (f3_12 : Int32) (f4_13 : Int32) (k57 : t_S → Option (Int32 × t_S)) : Nat → Int32 → t_S → Option (Int32 × t_S)
  | 0, _, _ => none
  | f + 1, v5_14, σ15 =>
    if f3_12 ≤ v5_14 then (k57 σ15) else
    x_b (D_drawDeed v5_14 σ15) fun σ19 =>
    x_l (v5_14 + (1 : Int32)) fun v20 =>
    D_drawn_39 f3_12 f4_13 k57 f v20 σ19
theorem w_drawn_39 {f3_12 : Int32} {f4_13 : Int32} {rz : Int32} {k57 : t_S → Option (Int32 × t_S)} (hk57 : ∀ (σ16 : t_S), k57 σ16 = some (rz, σz) → z_V g (d + 12) YX2_drawn 57 [(0, .ref b), (4, .int f4_13)] [] (t_m b σ16 μ) Q) (hQ : Q (.inl (some (.int rz))) (t_m b σz μ)) : ∀ (f : Nat) (v5_14 : Int32) (σ15 : t_S), D_drawn_39 f3_12 f4_13 k57 f v5_14 σ15 = some (rz, σz) → z_V g (d + 12) YX2_drawn 39 [(0, .ref b), (3, .int f3_12), (4, .int f4_13), (5, .int v5_14)] [] (t_m b σ15 μ) Q := by
  intro f
  induction f with
  | zero =>
    intro v5_14 σ15 h
    exact absurd h (x_n _)
  | succ f ih =>
    intro v5_14 σ15 h
    refine zi_iload 3 dX2_drawn_39 rfl ?_
    refine zi_iload_n 1 dX2_drawn_41 rfl rfl ?_
    refine zi_icmp_ge 57 dX2_drawn_42 (by decide) (fun c17 => ?_) (fun c17 => ?_)
    · replace h := x_iT h c17
      refine zi_sub [0, 2] rfl ?_
      exact hk57 _ h
    · replace h := x_iF h c17
      refine zi_aload_n 0 dX2_drawn_45 rfl rfl ?_
      refine zi_iload 3 dX2_drawn_46 rfl ?_
      obtain ⟨σ19, h18, h⟩ := x_bE h
      refine zi_callV [.int v5_14] mX2_drawDeed rfl q2893 t_rec rfl rfl (Nat.le_of_ble_eq_true rfl) dX2_drawn_48 ?_
      refine w_drawDeed h18 ?_
      refine zi_iinc (v := (v5_14 + (1 : Int32))) (lc1 := [(5, _), (0, _), (3, _), (4, _)]) 3 dX2_drawn_51 rfl rfl (Nat.le_of_ble_eq_true rfl) rfl ?_
      refine x_lI (fun v20 => z_V g (d + 12) YX2_drawn 54 [(5, .int v20), (0, .ref b), (3, .int f3_12), (4, .int f4_13)] [] (t_m b σ19 μ) Q) h (fun v20 h => ?_)
      refine zi_goto 39 dX2_drawn_54 (by decide) ?_
      refine zi_sub [1, 2, 3, 0] rfl ?_
      exact ih _ _ h
noncomputable def D_drawn (a1 : Int32) (a2 : Int32) (a3 : Int32) (a4 : Int32) (σ : t_S) : Option (Int32 × t_S) :=
  x_l (t_si σ 0 (0 : Int32)) fun σ1 =>
  x_b (D_in a3 (0 : Int32) (60 : Int32)) fun r3 =>
  if r3 = 0 then (some ((-2 : Int32), σ1)) else
  x_b2 (D_hasNet a1 σ1) fun r6 σ7 =>
  if r6 = 0 then (some ((-2 : Int32), σ7)) else
  x_b (D_begin (-1 : Int32) σ7) fun σ10 =>
  x_l (t_si σ10 85 a2) fun σ11 =>
  D_drawn_39 a3 a4
    (fun (σ21 : t_S) => x_b (D_ofState a4 σ21) fun r23 =>
  some (r23, σ21))
    x_F (0 : Int32) σ11
theorem w_drawn {a1 : Int32} {a2 : Int32} {a3 : Int32} {a4 : Int32} {rz : Int32} (h : D_drawn a1 a2 a3 a4 σ = some (rz, σz)) (hQ : Q (.inl (some (.int rz))) (t_m b σz μ)) : z_K g (d + 12) YX2_drawn [.ref b, .int a1, .int a2, .int a3, .int a4] (t_m b σ μ) Q := by
  unfold D_drawn at h
  refine z_K.of (by decide) rfl (Nat.le_of_ble_eq_true rfl) ?_
  refine zi_aload_n 0 dX2_drawn_0 rfl rfl ?_
  refine zi_iconst (v := 0) dX2_drawn_1 (by decide) ?_
  refine ti_putI 0 ⟨Nat.le_of_ble_eq_true rfl, rfl, rfl⟩ (tyX2_ok 0 (Nat.le_of_ble_eq_true rfl)) q2170 dX2_drawn_2 ?_
  refine x_lI (fun σ1 => z_V g (d + 12) YX2_drawn 5 [(0, .ref b), (1, .int a1), (2, .int a2), (3, .int a3), (4, .int a4)] [] (t_m b σ1 μ) Q) h (fun σ1 h => ?_)
  refine zi_iload_n 3 dX2_drawn_5 rfl rfl ?_
  refine zi_iconst (v := 0) dX2_drawn_6 (by decide) ?_
  refine zi_bipush (v := 60) dX2_drawn_7 (by decide) ?_
  obtain ⟨r3, h2, h⟩ := x_bE h
  refine zi_callS [.int a3, .int (0 : Int32), .int (60 : Int32)] mX2_in rfl q2445 rfl rfl (Nat.le_of_ble_eq_true rfl) dX2_drawn_9 ?_
  refine w_in h2 ?_
  refine zi_if_eq 23 dX2_drawn_12 (by decide) (fun c4 => ?_) (fun c4 => ?_)
  · replace h := x_iT h c4
    refine zi_bipush (v := -2) dX2_drawn_23 (by decide) ?_
    refine zi_ireturn rfl rfl dX2_drawn_25 ?_
    exact x_r2i h hQ
  · replace h := x_iF h c4
    refine zi_aload_n 0 dX2_drawn_15 rfl rfl ?_
    refine zi_iload_n 1 dX2_drawn_16 rfl rfl ?_
    obtain ⟨r6, σ7, h5, h⟩ := x_b2E h
    refine zi_callV [.int a1] mX2_hasNet rfl q2563 t_rec rfl rfl (Nat.le_of_ble_eq_true rfl) dX2_drawn_17 ?_
    refine w_hasNet h5 ?_
    refine zi_if_ne 26 dX2_drawn_20 (by decide) (fun c8 => ?_) (fun c8 => ?_)
    · replace h := x_iF h c8
      refine zi_aload_n 0 dX2_drawn_26 rfl rfl ?_
      refine zi_iconst (v := -1) dX2_drawn_27 (by decide) ?_
      obtain ⟨σ10, h9, h⟩ := x_bE h
      refine zi_callV [.int (-1 : Int32)] mX2_begin rfl q2631 t_rec rfl rfl (Nat.le_of_ble_eq_true rfl) dX2_drawn_28 ?_
      refine w_begin h9 ?_
      refine zi_aload_n 0 dX2_drawn_31 rfl rfl ?_
      refine zi_iload_n 2 dX2_drawn_32 rfl rfl ?_
      refine ti_putI 85 ⟨Nat.le_of_ble_eq_true rfl, rfl, rfl⟩ (tyX2_ok 85 (Nat.le_of_ble_eq_true rfl)) q2255 dX2_drawn_33 ?_
      refine x_lI (fun σ11 => z_V g (d + 12) YX2_drawn 36 [(0, .ref b), (1, .int a1), (2, .int a2), (3, .int a3), (4, .int a4)] [] (t_m b σ11 μ) Q) h (fun σ11 h => ?_)
      refine zi_iconst (v := 0) dX2_drawn_36 (by decide) ?_
      refine zi_istore (lc1 := [(5, _), (0, _), (1, _), (2, _), (3, _), (4, _)]) dX2_drawn_37 (Nat.le_of_ble_eq_true rfl) rfl ?_
      refine zi_sub [1, 4, 5, 0] rfl ?_
      refine w_drawn_39 (fun σ21 h => ?_) hQ _ _ _ h
      · refine zi_aload_n 0 dX2_drawn_57 rfl rfl ?_
        refine zi_iload 1 dX2_drawn_58 rfl ?_
        obtain ⟨r23, h22, h⟩ := x_bE h
        refine zi_callV [.int a4] mX2_ofState rfl q2800 t_rec rfl rfl (Nat.le_of_ble_eq_true rfl) dX2_drawn_60 ?_
        refine w_ofState h22 ?_
        refine zi_ireturn rfl rfl dX2_drawn_63 ?_
        exact x_r2i h hQ
    · replace h := x_iT h c8
      refine zi_bipush (v := -2) dX2_drawn_23 (by decide) ?_
      refine zi_ireturn rfl rfl dX2_drawn_25 ?_
      exact x_r2i h hQ
noncomputable def D_after (a1 : Int32) (a2 : Int32) (a3 : Int32) (σ : t_S) : Option (Int32 × t_S) :=
  x_l (t_si σ 0 (0 : Int32)) fun σ1 =>
  x_b2 (D_lay a1 a2 σ1) fun r3 σ4 =>
  if r3 = 0 then (some ((-2 : Int32), σ4)) else
  x_b (D_deeds σ4) fun r7 =>
  x_b2 (D_play r7 σ4) fun r9 σ10 =>
  if a3 = 0 then (some ((t_i σ10 65), σ10)) else
  if a3 = 1 then (some ((t_i σ10 66), σ10)) else
  if a3 = 2 then (some ((t_i σ10 67), σ10)) else
  if a3 = 3 then (some ((t_i σ10 68), σ10)) else
  if a3 = 4 then (some ((t_i σ10 69), σ10)) else
  if a3 = 5 then (some ((t_i σ10 70), σ10)) else
  if a3 = 6 then (some ((t_i σ10 76), σ10)) else
  if a3 = 7 then (if a3 = (8 : Int32) then (x_b (D_mean (1 : Int32) σ10) fun r23 =>
  some (r23, σ10)) else
  x_b (D_mean (0 : Int32) σ10) fun r21 =>
  some (r21, σ10)) else
  if a3 = 8 then (if a3 = (8 : Int32) then (x_b (D_mean (1 : Int32) σ10) fun r29 =>
  some (r29, σ10)) else
  x_b (D_mean (0 : Int32) σ10) fun r27 =>
  some (r27, σ10)) else
  some ((-2 : Int32), σ10)
theorem w_after {a1 : Int32} {a2 : Int32} {a3 : Int32} {rz : Int32} (h : D_after a1 a2 a3 σ = some (rz, σz)) (hQ : Q (.inl (some (.int rz))) (t_m b σz μ)) : z_K g (d + 12) YX2_after [.ref b, .int a1, .int a2, .int a3] (t_m b σ μ) Q := by
  unfold D_after at h
  refine z_K.of (by decide) rfl (Nat.le_of_ble_eq_true rfl) ?_
  refine zi_aload_n 0 dX2_after_0 rfl rfl ?_
  refine zi_iconst (v := 0) dX2_after_1 (by decide) ?_
  refine ti_putI 0 ⟨Nat.le_of_ble_eq_true rfl, rfl, rfl⟩ (tyX2_ok 0 (Nat.le_of_ble_eq_true rfl)) q2170 dX2_after_2 ?_
  refine x_lI (fun σ1 => z_V g (d + 12) YX2_after 5 [(0, .ref b), (1, .int a1), (2, .int a2), (3, .int a3)] [] (t_m b σ1 μ) Q) h (fun σ1 h => ?_)
  refine zi_aload_n 0 dX2_after_5 rfl rfl ?_
  refine zi_iload_n 1 dX2_after_6 rfl rfl ?_
  refine zi_iload_n 2 dX2_after_7 rfl rfl ?_
  obtain ⟨r3, σ4, h2, h⟩ := x_b2E h
  refine zi_callV [.int a1, .int a2] mX2_lay rfl q2627 t_rec rfl rfl (Nat.le_of_ble_eq_true rfl) dX2_after_8 ?_
  refine w_lay h2 ?_
  refine zi_if_ne 17 dX2_after_11 (by decide) (fun c5 => ?_) (fun c5 => ?_)
  · replace h := x_iF h c5
    refine zi_aload_n 0 dX2_after_17 rfl rfl ?_
    refine zi_aload_n 0 dX2_after_18 rfl rfl ?_
    obtain ⟨r7, h6, h⟩ := x_bE h
    refine zi_callV [] mX2_deeds rfl q2615 t_rec rfl rfl (Nat.le_of_ble_eq_true rfl) dX2_after_19 ?_
    refine w_deeds h6 ?_
    obtain ⟨r9, σ10, h8, h⟩ := x_b2E h
    refine zi_callV [.int r7] mX2_play rfl q2635 t_rec rfl rfl (Nat.le_of_ble_eq_true rfl) dX2_after_22 ?_
    refine w_play h8 ?_
    refine zi_pop dX2_after_25 rfl ?_
    refine zi_iload_n 3 dX2_after_26 rfl rfl ?_
    rcases Decidable.em (a3 = (0 : Int32)) with c11 | c11
    · replace h := x_iT h c11
      refine zi_tableIn 76 dX2_after_27 (by rw [c11]; decide) (by rw [c11]; decide) (by rw [c11] <;> rfl) (by decide) ?_
      refine zi_aload_n 0 dX2_after_76 rfl rfl ?_
      refine ti_getI 65 ⟨Nat.le_of_ble_eq_true rfl, rfl⟩ q2235 dX2_after_77 ?_
      refine zi_ireturn rfl rfl dX2_after_80 ?_
      exact x_r2i h hQ
    replace h := x_iF h c11
    rcases Decidable.em (a3 = (1 : Int32)) with c12 | c12
    · replace h := x_iT h c12
      refine zi_tableIn 81 dX2_after_27 (by rw [c12]; decide) (by rw [c12]; decide) (by rw [c12] <;> rfl) (by decide) ?_
      refine zi_aload_n 0 dX2_after_81 rfl rfl ?_
      refine ti_getI 66 ⟨Nat.le_of_ble_eq_true rfl, rfl⟩ q2236 dX2_after_82 ?_
      refine zi_ireturn rfl rfl dX2_after_85 ?_
      exact x_r2i h hQ
    replace h := x_iF h c12
    rcases Decidable.em (a3 = (2 : Int32)) with c13 | c13
    · replace h := x_iT h c13
      refine zi_tableIn 86 dX2_after_27 (by rw [c13]; decide) (by rw [c13]; decide) (by rw [c13] <;> rfl) (by decide) ?_
      refine zi_aload_n 0 dX2_after_86 rfl rfl ?_
      refine ti_getI 67 ⟨Nat.le_of_ble_eq_true rfl, rfl⟩ q2237 dX2_after_87 ?_
      refine zi_ireturn rfl rfl dX2_after_90 ?_
      exact x_r2i h hQ
    replace h := x_iF h c13
    rcases Decidable.em (a3 = (3 : Int32)) with c14 | c14
    · replace h := x_iT h c14
      refine zi_tableIn 91 dX2_after_27 (by rw [c14]; decide) (by rw [c14]; decide) (by rw [c14] <;> rfl) (by decide) ?_
      refine zi_aload_n 0 dX2_after_91 rfl rfl ?_
      refine ti_getI 68 ⟨Nat.le_of_ble_eq_true rfl, rfl⟩ q2238 dX2_after_92 ?_
      refine zi_ireturn rfl rfl dX2_after_95 ?_
      exact x_r2i h hQ
    replace h := x_iF h c14
    rcases Decidable.em (a3 = (4 : Int32)) with c15 | c15
    · replace h := x_iT h c15
      refine zi_tableIn 96 dX2_after_27 (by rw [c15]; decide) (by rw [c15]; decide) (by rw [c15] <;> rfl) (by decide) ?_
      refine zi_aload_n 0 dX2_after_96 rfl rfl ?_
      refine ti_getI 69 ⟨Nat.le_of_ble_eq_true rfl, rfl⟩ q2239 dX2_after_97 ?_
      refine zi_ireturn rfl rfl dX2_after_100 ?_
      exact x_r2i h hQ
    replace h := x_iF h c15
    rcases Decidable.em (a3 = (5 : Int32)) with c16 | c16
    · replace h := x_iT h c16
      refine zi_tableIn 101 dX2_after_27 (by rw [c16]; decide) (by rw [c16]; decide) (by rw [c16] <;> rfl) (by decide) ?_
      refine zi_aload_n 0 dX2_after_101 rfl rfl ?_
      refine ti_getI 70 ⟨Nat.le_of_ble_eq_true rfl, rfl⟩ q2240 dX2_after_102 ?_
      refine zi_ireturn rfl rfl dX2_after_105 ?_
      exact x_r2i h hQ
    replace h := x_iF h c16
    rcases Decidable.em (a3 = (6 : Int32)) with c17 | c17
    · replace h := x_iT h c17
      refine zi_tableIn 106 dX2_after_27 (by rw [c17]; decide) (by rw [c17]; decide) (by rw [c17] <;> rfl) (by decide) ?_
      refine zi_aload_n 0 dX2_after_106 rfl rfl ?_
      refine ti_getI 76 ⟨Nat.le_of_ble_eq_true rfl, rfl⟩ q2246 dX2_after_107 ?_
      refine zi_ireturn rfl rfl dX2_after_110 ?_
      exact x_r2i h hQ
    replace h := x_iF h c17
    rcases Decidable.em (a3 = (7 : Int32)) with c18 | c18
    · replace h := x_iT h c18
      refine zi_tableIn 111 dX2_after_27 (by rw [c18]; decide) (by rw [c18]; decide) (by rw [c18] <;> rfl) (by decide) ?_
      refine zi_aload_n 0 dX2_after_111 rfl rfl ?_
      refine zi_iload_n 3 dX2_after_112 rfl rfl ?_
      refine zi_bipush (v := 8) dX2_after_113 (by decide) ?_
      refine zi_icmp_ne 122 dX2_after_115 (by decide) (fun c19 => ?_) (fun c19 => ?_)
      · replace h := x_iF h c19
        refine zi_iconst (v := 0) dX2_after_122 (by decide) ?_
        obtain ⟨r21, h20, h⟩ := x_bE h
        refine zi_callV [.int (0 : Int32)] mX2_mean rfl q2906 t_rec rfl rfl (Nat.le_of_ble_eq_true rfl) dX2_after_123 ?_
        refine w_mean h20 ?_
        refine zi_ireturn rfl rfl dX2_after_126 ?_
        exact x_r2i h hQ
      · replace h := x_iT h c19
        refine zi_iconst (v := 1) dX2_after_118 (by decide) ?_
        refine zi_goto 123 dX2_after_119 (by decide) ?_
        obtain ⟨r23, h22, h⟩ := x_bE h
        refine zi_callV [.int (1 : Int32)] mX2_mean rfl q2906 t_rec rfl rfl (Nat.le_of_ble_eq_true rfl) dX2_after_123 ?_
        refine w_mean h22 ?_
        refine zi_ireturn rfl rfl dX2_after_126 ?_
        exact x_r2i h hQ
    replace h := x_iF h c18
    rcases Decidable.em (a3 = (8 : Int32)) with c24 | c24
    · replace h := x_iT h c24
      refine zi_tableIn 111 dX2_after_27 (by rw [c24]; decide) (by rw [c24]; decide) (by rw [c24] <;> rfl) (by decide) ?_
      refine zi_aload_n 0 dX2_after_111 rfl rfl ?_
      refine zi_iload_n 3 dX2_after_112 rfl rfl ?_
      refine zi_bipush (v := 8) dX2_after_113 (by decide) ?_
      refine zi_icmp_ne 122 dX2_after_115 (by decide) (fun c25 => ?_) (fun c25 => ?_)
      · replace h := x_iF h c25
        refine zi_iconst (v := 0) dX2_after_122 (by decide) ?_
        obtain ⟨r27, h26, h⟩ := x_bE h
        refine zi_callV [.int (0 : Int32)] mX2_mean rfl q2906 t_rec rfl rfl (Nat.le_of_ble_eq_true rfl) dX2_after_123 ?_
        refine w_mean h26 ?_
        refine zi_ireturn rfl rfl dX2_after_126 ?_
        exact x_r2i h hQ
      · replace h := x_iT h c25
        refine zi_iconst (v := 1) dX2_after_118 (by decide) ?_
        refine zi_goto 123 dX2_after_119 (by decide) ?_
        obtain ⟨r29, h28, h⟩ := x_bE h
        refine zi_callV [.int (1 : Int32)] mX2_mean rfl q2906 t_rec rfl rfl (Nat.le_of_ble_eq_true rfl) dX2_after_123 ?_
        refine w_mean h28 ?_
        refine zi_ireturn rfl rfl dX2_after_126 ?_
        exact x_r2i h hQ
    replace h := x_iF h c24
    have hO := x_swO (v := a3) (0) (8) (fun i h1 h2 => by
      rcases (show i = 0 ∨ i = 1 ∨ i = 2 ∨ i = 3 ∨ i = 4 ∨ i = 5 ∨ i = 6 ∨ i = 7 ∨ i = 8 by omega) with rfl | rfl | rfl | rfl | rfl | rfl | rfl | rfl | rfl
      · exact c11
      · exact c12
      · exact c13
      · exact c14
      · exact c15
      · exact c16
      · exact c17
      · exact c18
      · exact c24)
    refine zi_tableOut 127 dX2_after_27 hO (by decide) ?_
    refine zi_bipush (v := -2) dX2_after_127 (by decide) ?_
    refine zi_ireturn rfl rfl dX2_after_129 ?_
    exact x_r2i h hQ
  · replace h := x_iT h c5
    refine zi_bipush (v := -2) dX2_after_14 (by decide) ?_
    refine zi_ireturn rfl rfl dX2_after_16 ?_
    exact x_r2i h hQ
noncomputable def D_state (a1 : Int32) (a2 : Int32) (a3 : Int32) (a4 : Int32) (σ : t_S) : Option (Int32 × t_S) :=
  x_l (t_si σ 0 (0 : Int32)) fun σ1 =>
  x_b2 (D_layState a1 a2 a3 σ1) fun r3 σ4 =>
  if r3 = 0 then (some ((-2 : Int32), σ4)) else
  x_b (D_ofState a4 σ4) fun r7 =>
  some (r7, σ4)
theorem w_state {a1 : Int32} {a2 : Int32} {a3 : Int32} {a4 : Int32} {rz : Int32} (h : D_state a1 a2 a3 a4 σ = some (rz, σz)) (hQ : Q (.inl (some (.int rz))) (t_m b σz μ)) : z_K g (d + 13) YX2_state [.ref b, .int a1, .int a2, .int a3, .int a4] (t_m b σ μ) Q := by
  unfold D_state at h
  refine z_K.of (by decide) rfl (Nat.le_of_ble_eq_true rfl) ?_
  refine zi_aload_n 0 dX2_state_0 rfl rfl ?_
  refine zi_iconst (v := 0) dX2_state_1 (by decide) ?_
  refine ti_putI 0 ⟨Nat.le_of_ble_eq_true rfl, rfl, rfl⟩ (tyX2_ok 0 (Nat.le_of_ble_eq_true rfl)) q2170 dX2_state_2 ?_
  refine x_lI (fun σ1 => z_V g (d + 13) YX2_state 5 [(0, .ref b), (1, .int a1), (2, .int a2), (3, .int a3), (4, .int a4)] [] (t_m b σ1 μ) Q) h (fun σ1 h => ?_)
  refine zi_aload_n 0 dX2_state_5 rfl rfl ?_
  refine zi_iload_n 1 dX2_state_6 rfl rfl ?_
  refine zi_iload_n 2 dX2_state_7 rfl rfl ?_
  refine zi_iload_n 3 dX2_state_8 rfl rfl ?_
  obtain ⟨r3, σ4, h2, h⟩ := x_b2E h
  refine zi_callV [.int a1, .int a2, .int a3] mX2_layState rfl q2796 t_rec rfl rfl (Nat.le_of_ble_eq_true rfl) dX2_state_9 ?_
  refine w_layState h2 ?_
  refine zi_if_eq 24 dX2_state_12 (by decide) (fun c5 => ?_) (fun c5 => ?_)
  · replace h := x_iT h c5
    refine zi_bipush (v := -2) dX2_state_24 (by decide) ?_
    refine zi_ireturn rfl rfl dX2_state_26 ?_
    exact x_r2i h hQ
  · replace h := x_iF h c5
    refine zi_aload_n 0 dX2_state_15 rfl rfl ?_
    refine zi_iload 4 dX2_state_16 rfl ?_
    obtain ⟨r7, h6, h⟩ := x_bE h
    refine zi_callV [.int a4] mX2_ofState rfl q2800 t_rec rfl rfl (Nat.le_of_ble_eq_true rfl) dX2_state_18 ?_
    refine w_ofState h6 ?_
    refine zi_goto 26 dX2_state_21 (by decide) ?_
    refine zi_ireturn rfl rfl dX2_state_26 ?_
    exact x_r2i h hQ
noncomputable def D_stored (a1 : Int32) (a2 : Int32) (a3 : Int32) (a4 : Int32) (a5 : Int32) (a6 : Int32) (σ : t_S) : Option (Int32 × t_S) :=
  x_l (t_si σ 0 (0 : Int32)) fun σ1 =>
  x_b2 (D_layState a1 a2 a3 σ1) fun r3 σ4 =>
  if r3 = 0 then (some ((-1 : Int32), σ4)) else
  x_b (D_isNode a4 σ4) fun r7 =>
  if r7 = 0 then (some ((-1 : Int32), σ4)) else
  x_ga a4 6 fun j9 =>
  x_b (D_in a5 (0 : Int32) ((t_a σ4 30 j9) - (1 : Int32))) fun r11 =>
  if r11 = 0 then (some ((-1 : Int32), σ4)) else
  x_l (((6 : Int32) * a4) + a5) fun v13 =>
  if a6 = 0 then (x_ga v13 36 fun j19 =>
  some ((t_a σ4 31 j19), σ4)) else
  if a6 = (1 : Int32) then (x_ga v13 36 fun j18 =>
  some ((t_a σ4 32 j18), σ4)) else
  if a6 = (2 : Int32) then (x_ga v13 36 fun j17 =>
  some ((t_a σ4 33 j17), σ4)) else
  some ((-1 : Int32), σ4)
theorem w_stored {a1 : Int32} {a2 : Int32} {a3 : Int32} {a4 : Int32} {a5 : Int32} {a6 : Int32} {rz : Int32} (h : D_stored a1 a2 a3 a4 a5 a6 σ = some (rz, σz)) (hQ : Q (.inl (some (.int rz))) (t_m b σz μ)) : z_K g (d + 13) YX2_stored [.ref b, .int a1, .int a2, .int a3, .int a4, .int a5, .int a6] (t_m b σ μ) Q := by
  unfold D_stored at h
  refine z_K.of (by decide) rfl (Nat.le_of_ble_eq_true rfl) ?_
  refine zi_aload_n 0 dX2_stored_0 rfl rfl ?_
  refine zi_iconst (v := 0) dX2_stored_1 (by decide) ?_
  refine ti_putI 0 ⟨Nat.le_of_ble_eq_true rfl, rfl, rfl⟩ (tyX2_ok 0 (Nat.le_of_ble_eq_true rfl)) q2170 dX2_stored_2 ?_
  refine x_lI (fun σ1 => z_V g (d + 13) YX2_stored 5 [(0, .ref b), (1, .int a1), (2, .int a2), (3, .int a3), (4, .int a4), (5, .int a5), (6, .int a6)] [] (t_m b σ1 μ) Q) h (fun σ1 h => ?_)
  refine zi_aload_n 0 dX2_stored_5 rfl rfl ?_
  refine zi_iload_n 1 dX2_stored_6 rfl rfl ?_
  refine zi_iload_n 2 dX2_stored_7 rfl rfl ?_
  refine zi_iload_n 3 dX2_stored_8 rfl rfl ?_
  obtain ⟨r3, σ4, h2, h⟩ := x_b2E h
  refine zi_callV [.int a1, .int a2, .int a3] mX2_layState rfl q2796 t_rec rfl rfl (Nat.le_of_ble_eq_true rfl) dX2_stored_9 ?_
  refine w_layState h2 ?_
  refine zi_if_eq 42 dX2_stored_12 (by decide) (fun c5 => ?_) (fun c5 => ?_)
  · replace h := x_iT h c5
    refine zi_iconst (v := -1) dX2_stored_42 (by decide) ?_
    refine zi_ireturn rfl rfl dX2_stored_43 ?_
    exact x_r2i h hQ
  · replace h := x_iF h c5
    refine zi_aload_n 0 dX2_stored_15 rfl rfl ?_
    refine zi_iload 4 dX2_stored_16 rfl ?_
    obtain ⟨r7, h6, h⟩ := x_bE h
    refine zi_callV [.int a4] mX2_isNode rfl q2571 t_rec rfl rfl (Nat.le_of_ble_eq_true rfl) dX2_stored_18 ?_
    refine w_isNode h6 ?_
    refine zi_if_eq 42 dX2_stored_21 (by decide) (fun c8 => ?_) (fun c8 => ?_)
    · replace h := x_iT h c8
      refine zi_iconst (v := -1) dX2_stored_42 (by decide) ?_
      refine zi_ireturn rfl rfl dX2_stored_43 ?_
      exact x_r2i h hQ
    · replace h := x_iF h c8
      refine zi_iload 5 dX2_stored_24 rfl ?_
      refine zi_iconst (v := 0) dX2_stored_26 (by decide) ?_
      refine zi_aload_n 0 dX2_stored_27 rfl rfl ?_
      refine ti_getA 30 14 t_o30 q2200 dX2_stored_28 ?_
      refine zi_iload 4 dX2_stored_31 rfl ?_
      obtain ⟨j9, hj9, h⟩ := x_gaE h
      refine ti_iald 30 j9 6 13 ⟨rfl, rfl⟩ hj9 dX2_stored_33 ?_
      refine zi_iconst (v := 1) dX2_stored_34 (by decide) ?_
      refine zi_isub dX2_stored_35 ?_
      obtain ⟨r11, h10, h⟩ := x_bE h
      refine zi_callS [.int a5, .int (0 : Int32), .int ((t_a σ4 30 j9) - (1 : Int32))] mX2_in rfl q2445 rfl rfl (Nat.le_of_ble_eq_true rfl) dX2_stored_36 ?_
      refine w_in h10 ?_
      refine zi_if_ne 44 dX2_stored_39 (by decide) (fun c12 => ?_) (fun c12 => ?_)
      · replace h := x_iF h c12
        refine zi_bipush (v := 6) dX2_stored_44 (by decide) ?_
        refine zi_iload 4 dX2_stored_46 rfl ?_
        refine zi_imul dX2_stored_48 ?_
        refine zi_iload 5 dX2_stored_49 rfl ?_
        refine zi_iadd dX2_stored_51 ?_
        refine zi_istore (lc1 := [(7, _), (0, _), (1, _), (2, _), (3, _), (4, _), (5, _), (6, _)]) dX2_stored_52 (Nat.le_of_ble_eq_true rfl) rfl ?_
        refine x_lI (fun v13 => z_V g (d + 13) YX2_stored 54 [(7, .int v13), (0, .ref b), (1, .int a1), (2, .int a2), (3, .int a3), (4, .int a4), (5, .int a5), (6, .int a6)] [] (t_m b σ4 μ) Q) h (fun v13 h => ?_)
        refine zi_iload 7 dX2_stored_54 rfl ?_
        refine zi_if_ne 69 dX2_stored_56 (by decide) (fun c14 => ?_) (fun c14 => ?_)
        · replace h := x_iF h c14
          refine zi_iload 7 dX2_stored_69 rfl ?_
          refine zi_iconst (v := 1) dX2_stored_71 (by decide) ?_
          refine zi_icmp_ne 85 dX2_stored_72 (by decide) (fun c15 => ?_) (fun c15 => ?_)
          · replace h := x_iF h c15
            refine zi_iload 7 dX2_stored_85 rfl ?_
            refine zi_iconst (v := 2) dX2_stored_87 (by decide) ?_
            refine zi_icmp_ne 101 dX2_stored_88 (by decide) (fun c16 => ?_) (fun c16 => ?_)
            · replace h := x_iF h c16
              refine zi_iconst (v := -1) dX2_stored_101 (by decide) ?_
              refine zi_ireturn rfl rfl dX2_stored_102 ?_
              exact x_r2i h hQ
            · replace h := x_iT h c16
              refine zi_aload_n 1 dX2_stored_91 rfl rfl ?_
              refine ti_getA 33 17 t_o33 q2203 dX2_stored_92 ?_
              refine zi_iload 0 dX2_stored_95 rfl ?_
              obtain ⟨j17, hj17, h⟩ := x_gaE h
              refine ti_iald 33 j17 36 16 ⟨rfl, rfl⟩ hj17 dX2_stored_97 ?_
              refine zi_goto 102 dX2_stored_98 (by decide) ?_
              refine zi_ireturn rfl rfl dX2_stored_102 ?_
              exact x_r2i h hQ
          · replace h := x_iT h c15
            refine zi_aload_n 1 dX2_stored_75 rfl rfl ?_
            refine ti_getA 32 16 t_o32 q2202 dX2_stored_76 ?_
            refine zi_iload 0 dX2_stored_79 rfl ?_
            obtain ⟨j18, hj18, h⟩ := x_gaE h
            refine ti_iald 32 j18 36 15 ⟨rfl, rfl⟩ hj18 dX2_stored_81 ?_
            refine zi_goto 102 dX2_stored_82 (by decide) ?_
            refine zi_ireturn rfl rfl dX2_stored_102 ?_
            exact x_r2i h hQ
        · replace h := x_iT h c14
          refine zi_aload_n 1 dX2_stored_59 rfl rfl ?_
          refine ti_getA 31 15 t_o31 q2201 dX2_stored_60 ?_
          refine zi_iload 0 dX2_stored_63 rfl ?_
          obtain ⟨j19, hj19, h⟩ := x_gaE h
          refine ti_iald 31 j19 36 14 ⟨rfl, rfl⟩ hj19 dX2_stored_65 ?_
          refine zi_goto 102 dX2_stored_66 (by decide) ?_
          refine zi_ireturn rfl rfl dX2_stored_102 ?_
          exact x_r2i h hQ
      · replace h := x_iT h c12
        refine zi_iconst (v := -1) dX2_stored_42 (by decide) ?_
        refine zi_ireturn rfl rfl dX2_stored_43 ?_
        exact x_r2i h hQ
noncomputable def D_entry (a1 : Int32) (a2 : Int32) (a3 : Int32) (a4 : Int32) (a5 : Int32) (a6 : Int32) (σ : t_S) : Option (Int32 × t_S) :=
  x_l (t_si σ 0 (0 : Int32)) fun σ1 =>
  x_b2 (D_layState a1 a2 a3 σ1) fun r3 σ4 =>
  if r3 = 0 then (some ((-1 : Int32), σ4)) else
  x_b (D_isNode a4 σ4) fun r7 =>
  if r7 = 0 then (some ((-1 : Int32), σ4)) else
  x_ga a4 6 fun j9 =>
  x_b (D_in a5 (0 : Int32) ((t_a σ4 34 j9) - (1 : Int32))) fun r11 =>
  if r11 = 0 then (some ((-1 : Int32), σ4)) else
  x_l (((64 : Int32) * a4) + a5) fun v13 =>
  if a6 = 0 then (x_ga v13 384 fun j15 =>
  some ((t_a σ4 35 j15), σ4)) else
  if a6 = 1 then (x_ga v13 384 fun j17 =>
  some ((t_a σ4 36 j17), σ4)) else
  if a6 = 2 then (x_ga v13 384 fun j19 =>
  some ((t_a σ4 37 j19), σ4)) else
  if a6 = 3 then (x_ga v13 384 fun j21 =>
  x_b (D_onesL (t_l σ4 38 j21)) fun r23 =>
  some (r23, σ4)) else
  if a6 = 4 then (x_ga v13 384 fun j25 =>
  some ((t_a σ4 41 j25), σ4)) else
  if a6 = 5 then (x_ga v13 384 fun j27 =>
  some ((t_a σ4 42 j27), σ4)) else
  if a6 = 6 then (x_ga v13 384 fun j29 =>
  some ((t_a σ4 43 j29), σ4)) else
  if a6 = 7 then (x_ga v13 384 fun j31 =>
  some ((t_a σ4 44 j31), σ4)) else
  some ((-1 : Int32), σ4)
theorem w_entry {a1 : Int32} {a2 : Int32} {a3 : Int32} {a4 : Int32} {a5 : Int32} {a6 : Int32} {rz : Int32} (h : D_entry a1 a2 a3 a4 a5 a6 σ = some (rz, σz)) (hQ : Q (.inl (some (.int rz))) (t_m b σz μ)) : z_K g (d + 13) YX2_entry [.ref b, .int a1, .int a2, .int a3, .int a4, .int a5, .int a6] (t_m b σ μ) Q := by
  unfold D_entry at h
  refine z_K.of (by decide) rfl (Nat.le_of_ble_eq_true rfl) ?_
  refine zi_aload_n 0 dX2_entry_0 rfl rfl ?_
  refine zi_iconst (v := 0) dX2_entry_1 (by decide) ?_
  refine ti_putI 0 ⟨Nat.le_of_ble_eq_true rfl, rfl, rfl⟩ (tyX2_ok 0 (Nat.le_of_ble_eq_true rfl)) q2170 dX2_entry_2 ?_
  refine x_lI (fun σ1 => z_V g (d + 13) YX2_entry 5 [(0, .ref b), (1, .int a1), (2, .int a2), (3, .int a3), (4, .int a4), (5, .int a5), (6, .int a6)] [] (t_m b σ1 μ) Q) h (fun σ1 h => ?_)
  refine zi_aload_n 0 dX2_entry_5 rfl rfl ?_
  refine zi_iload_n 1 dX2_entry_6 rfl rfl ?_
  refine zi_iload_n 2 dX2_entry_7 rfl rfl ?_
  refine zi_iload_n 3 dX2_entry_8 rfl rfl ?_
  obtain ⟨r3, σ4, h2, h⟩ := x_b2E h
  refine zi_callV [.int a1, .int a2, .int a3] mX2_layState rfl q2796 t_rec rfl rfl (Nat.le_of_ble_eq_true rfl) dX2_entry_9 ?_
  refine w_layState h2 ?_
  refine zi_if_eq 42 dX2_entry_12 (by decide) (fun c5 => ?_) (fun c5 => ?_)
  · replace h := x_iT h c5
    refine zi_iconst (v := -1) dX2_entry_42 (by decide) ?_
    refine zi_ireturn rfl rfl dX2_entry_43 ?_
    exact x_r2i h hQ
  · replace h := x_iF h c5
    refine zi_aload_n 0 dX2_entry_15 rfl rfl ?_
    refine zi_iload 4 dX2_entry_16 rfl ?_
    obtain ⟨r7, h6, h⟩ := x_bE h
    refine zi_callV [.int a4] mX2_isNode rfl q2571 t_rec rfl rfl (Nat.le_of_ble_eq_true rfl) dX2_entry_18 ?_
    refine w_isNode h6 ?_
    refine zi_if_eq 42 dX2_entry_21 (by decide) (fun c8 => ?_) (fun c8 => ?_)
    · replace h := x_iT h c8
      refine zi_iconst (v := -1) dX2_entry_42 (by decide) ?_
      refine zi_ireturn rfl rfl dX2_entry_43 ?_
      exact x_r2i h hQ
    · replace h := x_iF h c8
      refine zi_iload 5 dX2_entry_24 rfl ?_
      refine zi_iconst (v := 0) dX2_entry_26 (by decide) ?_
      refine zi_aload_n 0 dX2_entry_27 rfl rfl ?_
      refine ti_getA 34 18 t_o34 q2204 dX2_entry_28 ?_
      refine zi_iload 4 dX2_entry_31 rfl ?_
      obtain ⟨j9, hj9, h⟩ := x_gaE h
      refine ti_iald 34 j9 6 17 ⟨rfl, rfl⟩ hj9 dX2_entry_33 ?_
      refine zi_iconst (v := 1) dX2_entry_34 (by decide) ?_
      refine zi_isub dX2_entry_35 ?_
      obtain ⟨r11, h10, h⟩ := x_bE h
      refine zi_callS [.int a5, .int (0 : Int32), .int ((t_a σ4 34 j9) - (1 : Int32))] mX2_in rfl q2445 rfl rfl (Nat.le_of_ble_eq_true rfl) dX2_entry_36 ?_
      refine w_in h10 ?_
      refine zi_if_ne 44 dX2_entry_39 (by decide) (fun c12 => ?_) (fun c12 => ?_)
      · replace h := x_iF h c12
        refine zi_bipush (v := 64) dX2_entry_44 (by decide) ?_
        refine zi_iload 4 dX2_entry_46 rfl ?_
        refine zi_imul dX2_entry_48 ?_
        refine zi_iload 5 dX2_entry_49 rfl ?_
        refine zi_iadd dX2_entry_51 ?_
        refine zi_istore (lc1 := [(7, _), (0, _), (1, _), (2, _), (3, _), (4, _), (5, _), (6, _)]) dX2_entry_52 (Nat.le_of_ble_eq_true rfl) rfl ?_
        refine x_lI (fun v13 => z_V g (d + 13) YX2_entry 54 [(7, .int v13), (0, .ref b), (1, .int a1), (2, .int a2), (3, .int a3), (4, .int a4), (5, .int a5), (6, .int a6)] [] (t_m b σ4 μ) Q) h (fun v13 h => ?_)
        refine zi_iload 7 dX2_entry_54 rfl ?_
        rcases Decidable.em (a6 = (0 : Int32)) with c14 | c14
        · replace h := x_iT h c14
          refine zi_tableIn 104 dX2_entry_56 (by rw [c14]; decide) (by rw [c14]; decide) (by rw [c14] <;> rfl) (by decide) ?_
          refine zi_aload_n 1 dX2_entry_104 rfl rfl ?_
          refine ti_getA 35 19 t_o35 q2205 dX2_entry_105 ?_
          refine zi_iload 0 dX2_entry_108 rfl ?_
          obtain ⟨j15, hj15, h⟩ := x_gaE h
          refine ti_iald 35 j15 384 18 ⟨rfl, rfl⟩ hj15 dX2_entry_110 ?_
          refine zi_ireturn rfl rfl dX2_entry_111 ?_
          exact x_r2i h hQ
        replace h := x_iF h c14
        rcases Decidable.em (a6 = (1 : Int32)) with c16 | c16
        · replace h := x_iT h c16
          refine zi_tableIn 112 dX2_entry_56 (by rw [c16]; decide) (by rw [c16]; decide) (by rw [c16] <;> rfl) (by decide) ?_
          refine zi_aload_n 1 dX2_entry_112 rfl rfl ?_
          refine ti_getA 36 20 t_o36 q2206 dX2_entry_113 ?_
          refine zi_iload 0 dX2_entry_116 rfl ?_
          obtain ⟨j17, hj17, h⟩ := x_gaE h
          refine ti_iald 36 j17 384 19 ⟨rfl, rfl⟩ hj17 dX2_entry_118 ?_
          refine zi_ireturn rfl rfl dX2_entry_119 ?_
          exact x_r2i h hQ
        replace h := x_iF h c16
        rcases Decidable.em (a6 = (2 : Int32)) with c18 | c18
        · replace h := x_iT h c18
          refine zi_tableIn 120 dX2_entry_56 (by rw [c18]; decide) (by rw [c18]; decide) (by rw [c18] <;> rfl) (by decide) ?_
          refine zi_aload_n 1 dX2_entry_120 rfl rfl ?_
          refine ti_getA 37 21 t_o37 q2207 dX2_entry_121 ?_
          refine zi_iload 0 dX2_entry_124 rfl ?_
          obtain ⟨j19, hj19, h⟩ := x_gaE h
          refine ti_iald 37 j19 384 20 ⟨rfl, rfl⟩ hj19 dX2_entry_126 ?_
          refine zi_ireturn rfl rfl dX2_entry_127 ?_
          exact x_r2i h hQ
        replace h := x_iF h c18
        rcases Decidable.em (a6 = (3 : Int32)) with c20 | c20
        · replace h := x_iT h c20
          refine zi_tableIn 128 dX2_entry_56 (by rw [c20]; decide) (by rw [c20]; decide) (by rw [c20] <;> rfl) (by decide) ?_
          refine zi_aload_n 1 dX2_entry_128 rfl rfl ?_
          refine ti_getA 38 22 t_o38 q2208 dX2_entry_129 ?_
          refine zi_iload 0 dX2_entry_132 rfl ?_
          obtain ⟨j21, hj21, h⟩ := x_gaE h
          refine ti_lald 38 j21 384 21 ⟨rfl, rfl⟩ hj21 dX2_entry_134 ?_
          obtain ⟨r23, h22, h⟩ := x_bE h
          refine zi_callS [.long (t_l σ4 38 j21)] mX2_onesL rfl q2807 rfl rfl (Nat.le_of_ble_eq_true rfl) dX2_entry_135 ?_
          refine w_onesL h22 ?_
          refine zi_ireturn rfl rfl dX2_entry_138 ?_
          exact x_r2i h hQ
        replace h := x_iF h c20
        rcases Decidable.em (a6 = (4 : Int32)) with c24 | c24
        · replace h := x_iT h c24
          refine zi_tableIn 139 dX2_entry_56 (by rw [c24]; decide) (by rw [c24]; decide) (by rw [c24] <;> rfl) (by decide) ?_
          refine zi_aload_n 1 dX2_entry_139 rfl rfl ?_
          refine ti_getA 41 25 t_o41 q2211 dX2_entry_140 ?_
          refine zi_iload 0 dX2_entry_143 rfl ?_
          obtain ⟨j25, hj25, h⟩ := x_gaE h
          refine ti_iald 41 j25 384 24 ⟨rfl, rfl⟩ hj25 dX2_entry_145 ?_
          refine zi_ireturn rfl rfl dX2_entry_146 ?_
          exact x_r2i h hQ
        replace h := x_iF h c24
        rcases Decidable.em (a6 = (5 : Int32)) with c26 | c26
        · replace h := x_iT h c26
          refine zi_tableIn 147 dX2_entry_56 (by rw [c26]; decide) (by rw [c26]; decide) (by rw [c26] <;> rfl) (by decide) ?_
          refine zi_aload_n 1 dX2_entry_147 rfl rfl ?_
          refine ti_getA 42 26 t_o42 q2212 dX2_entry_148 ?_
          refine zi_iload 0 dX2_entry_151 rfl ?_
          obtain ⟨j27, hj27, h⟩ := x_gaE h
          refine ti_iald 42 j27 384 25 ⟨rfl, rfl⟩ hj27 dX2_entry_153 ?_
          refine zi_ireturn rfl rfl dX2_entry_154 ?_
          exact x_r2i h hQ
        replace h := x_iF h c26
        rcases Decidable.em (a6 = (6 : Int32)) with c28 | c28
        · replace h := x_iT h c28
          refine zi_tableIn 155 dX2_entry_56 (by rw [c28]; decide) (by rw [c28]; decide) (by rw [c28] <;> rfl) (by decide) ?_
          refine zi_aload_n 1 dX2_entry_155 rfl rfl ?_
          refine ti_getA 43 27 t_o43 q2213 dX2_entry_156 ?_
          refine zi_iload 0 dX2_entry_159 rfl ?_
          obtain ⟨j29, hj29, h⟩ := x_gaE h
          refine ti_iald 43 j29 384 26 ⟨rfl, rfl⟩ hj29 dX2_entry_161 ?_
          refine zi_ireturn rfl rfl dX2_entry_162 ?_
          exact x_r2i h hQ
        replace h := x_iF h c28
        rcases Decidable.em (a6 = (7 : Int32)) with c30 | c30
        · replace h := x_iT h c30
          refine zi_tableIn 163 dX2_entry_56 (by rw [c30]; decide) (by rw [c30]; decide) (by rw [c30] <;> rfl) (by decide) ?_
          refine zi_aload_n 1 dX2_entry_163 rfl rfl ?_
          refine ti_getA 44 28 t_o44 q2214 dX2_entry_164 ?_
          refine zi_iload 0 dX2_entry_167 rfl ?_
          obtain ⟨j31, hj31, h⟩ := x_gaE h
          refine ti_iald 44 j31 384 27 ⟨rfl, rfl⟩ hj31 dX2_entry_169 ?_
          refine zi_ireturn rfl rfl dX2_entry_170 ?_
          exact x_r2i h hQ
        replace h := x_iF h c30
        have hO := x_swO (v := a6) (0) (7) (fun i h1 h2 => by
          rcases (show i = 0 ∨ i = 1 ∨ i = 2 ∨ i = 3 ∨ i = 4 ∨ i = 5 ∨ i = 6 ∨ i = 7 by omega) with rfl | rfl | rfl | rfl | rfl | rfl | rfl | rfl
          · exact c14
          · exact c16
          · exact c18
          · exact c20
          · exact c24
          · exact c26
          · exact c28
          · exact c30)
        refine zi_tableOut 171 dX2_entry_56 hO (by decide) ?_
        refine zi_iconst (v := -1) dX2_entry_171 (by decide) ?_
        refine zi_ireturn rfl rfl dX2_entry_172 ?_
        exact x_r2i h hQ
      · replace h := x_iT h c12
        refine zi_iconst (v := -1) dX2_entry_42 (by decide) ?_
        refine zi_ireturn rfl rfl dX2_entry_43 ?_
        exact x_r2i h hQ
end T21
