/-! THE REFERENCE (AskedNamesModel) AS ONE PURE STATE: its ints by field numbers, its long, its arrays -/
set_option maxRecDepth 100000
abbrev t_S : Type := (Nat → Int32) × Int64 × (Nat → Nat → Int32) × (Nat → Nat → Int64)
def t_i (σ : t_S) (k : Nat) : Int32 := σ.1 k
def t_w (σ : t_S) : Int64 := σ.2.1
def t_a (σ : t_S) (k j : Nat) : Int32 := σ.2.2.1 k j
def t_l (σ : t_S) (k j : Nat) : Int64 := σ.2.2.2 k j
def t_si (σ : t_S) (k : Nat) (x : Int32) : t_S := (fun j => if j = k then x else σ.1 j, σ.2)
def t_sw (σ : t_S) (x : Int64) : t_S := (σ.1, x, σ.2.2)
def t_sa (σ : t_S) (k j : Nat) (x : Int32) : t_S := (σ.1, σ.2.1, fun k' j' => if k' = k ∧ j' = j then x else σ.2.2.1 k' j', σ.2.2.2)
def t_sl (σ : t_S) (k j : Nat) (x : Int64) : t_S := (σ.1, σ.2.1, σ.2.2.1, fun k' j' => if k' = k ∧ j' = j then x else σ.2.2.2 k' j')
/-- a field's kind: 0 int, 1 long, 2 int array, 3 byte array, 4 boolean array, 5 long array -/
def t_k (k : Nat) : Nat := match k with
  | 14 => 1
  | 1 => 3
  | 86 => 4
  | 28 => 5
  | 38 => 5
  | 39 => 5
  | 2 => 2 | 3 => 2 | 4 => 2 | 5 => 2 | 6 => 2 | 7 => 2 | 8 => 2 | 18 => 2 | 19 => 2 | 25 => 2 | 29 => 2 | 30 => 2 | 31 => 2 | 32 => 2 | 33 => 2 | 34 => 2 | 35 => 2 | 36 => 2 | 37 => 2 | 40 => 2 | 41 => 2 | 42 => 2 | 43 => 2 | 44 => 2 | 46 => 2 | 47 => 2 | 48 => 2 | 49 => 2 | 50 => 2 | 51 => 2 | 52 => 2 | 53 => 2 | 54 => 2 | 55 => 2 | 56 => 2 | 57 => 2 | 58 => 2 | 59 => 2 | 60 => 2 | 61 => 2 | 62 => 2 | 63 => 2 | 64 => 2 | 77 => 2 | 78 => 2 | 80 => 2 | 84 => 2
  | _ => 0
def t_arrs : List (Nat × Nat) := [(1, 2400), (2, 4), (3, 4), (4, 4), (5, 12), (6, 976), (7, 968), (8, 136), (18, 122), (19, 4), (25, 36), (28, 6), (29, 36), (30, 6), (31, 36), (32, 36), (33, 36), (34, 6), (35, 384), (36, 384), (37, 384), (38, 384), (39, 384), (40, 384), (41, 384), (42, 384), (43, 384), (44, 384), (46, 4096), (47, 4096), (48, 4096), (49, 4096), (50, 4096), (51, 4096), (52, 4096), (53, 4096), (54, 4096), (55, 4096), (56, 4096), (57, 64), (58, 64), (59, 64), (60, 64), (61, 64), (62, 64), (63, 64), (64, 64), (77, 48), (78, 8), (80, 36), (84, 40), (86, 3)]
/-- where the array of a field stands, behind the object -/
def t_off (k : Nat) : Nat := t_arrs.findIdx (fun q => q.1 == k) + 1
def t_len (k : Nat) : Nat := ((t_arrs.find? (fun q => q.1 == k)).map (fun q => q.2)).getD 0
def t_v (σ : t_S) (b k : Nat) : Value := match t_k k with
  | 0 => .int (t_i σ k)
  | 1 => .long (t_w σ)
  | _ => .ref (b + t_off k)
def t_f (σ : t_S) (b : Nat) : List Value := (List.range 87).map (t_v σ b)
def t_ar (σ : t_S) (q : Nat × Nat) : z_C := match t_k q.1 with
  | 2 => .inl (0, q.2, .inl (fun j => t_a σ q.1 j))
  | 3 => .inl (1, q.2, .inl (fun j => t_a σ q.1 j))
  | 4 => .inl (2, q.2, .inl (fun j => t_a σ q.1 j))
  | _ => .inl (3, q.2, .inr (.inl (fun j => t_l σ q.1 j)))
def t_cell (σ : t_S) (b j : Nat) : Option z_C := match j with
  | 0 => some (.inr (2, t_f σ b))
  | j + 1 => (t_arrs[j]?).map (t_ar σ)
/-- the memory μ with the reference in the state σ at b .. b + 52 -/
def t_m (b : Nat) (σ : t_S) (μ : z_M) : z_M := (fun a => if b ≤ a ∧ a < b + 53 then t_cell σ b (a - b) else μ.1 a, μ.2)
theorem t_fv {σ : t_S} {b k : Nat} (hk : k < 87) : (t_f σ b)[k]? = some (t_v σ b k) := by
  simp [t_f, hk]
theorem t_fl {σ : t_S} {b : Nat} : (t_f σ b).length = 87 := by simp [t_f]
theorem t_m0 {σ : t_S} {b : Nat} {μ : z_M} : (t_m b σ μ).1 b = some (.inr (2, t_f σ b)) := by
  show (if b ≤ b ∧ b < b + 53 then t_cell σ b (b - b) else μ.1 b) = _
  rw [if_pos ⟨Nat.le_refl _, by omega⟩, Nat.sub_self]
  rfl
theorem t_mA {σ : t_S} {b j : Nat} {μ : z_M} {q : Nat × Nat} (h : t_arrs[j]? = some q) : (t_m b σ μ).1 (b + (j + 1)) = some (t_ar σ q) := by
  have hj : j < 52 := (List.getElem?_eq_some_iff.mp h).1
  show (if b ≤ b + (j + 1) ∧ b + (j + 1) < b + 53 then t_cell σ b (b + (j + 1) - b) else μ.1 _) = _
  rw [if_pos ⟨by omega, by omega⟩, Nat.add_sub_cancel_left]
  show (t_arrs[j]?).map (t_ar σ) = _
  rw [h]
  rfl
theorem t_mO {σ : t_S} {b a : Nat} {μ : z_M} (h : ¬ (b ≤ a ∧ a < b + 53)) : (t_m b σ μ).1 a = μ.1 a := if_neg h
theorem t_mm {σ σ' : t_S} {b : Nat} {μ : z_M} : t_m b σ' (t_m b σ μ) = t_m b σ' μ := by
  refine Prod.ext (funext fun a => ?_) rfl
  by_cases h : b ≤ a ∧ a < b + 53
  · show (if _ then _ else _) = (if _ then _ else _)
    rw [if_pos h, if_pos h]
  · rw [t_mO h, t_mO h, t_mO h]
theorem t_arrs_nd {i j : Nat} {p q : Nat × Nat} (hi : t_arrs[i]? = some p) (hj : t_arrs[j]? = some q) (h : p.1 = q.1) : i = j := by
  have hl : t_arrs.length = 52 := rfl
  have h1 : i < 52 := (List.getElem?_eq_some_iff.mp hi).1
  have h2 : j < 52 := (List.getElem?_eq_some_iff.mp hj).1
  have key : ∀ i, i < 52 → ∀ j, j < 52 → ((t_arrs.getD i (0, 0)).1 = (t_arrs.getD j (0, 0)).1) → i = j := by decide +kernel
  refine key i h1 j h2 ?_
  rw [List.getD_eq_getElem?_getD, List.getD_eq_getElem?_getD, hi, hj]
  exact h
/-- a write to the object -/
theorem t_wr0 {σ σ' : t_S} {b k : Nat} {μ : z_M} {v : Value} (hk : k < 87) (hv : ∀ i, i < 87 → t_v σ' b i = if i = k then v else t_v σ b i) (ha : ∀ q, t_ar σ' q = t_ar σ q) : z_set (t_m b σ μ) b (.inr (2, (t_f σ b).set k v)) = t_m b σ' μ := by
  have hf : (t_f σ b).set k v = t_f σ' b := by
    apply List.ext_getElem?
    intro i
    by_cases hi : i < 87
    · rw [t_fv hi, hv i hi, List.getElem?_set, t_fl, t_fv hi]
      by_cases e : k = i
      · rw [if_pos e, if_pos e.symm, if_pos hk]
      · rw [if_neg e, if_neg (fun h => e h.symm)]
    · rw [List.getElem?_eq_none (by rw [List.length_set, t_fl]; omega), List.getElem?_eq_none (by rw [t_fl]; omega)]
  refine Prod.ext (funext fun a => ?_) rfl
  by_cases hab : a = b
  · subst hab
    rw [z_set_self, t_m0, hf]
  · rw [z_set_ne hab]
    by_cases h : b ≤ a ∧ a < b + 53
    · show (if _ then _ else _) = (if _ then _ else _)
      rw [if_pos h, if_pos h]
      obtain ⟨j, hj⟩ : ∃ j, a - b = j + 1 := ⟨a - b - 1, by omega⟩
      rw [hj]
      show (t_arrs[j]?).map (t_ar σ) = (t_arrs[j]?).map (t_ar σ')
      rw [funext ha]
    · rw [t_mO h, t_mO h]
/-- a write to an array -/
theorem t_wrA {σ σ' : t_S} {b j : Nat} {μ : z_M} {q : Nat × Nat} {x : z_C} (h : t_arrs[j]? = some q) (hx : t_ar σ' q = x) (hv : ∀ i, t_v σ' b i = t_v σ b i) (ha : ∀ p : Nat × Nat, p.1 ≠ q.1 → t_ar σ' p = t_ar σ p) : z_set (t_m b σ μ) (b + (j + 1)) x = t_m b σ' μ := by
  have hj : j < 52 := (List.getElem?_eq_some_iff.mp h).1
  refine Prod.ext (funext fun a => ?_) rfl
  by_cases hab : a = b + (j + 1)
  · subst hab
    rw [z_set_self, t_mA h, hx]
  · rw [z_set_ne hab]
    by_cases h9 : b ≤ a ∧ a < b + 53
    · show (if _ then _ else _) = (if _ then _ else _)
      rw [if_pos h9, if_pos h9]
      cases hi : a - b with
      | zero =>
        show some (Sum.inr (2, t_f σ b)) = some (Sum.inr (2, t_f σ' b))
        unfold t_f
        rw [funext hv]
      | succ i =>
        show (t_arrs[i]?).map (t_ar σ) = (t_arrs[i]?).map (t_ar σ')
        cases hp : t_arrs[i]? with
        | none => rfl
        | some p =>
          show some (t_ar σ p) = some (t_ar σ' p)
          rw [ha p (fun e => by
            have := t_arrs_nd hp h e
            omega)]
    · rw [t_mO h9, t_mO h9]
section TR
variable {g : z_G} {d : Nat} {Y : z_Y} {Q : z_O → z_M → Prop} {μ : z_M} {σ : t_S} {b pc index : Nat} {lc : List (Nat × Value)} {rest : List Value}
theorem ti_getI (k : Nat) (hk : k < 87 ∧ t_k k = 0) (hq : Cond.fieldLink Y.1.cls index (TX2 k).1 (TX2 k).2.1 (TX2 k).2.2.1 ∈ lw_all) (hd : decode Y.2.1 pc = .ok (.getfield index, 3)) (kk : z_V g d Y (pc + 3) lc (.int (t_i σ k) :: rest) (t_m b σ μ) Q) : z_V g d Y pc lc (.ref b :: rest) (t_m b σ μ) Q :=
  zi_getf k t_m0 (C := RX2) (T := TX2) (N := 87) rfl hk.1 hq (by rw [t_fv hk.1]; unfold t_v; rw [hk.2]; rfl) hd kk
theorem ti_getW (hq : Cond.fieldLink Y.1.cls index (TX2 14).1 (TX2 14).2.1 (TX2 14).2.2.1 ∈ lw_all) (hd : decode Y.2.1 pc = .ok (.getfield index, 3)) (kk : z_V g d Y (pc + 3) lc (.long (t_w σ) :: rest) (t_m b σ μ) Q) : z_V g d Y pc lc (.ref b :: rest) (t_m b σ μ) Q :=
  zi_getf 14 t_m0 (C := RX2) (T := TX2) (N := 87) rfl (by decide) hq (by rw [t_fv (by decide)]; rfl) hd kk
/-- the array of field k stands behind the object; its place is told by the instruction's row -/
theorem ti_getA (k j : Nat) (hk : k < 87 ∧ 2 ≤ t_k k ∧ t_off k = j) (hq : Cond.fieldLink Y.1.cls index (TX2 k).1 (TX2 k).2.1 (TX2 k).2.2.1 ∈ lw_all) (hd : decode Y.2.1 pc = .ok (.getfield index, 3)) (kk : z_V g d Y (pc + 3) lc (.ref (b + j) :: rest) (t_m b σ μ) Q) : z_V g d Y pc lc (.ref b :: rest) (t_m b σ μ) Q := by
  refine zi_getf k t_m0 (C := RX2) (T := TX2) (N := 87) (v := .ref (b + j)) rfl hk.1 hq ?_ hd kk
  rw [t_fv hk.1]
  unfold t_v
  obtain ⟨h1, h2, h3⟩ := hk
  rw [h3]
  split
  · omega
  · omega
  · rfl
theorem t_cl2 : vwCl[2]? = some (RX2, TX2, 87) := rfl
theorem ti_putI {x : Int32} (k : Nat) (hk : k < 87 ∧ t_k k = 0 ∧ (TX2 k).2.2.2 = false) (hp : parseFieldDescriptor (TX2 k).2.2.1 = some .int) (hq : Cond.fieldLink Y.1.cls index (TX2 k).1 (TX2 k).2.1 (TX2 k).2.2.1 ∈ lw_all) (hd : decode Y.2.1 pc = .ok (.putfield index, 3)) (kk : z_V g d Y (pc + 3) lc rest (t_m b (t_si σ k x) μ) Q) : z_V g d Y pc lc (.int x :: .ref b :: rest) (t_m b σ μ) Q := by
  refine zi_putf k t_m0 (C := RX2) (T := TX2) (N := 87) t_cl2 hk.1 hq hk.2.2 hp rfl rfl (by rw [t_fl]; exact hk.1) hd ?_
  rw [t_wr0 (σ := σ) (σ' := t_si σ k x) hk.1 (fun i _ => ?_) (fun q => rfl)]
  · exact kk
  · by_cases e : i = k
    · subst e
      rw [if_pos rfl]
      unfold t_v
      rw [hk.2.1]
      exact congrArg Value.int (show t_i (t_si σ i x) i = x from if_pos rfl)
    · rw [if_neg e]
      unfold t_v t_i t_si
      simp only [if_neg e]
      rfl
/-- the one boolean -/
theorem ti_putZ {x : Int32} (k : Nat) (hk : k < 87 ∧ t_k k = 0 ∧ (TX2 k).2.2.2 = false) (hp : parseFieldDescriptor (TX2 k).2.2.1 = some .boolean) (hx : narrow .boolean (.int x) = .int x ∧ fits .boolean (.int x) = true) (hq : Cond.fieldLink Y.1.cls index (TX2 k).1 (TX2 k).2.1 (TX2 k).2.2.1 ∈ lw_all) (hd : decode Y.2.1 pc = .ok (.putfield index, 3)) (kk : z_V g d Y (pc + 3) lc rest (t_m b (t_si σ k x) μ) Q) : z_V g d Y pc lc (.int x :: .ref b :: rest) (t_m b σ μ) Q := by
  refine zi_putf k t_m0 (C := RX2) (T := TX2) (N := 87) t_cl2 hk.1 hq hk.2.2 hp hx.1 hx.2 (by rw [t_fl]; exact hk.1) hd ?_
  rw [t_wr0 (σ := σ) (σ' := t_si σ k x) hk.1 (fun i _ => ?_) (fun q => rfl)]
  · exact kk
  · by_cases e : i = k
    · subst e
      rw [if_pos rfl]
      unfold t_v
      rw [hk.2.1]
      exact congrArg Value.int (show t_i (t_si σ i x) i = x from if_pos rfl)
    · rw [if_neg e]
      unfold t_v t_i t_si
      simp only [if_neg e]
      rfl
theorem ti_putW {x : Int64} (hq : Cond.fieldLink Y.1.cls index (TX2 14).1 (TX2 14).2.1 (TX2 14).2.2.1 ∈ lw_all) (hd : decode Y.2.1 pc = .ok (.putfield index, 3)) (kk : z_V g d Y (pc + 3) lc rest (t_m b (t_sw σ x) μ) Q) : z_V g d Y pc lc (.long x :: .ref b :: rest) (t_m b σ μ) Q := by
  refine zi_putf 14 t_m0 (C := RX2) (T := TX2) (N := 87) (ty := .long) t_cl2 (by decide) hq rfl (by decide +kernel) rfl rfl (by rw [t_fl]; decide) hd ?_
  rw [t_wr0 (σ := σ) (σ' := t_sw σ x) (by decide) (fun i _ => ?_) (fun q => rfl)]
  · exact kk
  · by_cases e : i = 14
    · subst e
      rfl
    · rw [if_neg e]
      have h1 : t_k i ≠ 1 := by
        intro h
        unfold t_k at h
        split at h <;> first | exact absurd rfl e | (exact absurd h (by decide))
      unfold t_v
      split <;> first | rfl | (rename_i h; exact absurd h h1)
theorem ti_iald {i : Int32} (k j n : Nat) (j0 : Nat) (ha : t_arrs[j0]? = some (k, n) ∧ t_k k = 2) (hi : z_ix i j n) (hd : decode Y.2.1 pc = .ok (.iaload, 1)) (kk : z_V g d Y (pc + 1) lc (.int (t_a σ k j) :: rest) (t_m b σ μ) Q) : z_V g d Y pc lc (.int i :: .ref (b + (j0 + 1)) :: rest) (t_m b σ μ) Q :=
  zi_iald (f := fun q => t_a σ k q) j ((t_mA ha.1).trans (by unfold t_ar; rw [ha.2]; rfl)) hi hd kk
theorem ti_bald {i : Int32} (k j n : Nat) (j0 : Nat) (ha : t_arrs[j0]? = some (k, n) ∧ t_k k = 3) (hi : z_ix i j n) (hd : decode Y.2.1 pc = .ok (.baload, 1)) (kk : z_V g d Y (pc + 1) lc (.int (t_a σ k j) :: rest) (t_m b σ μ) Q) : z_V g d Y pc lc (.int i :: .ref (b + (j0 + 1)) :: rest) (t_m b σ μ) Q :=
  zi_bald (f := fun q => t_a σ k q) j ((t_mA ha.1).trans (by unfold t_ar; rw [ha.2]; rfl)) hi hd kk
theorem ti_zald {i : Int32} (k j n : Nat) (j0 : Nat) (ha : t_arrs[j0]? = some (k, n) ∧ t_k k = 4) (hi : z_ix i j n) (hd : decode Y.2.1 pc = .ok (.baload, 1)) (kk : z_V g d Y (pc + 1) lc (.int (t_a σ k j) :: rest) (t_m b σ μ) Q) : z_V g d Y pc lc (.int i :: .ref (b + (j0 + 1)) :: rest) (t_m b σ μ) Q :=
  zi_zald (f := fun q => t_a σ k q) j ((t_mA ha.1).trans (by unfold t_ar; rw [ha.2]; rfl)) hi hd kk
theorem ti_lald {i : Int32} (k j n : Nat) (j0 : Nat) (ha : t_arrs[j0]? = some (k, n) ∧ t_k k = 5) (hi : z_ix i j n) (hd : decode Y.2.1 pc = .ok (.laload, 1)) (kk : z_V g d Y (pc + 1) lc (.long (t_l σ k j) :: rest) (t_m b σ μ) Q) : z_V g d Y pc lc (.int i :: .ref (b + (j0 + 1)) :: rest) (t_m b σ μ) Q :=
  zi_lald (f := fun q => t_l σ k q) j ((t_mA ha.1).trans (by unfold t_ar; rw [ha.2]; rfl)) hi hd kk
theorem t_arK {σ : t_S} {k n c : Nat} (f : Nat → Int32) (hk : t_k k = 2 ∧ c = 0 ∨ t_k k = 3 ∧ c = 1 ∨ t_k k = 4 ∧ c = 2) (hf : ∀ j, t_a σ k j = f j) : t_ar σ (k, n) = .inl (c, n, .inl f) := by
  have e : (fun j => t_a σ k j) = f := funext hf
  unfold t_ar
  rcases hk with ⟨h, rfl⟩ | ⟨h, rfl⟩ | ⟨h, rfl⟩ <;> (rw [h]; simp only [e])
theorem t_sa_ar {σ : t_S} {k j : Nat} {x : Int32} {p : Nat × Nat} (h : p.1 ≠ k) : t_ar (t_sa σ k j x) p = t_ar σ p := by
  unfold t_ar
  have e : (fun i => t_a (t_sa σ k j x) p.1 i) = (fun i => t_a σ p.1 i) := funext fun i => if_neg (fun q => h q.1)
  rw [e]
  rfl
theorem ti_iast {i x : Int32} (k j n : Nat) (j0 : Nat) (ha : t_arrs[j0]? = some (k, n) ∧ t_k k = 2) (hi : z_ix i j n) (hd : decode Y.2.1 pc = .ok (.iastore, 1)) (kk : z_V g d Y (pc + 1) lc rest (t_m b (t_sa σ k j x) μ) Q) : z_V g d Y pc lc (.int x :: .int i :: .ref (b + (j0 + 1)) :: rest) (t_m b σ μ) Q := by
  refine zi_iast (f := fun q => t_a σ k q) j ((t_mA ha.1).trans (by unfold t_ar; rw [ha.2]; rfl)) hi hd ?_
  rw [t_wrA (σ := σ) (σ' := t_sa σ k j x) ha.1 (t_arK _ (Or.inl ⟨ha.2, rfl⟩) (fun q => ?_)) (fun q => rfl) (fun p hp => t_sa_ar hp)]
  · exact kk
  · by_cases e : q = j
    · exact (if_pos ⟨rfl, e⟩).trans (if_pos e).symm
    · exact (if_neg (fun z => e z.2)).trans (if_neg e).symm
theorem ti_bast {i x y : Int32} (k j n : Nat) (j0 : Nat) (ha : t_arrs[j0]? = some (k, n) ∧ t_k k = 3) (hi : z_ix i j n) (hy : narrow .byte (.int x) = .int y) (hd : decode Y.2.1 pc = .ok (.bastore, 1)) (kk : z_V g d Y (pc + 1) lc rest (t_m b (t_sa σ k j y) μ) Q) : z_V g d Y pc lc (.int x :: .int i :: .ref (b + (j0 + 1)) :: rest) (t_m b σ μ) Q := by
  refine zi_bast (f := fun q => t_a σ k q) j ((t_mA ha.1).trans (by unfold t_ar; rw [ha.2]; rfl)) hi hy hd ?_
  rw [t_wrA (σ := σ) (σ' := t_sa σ k j y) ha.1 (t_arK _ (Or.inr (Or.inl ⟨ha.2, rfl⟩)) (fun q => ?_)) (fun q => rfl) (fun p hp => t_sa_ar hp)]
  · exact kk
  · by_cases e : q = j
    · exact (if_pos ⟨rfl, e⟩).trans (if_pos e).symm
    · exact (if_neg (fun z => e z.2)).trans (if_neg e).symm
theorem ti_zast {i x y : Int32} (k j n : Nat) (j0 : Nat) (ha : t_arrs[j0]? = some (k, n) ∧ t_k k = 4) (hi : z_ix i j n) (hy : narrow .boolean (.int x) = .int y) (hd : decode Y.2.1 pc = .ok (.bastore, 1)) (kk : z_V g d Y (pc + 1) lc rest (t_m b (t_sa σ k j y) μ) Q) : z_V g d Y pc lc (.int x :: .int i :: .ref (b + (j0 + 1)) :: rest) (t_m b σ μ) Q := by
  refine zi_zast (f := fun q => t_a σ k q) j ((t_mA ha.1).trans (by unfold t_ar; rw [ha.2]; rfl)) hi hy hd ?_
  rw [t_wrA (σ := σ) (σ' := t_sa σ k j y) ha.1 (t_arK _ (Or.inr (Or.inr ⟨ha.2, rfl⟩)) (fun q => ?_)) (fun q => rfl) (fun p hp => t_sa_ar hp)]
  · exact kk
  · by_cases e : q = j
    · exact (if_pos ⟨rfl, e⟩).trans (if_pos e).symm
    · exact (if_neg (fun z => e z.2)).trans (if_neg e).symm
theorem ti_last {i : Int32} {x : Int64} (k j n : Nat) (j0 : Nat) (ha : t_arrs[j0]? = some (k, n) ∧ t_k k = 5) (hi : z_ix i j n) (hd : decode Y.2.1 pc = .ok (.lastore, 1)) (kk : z_V g d Y (pc + 1) lc rest (t_m b (t_sl σ k j x) μ) Q) : z_V g d Y pc lc (.long x :: .int i :: .ref (b + (j0 + 1)) :: rest) (t_m b σ μ) Q := by
  refine zi_last (f := fun q => t_l σ k q) j ((t_mA ha.1).trans (by unfold t_ar; rw [ha.2]; rfl)) hi hd ?_
  rw [t_wrA (σ := σ) (σ' := t_sl σ k j x) ha.1 ?_ (fun q => rfl) (fun p hp => ?_)]
  · exact kk
  · have e : (fun q => t_l (t_sl σ k j x) k q) = (fun q => if q = j then x else t_l σ k q) := funext fun q => by
      by_cases e : q = j
      · exact (if_pos ⟨rfl, e⟩).trans (if_pos e).symm
      · exact (if_neg (fun z => e z.2)).trans (if_neg e).symm
    unfold t_ar
    simp only [ha.2, e]
  · unfold t_ar
    have e : (fun i => t_l (t_sl σ k j x) p.1 i) = (fun i => t_l σ p.1 i) := funext fun i => if_neg (fun q => hp q.1)
    rw [e]
    rfl
end TR
theorem t_rec {g : z_G} {b : Nat} {σ : t_S} {μ : z_M} : z_isA g (t_m b σ μ) b "AskedNamesModel" := Or.inl ⟨2, _, TX2, 87, t_m0, rfl⟩
