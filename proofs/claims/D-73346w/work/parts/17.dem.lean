/-! DENOTATIONS OVER THE MEMORY: nullable references are Option Nat; a field, an element is read with its kind; 'none' where the memory is not as the code takes it -/
set_option maxRecDepth 100000
theorem x_cat {o : Option Nat} : (va_rf o).category = 1 := by cases o <;> rfl
def x_o {α : Type} (o : Option Nat) (k : Nat → Option α) : Option α := match o with
  | some p => k p
  | none => none
theorem x_oE {α : Type} {o : Option Nat} {k : Nat → Option α} {r : α} (h : x_o o k = some r) : ∃ p, o = some p ∧ k p = some r := by
  cases o with
  | none => exact absurd h (x_n r)
  | some p => exact ⟨p, rfl, h⟩
def x_nu {α : Type} (o : Option Nat) (m : Option α) (k : Nat → Option α) : Option α := match o with
  | some p => k p
  | none => m
theorem x_nuE {α : Type} {o : Option Nat} {m : Option α} {k : Nat → Option α} {r : α} (h : x_nu o m k = some r) : (o = none ∧ m = some r) ∨ ∃ p, o = some p ∧ k p = some r := by
  cases o with
  | none => exact Or.inl ⟨rfl, h⟩
  | some p => exact Or.inr ⟨p, rfl, h⟩
/-- a guard that is no program -/
noncomputable def x_gp {α : Type} (c : Prop) (m : Option α) : Option α := @ite _ c (Classical.propDecidable c) m none
theorem x_gpE {α : Type} {c : Prop} {m : Option α} {r : α} (h : x_gp c m = some r) : c ∧ m = some r := by
  unfold x_gp at h
  by_cases hc : c
  · rw [if_pos hc] at h; exact ⟨hc, h⟩
  · rw [if_neg hc] at h; exact absurd h (x_n r)
theorem x_gpI {α : Type} {c : Prop} {m : Option α} (hc : c) : x_gp c m = m := by unfold x_gp; rw [if_pos hc]
noncomputable def x_ip {α : Type} (c : Prop) (m m' : α) : α := @ite _ c (Classical.propDecidable c) m m'
theorem x_ipE {α : Type} {c : Prop} {m m' r : α} (h : x_ip c m m' = r) : (c ∧ m = r) ∨ (¬ c ∧ m' = r) := by
  unfold x_ip at h
  by_cases hc : c
  · rw [if_pos hc] at h; exact Or.inl ⟨hc, h⟩
  · rw [if_neg hc] at h; exact Or.inr ⟨hc, h⟩
theorem x_ipT {α : Type} {c : Prop} {m m' : α} (hc : c) : x_ip c m m' = m := by unfold x_ip; rw [if_pos hc]
theorem x_ipF {α : Type} {c : Prop} {m m' : α} (hc : ¬ c) : x_ip c m m' = m' := by unfold x_ip; rw [if_neg hc]
/-- values by their kinds -/
def x_vi {α : Type} (v : Value) (k : Int32 → Option α) : Option α := match v with
  | .int x => k x
  | _ => none
def x_vl {α : Type} (v : Value) (k : Int64 → Option α) : Option α := match v with
  | .long x => k x
  | _ => none
def x_vr {α : Type} (v : Value) (k : Option Nat → Option α) : Option α := match v with
  | .ref x => k (some x)
  | .null => k none
  | _ => none
theorem x_viE {α : Type} {v : Value} {k : Int32 → Option α} {r : α} (h : x_vi v k = some r) : ∃ x, v = .int x ∧ k x = some r := by
  cases v <;> first | exact ⟨_, rfl, h⟩ | exact absurd h (x_n r)
theorem x_vlE {α : Type} {v : Value} {k : Int64 → Option α} {r : α} (h : x_vl v k = some r) : ∃ x, v = .long x ∧ k x = some r := by
  cases v <;> first | exact ⟨_, rfl, h⟩ | exact absurd h (x_n r)
theorem x_vrE {α : Type} {v : Value} {k : Option Nat → Option α} {r : α} (h : x_vr v k = some r) : ∃ x, v = va_rf x ∧ k x = some r := by
  cases v <;> first | exact ⟨some _, rfl, h⟩ | exact ⟨none, rfl, h⟩ | exact absurd h (x_n r)
/-- an object's fields: of one class, of some classes (a field of what they extend), with constants -/
def x_ob {α : Type} (μ : z_M) (a ci : Nat) (k : List Value → Option α) : Option α := match μ.1 a with
  | some (.inr (c, fs)) => if c = ci then k fs else none
  | _ => none
theorem x_obE {α : Type} {μ : z_M} {a ci : Nat} {k : List Value → Option α} {r : α} (h : x_ob μ a ci k = some r) : ∃ fs, μ.1 a = some (.inr (ci, fs)) ∧ k fs = some r := by
  unfold x_ob at h
  split at h
  · rename_i c fs e
    by_cases hc : c = ci
    · rw [if_pos hc] at h; subst hc; exact ⟨fs, e, h⟩
    · rw [if_neg hc] at h; exact absurd h (x_n r)
  · exact absurd h (x_n r)
def x_os {α : Type} (μ : z_M) (a : Nat) (cs : List Nat) (k : Nat → List Value → Option α) : Option α := match μ.1 a with
  | some (.inr (c, fs)) => if c ∈ cs then k c fs else none
  | _ => none
theorem x_osE {α : Type} {μ : z_M} {a : Nat} {cs : List Nat} {k : Nat → List Value → Option α} {r : α} (h : x_os μ a cs k = some r) : ∃ c fs, c ∈ cs ∧ μ.1 a = some (.inr (c, fs)) ∧ k c fs = some r := by
  unfold x_os at h
  split at h
  · rename_i c fs e
    by_cases hc : c ∈ cs
    · rw [if_pos hc] at h; exact ⟨c, fs, hc, e, h⟩
    · rw [if_neg hc] at h; exact absurd h (x_n r)
  · exact absurd h (x_n r)
def x_fv {α : Type} (fs : List Value) (k : Nat) (kk : Value → Option α) : Option α := match fs[k]? with
  | some v => kk v
  | none => none
theorem x_fvE {α : Type} {fs : List Value} {k : Nat} {kk : Value → Option α} {r : α} (h : x_fv fs k kk = some r) : ∃ v, fs[k]? = some v ∧ kk v = some r := by
  unfold x_fv at h
  split at h
  · exact ⟨_, by assumption, h⟩
  · exact absurd h (x_n r)
def x_gi {α : Type} (μ : z_M) (a ci k : Nat) (kk : Int32 → Option α) : Option α := x_ob μ a ci fun fs => x_fv fs k fun v => x_vi v kk
def x_gl {α : Type} (μ : z_M) (a ci k : Nat) (kk : Int64 → Option α) : Option α := x_ob μ a ci fun fs => x_fv fs k fun v => x_vl v kk
def x_gr {α : Type} (μ : z_M) (a ci k : Nat) (kk : Option Nat → Option α) : Option α := x_ob μ a ci fun fs => x_fv fs k fun v => x_vr v kk
theorem x_giE {α : Type} {μ : z_M} {a ci k : Nat} {kk : Int32 → Option α} {r : α} (h : x_gi μ a ci k kk = some r) : ∃ fs x, μ.1 a = some (.inr (ci, fs)) ∧ fs[k]? = some (.int x) ∧ kk x = some r := by
  obtain ⟨fs, h1, h⟩ := x_obE h
  obtain ⟨v, h2, h⟩ := x_fvE h
  obtain ⟨x, rfl, h⟩ := x_viE h
  exact ⟨fs, x, h1, h2, h⟩
theorem x_glE {α : Type} {μ : z_M} {a ci k : Nat} {kk : Int64 → Option α} {r : α} (h : x_gl μ a ci k kk = some r) : ∃ fs x, μ.1 a = some (.inr (ci, fs)) ∧ fs[k]? = some (.long x) ∧ kk x = some r := by
  obtain ⟨fs, h1, h⟩ := x_obE h
  obtain ⟨v, h2, h⟩ := x_fvE h
  obtain ⟨x, rfl, h⟩ := x_vlE h
  exact ⟨fs, x, h1, h2, h⟩
theorem x_grE {α : Type} {μ : z_M} {a ci k : Nat} {kk : Option Nat → Option α} {r : α} (h : x_gr μ a ci k kk = some r) : ∃ fs x, μ.1 a = some (.inr (ci, fs)) ∧ fs[k]? = some (va_rf x) ∧ kk x = some r := by
  obtain ⟨fs, h1, h⟩ := x_obE h
  obtain ⟨v, h2, h⟩ := x_fvE h
  replace h := x_vrE h
  obtain ⟨x, rfl, h⟩ := h
  exact ⟨fs, x, h1, h2, h⟩
/-- fields that several classes have from one that they extend; or of constants (String, Integer, enums) -/
noncomputable def x_cf (g : z_G) (o n ds : String) (a : Nat) : Option Value := @dite _ (∃ v, z_OF g o n ds v a) (Classical.propDecidable _) (fun h => some (Classical.choose h)) (fun _ => none)
theorem x_cfE {g : z_G} {o n ds : String} {a : Nat} {v : Value} (h : x_cf g o n ds a = some v) : z_OF g o n ds v a := by
  unfold x_cf at h
  by_cases hc : ∃ v, z_OF g o n ds v a
  · rw [dif_pos hc] at h; cases h; exact Classical.choose_spec hc
  · rw [dif_neg hc] at h; cases h
/-- the value of a field: cs are the classes that have it, at k -/
noncomputable def x_ff {α : Type} (g : z_G) (μ : z_M) (a : Nat) (cs : List Nat) (k : Nat) (o n ds : String) (kk : Value → Option α) : Option α := match μ.1 a with
  | some (.inr (c, fs)) => if c ∈ cs then x_fv fs k kk else none
  | some _ => none
  | none => x_b (x_cf g o n ds a) kk
def x_hf (c k : Nat) (o n ds : String) : Prop := ∃ (C : String) (T : u_T) (N : Nat), vwCl[c]? = some (C, T, N) ∧ k < N ∧ ((T k).1, (T k).2.1, (T k).2.2.1) = (o, n, ds)
theorem x_ffE {α : Type} {g : z_G} {μ : z_M} {a k : Nat} {cs : List Nat} {o n ds : String} {kk : Value → Option α} {r : α} (hcs : ∀ c ∈ cs, x_hf c k o n ds) (h : x_ff g μ a cs k o n ds kk = some r) : ∃ v, z_fld g μ a o n ds v ∧ kk v = some r := by
  unfold x_ff at h
  split at h
  · rename_i c fs e
    by_cases hc : c ∈ cs
    · rw [if_pos hc] at h
      obtain ⟨v, h1, h2⟩ := x_fvE h
      obtain ⟨C, T, N, q1, q2, q3⟩ := hcs c hc
      exact ⟨v, Or.inl ⟨c, fs, C, T, N, k, e, q1, q2, q3, h1⟩, h2⟩
    · rw [if_neg hc] at h; exact absurd h (x_n r)
  · exact absurd h (x_n r)
  · obtain ⟨v, h1, h2⟩ := x_bE h
    exact ⟨v, Or.inr (x_cfE h1), h2⟩
noncomputable def x_fi {α : Type} (g : z_G) (μ : z_M) (a : Nat) (cs : List Nat) (k : Nat) (o n ds : String) (kk : Int32 → Option α) : Option α := x_ff g μ a cs k o n ds fun v => x_vi v kk
noncomputable def x_fr {α : Type} (g : z_G) (μ : z_M) (a : Nat) (cs : List Nat) (k : Nat) (o n ds : String) (kk : Option Nat → Option α) : Option α := x_ff g μ a cs k o n ds fun v => x_vr v kk
theorem x_fiE {α : Type} {g : z_G} {μ : z_M} {a k : Nat} {cs : List Nat} {o n ds : String} {kk : Int32 → Option α} {r : α} (hcs : ∀ c ∈ cs, x_hf c k o n ds) (h : x_fi g μ a cs k o n ds kk = some r) : ∃ x, z_fld g μ a o n ds (.int x) ∧ kk x = some r := by
  obtain ⟨v, h1, h⟩ := x_ffE hcs h
  obtain ⟨x, rfl, h⟩ := x_viE h
  exact ⟨x, h1, h⟩
theorem x_frE {α : Type} {g : z_G} {μ : z_M} {a k : Nat} {cs : List Nat} {o n ds : String} {kk : Option Nat → Option α} {r : α} (hcs : ∀ c ∈ cs, x_hf c k o n ds) (h : x_fr g μ a cs k o n ds kk = some r) : ∃ x, z_fld g μ a o n ds (va_rf x) ∧ kk x = some r := by
  obtain ⟨v, h1, h⟩ := x_ffE hcs h
  replace h := x_vrE h
  obtain ⟨x, rfl, h⟩ := h
  exact ⟨x, h1, h⟩
/-- a field is written -/
def x_pf {α : Type} (μ : z_M) (a ci k : Nat) (v : Value) (kk : z_M → Option α) : Option α := x_ob μ a ci fun fs => x_g (k < fs.length) (kk (z_set μ a (.inr (ci, fs.set k v))))
theorem x_pfE {α : Type} {μ : z_M} {a ci k : Nat} {v : Value} {kk : z_M → Option α} {r : α} (h : x_pf μ a ci k v kk = some r) : ∃ fs μ1, μ.1 a = some (.inr (ci, fs)) ∧ k < fs.length ∧ z_set μ a (.inr (ci, fs.set k v)) = μ1 ∧ kk μ1 = some r := by
  obtain ⟨fs, h1, h⟩ := x_obE h
  obtain ⟨h2, h⟩ := x_gE h
  exact ⟨fs, _, h1, h2, rfl, h⟩
def x_ps {α : Type} (μ : z_M) (a : Nat) (cs : List Nat) (k : Nat) (v : Value) (kk : z_M → Option α) : Option α := x_os μ a cs fun c fs => x_g (k < fs.length) (kk (z_set μ a (.inr (c, fs.set k v))))
theorem x_psE {α : Type} {μ : z_M} {a k : Nat} {cs : List Nat} {v : Value} {kk : z_M → Option α} {r : α} (h : x_ps μ a cs k v kk = some r) : ∃ c fs μ1, c ∈ cs ∧ μ.1 a = some (.inr (c, fs)) ∧ k < fs.length ∧ z_set μ a (.inr (c, fs.set k v)) = μ1 ∧ kk μ1 = some r := by
  obtain ⟨c, fs, h0, h1, h⟩ := x_osE h
  obtain ⟨h2, h⟩ := x_gE h
  exact ⟨c, fs, _, h0, h1, h2, rfl, h⟩
/-- a cell is made -/
def x_nw {α : Type} (μ : z_M) (n : Nat) (x : z_C) (kk : Nat → z_M → Option α) : Option α := kk μ.2.1 (z_new μ n x)
theorem x_nwE {α : Type} {μ : z_M} {n : Nat} {x : z_C} {kk : Nat → z_M → Option α} {r : α} (h : x_nw μ n x kk = some r) : ∃ p μ1, μ.2.1 = p ∧ z_new μ n x = μ1 ∧ kk p μ1 = some r := ⟨_, _, rfl, rfl, h⟩
def x_na {α : Type} (i : Int32) (kk : Nat → Option α) : Option α := x_g (¬ i < 0 ∧ i.toNatClampNeg ≤ 60000000) (kk i.toNatClampNeg)
theorem x_naE {α : Type} {i : Int32} {kk : Nat → Option α} {r : α} (h : x_na i kk = some r) : ∃ n, (¬ i < 0 ∧ i.toNatClampNeg = n) ∧ n ≤ 60000000 ∧ kk n = some r := by
  obtain ⟨h1, h⟩ := x_gE h
  exact ⟨_, ⟨h1.1, rfl⟩, h1.2, h⟩
/-- arrays of ints, bytes, booleans (t 0, 1, 2) -/
def x_ar {α : Type} (μ : z_M) (a t : Nat) (kk : Nat → (Nat → Int32) → Option α) : Option α := match μ.1 a with
  | some (.inl (t1, n, .inl f)) => if t1 = t then kk n f else none
  | _ => none
theorem x_arE {α : Type} {μ : z_M} {a t : Nat} {kk : Nat → (Nat → Int32) → Option α} {r : α} (h : x_ar μ a t kk = some r) : ∃ n f, μ.1 a = some (.inl (t, n, .inl f)) ∧ kk n f = some r := by
  unfold x_ar at h
  split at h
  · rename_i t1 n f e
    by_cases hc : t1 = t
    · rw [if_pos hc] at h; subst hc; exact ⟨n, f, e, h⟩
    · rw [if_neg hc] at h; exact absurd h (x_n r)
  · exact absurd h (x_n r)
def x_al {α : Type} (μ : z_M) (a : Nat) (kk : Nat → (Nat → Int64) → Option α) : Option α := match μ.1 a with
  | some (.inl (t1, n, .inr (.inl f))) => if t1 = 3 then kk n f else none
  | _ => none
theorem x_alE {α : Type} {μ : z_M} {a : Nat} {kk : Nat → (Nat → Int64) → Option α} {r : α} (h : x_al μ a kk = some r) : ∃ n f, μ.1 a = some (.inl (3, n, .inr (.inl f))) ∧ kk n f = some r := by
  unfold x_al at h
  split at h
  · rename_i t1 n f e
    by_cases hc : t1 = 3
    · rw [if_pos hc] at h; subst hc; exact ⟨n, f, e, h⟩
    · rw [if_neg hc] at h; exact absurd h (x_n r)
  · exact absurd h (x_n r)
/-- arrays of references (t 4, 5, 6) -/
def x_aa {α : Type} (μ : z_M) (a t : Nat) (kk : Nat → (Nat → Option Nat) → Option α) : Option α := match μ.1 a with
  | some (.inl (t1, n, .inr (.inr (.inr (.inr f))))) => if t1 = t then kk n f else none
  | _ => none
theorem x_aaE {α : Type} {μ : z_M} {a t : Nat} {kk : Nat → (Nat → Option Nat) → Option α} {r : α} (h : x_aa μ a t kk = some r) : ∃ n f, μ.1 a = some (.inl (t, n, .inr (.inr (.inr (.inr f))))) ∧ kk n f = some r := by
  unfold x_aa at h
  split at h
  · rename_i t1 n f e
    by_cases hc : t1 = t
    · rw [if_pos hc] at h; subst hc; exact ⟨n, f, e, h⟩
    · rw [if_neg hc] at h; exact absurd h (x_n r)
  · exact absurd h (x_n r)
/-- bytes that may be a constant's -/
noncomputable def x_cb (g : z_G) (a : Nat) : Option (Nat × (Nat → Int32)) := @dite _ (∃ q : Nat × (Nat → Int32), z_T g .byte a q.1 (fun j => .int (q.2 j))) (Classical.propDecidable _) (fun h => some (Classical.choose h)) (fun _ => none)
theorem x_cbE {g : z_G} {a : Nat} {q : Nat × (Nat → Int32)} (h : x_cb g a = some q) : z_T g .byte a q.1 (fun j => .int (q.2 j)) := by
  unfold x_cb at h
  by_cases hc : ∃ q : Nat × (Nat → Int32), z_T g .byte a q.1 (fun j => .int (q.2 j))
  · rw [dif_pos hc] at h; cases h; exact Classical.choose_spec hc
  · rw [dif_neg hc] at h; cases h
noncomputable def x_by {α : Type} (g : z_G) (μ : z_M) (a : Nat) (kk : Nat → (Nat → Int32) → Option α) : Option α := match μ.1 a with
  | some (.inl (1, n, .inl f)) => kk n f
  | some _ => none
  | none => x_b (x_cb g a) fun q => kk q.1 q.2
theorem x_byE {α : Type} {g : z_G} {μ : z_M} {a : Nat} {kk : Nat → (Nat → Int32) → Option α} {r : α} (h : x_by g μ a kk = some r) : ∃ n f, z_arr g μ a 1 n (fun j => .int (f j)) ∧ kk n f = some r := by
  unfold x_by at h
  split at h
  · rename_i n f e
    exact ⟨n, f, Or.inl ⟨_, e, rfl, rfl⟩, h⟩
  · exact absurd h (x_n r)
  · obtain ⟨q, h1, h2⟩ := x_bE h
    exact ⟨q.1, q.2, Or.inr (x_cbE h1), h2⟩
/-- constants' arrays of references -/
noncomputable def x_cr (g : z_G) (ty : FieldType) (a : Nat) : Option (Nat × (Nat → Option Nat)) := @dite _ (∃ q : Nat × (Nat → Option Nat), z_T g ty a q.1 (fun j => va_rf (q.2 j))) (Classical.propDecidable _) (fun h => some (Classical.choose h)) (fun _ => none)
theorem x_crE {g : z_G} {ty : FieldType} {a : Nat} {q : Nat × (Nat → Option Nat)} (h : x_cr g ty a = some q) : z_T g ty a q.1 (fun j => va_rf (q.2 j)) := by
  unfold x_cr at h
  by_cases hc : ∃ q : Nat × (Nat → Option Nat), z_T g ty a q.1 (fun j => va_rf (q.2 j))
  · rw [dif_pos hc] at h; cases h; exact Classical.choose_spec hc
  · rw [dif_neg hc] at h; cases h
/-- the length of an array: of kind t in the memory, or a constant of that kind -/
noncomputable def x_ln {α : Type} (g : z_G) (μ : z_M) (a t : Nat) (kk : Nat → Option α) : Option α := match μ.1 a with
  | some (.inl (t1, n, x)) => if t1 = t then kk n else none
  | some _ => none
  | none => @dite _ (∃ n f, z_T g (z_ty t) a n f) (Classical.propDecidable _) (fun h => kk (Classical.choose h)) (fun _ => none)
theorem x_cell (n : Nat) (x : (Nat → Int32) ⊕ (Nat → Int64) ⊕ (Nat → Int32) ⊕ (Nat → Int32) ⊕ (Nat → Option Nat)) : True := trivial
/-- statics -/
noncomputable def x_st (g : z_G) (C n ds : String) : Option Value := @dite _ (∃ v, z_Z g C n ds v) (Classical.propDecidable _) (fun h => some (Classical.choose h)) (fun _ => none)
theorem x_stE {g : z_G} {C n ds : String} {v : Value} (h : x_st g C n ds = some v) : z_Z g C n ds v := by
  unfold x_st at h
  by_cases hc : ∃ v, z_Z g C n ds v
  · rw [dif_pos hc] at h; cases h; exact Classical.choose_spec hc
  · rw [dif_neg hc] at h; cases h
/-- thrown or not -/
def x_b3 {α β : Type} (m : Option ((α ⊕ Nat) × z_M)) (k : α → z_M → Option β) (kx : Nat → z_M → Option β) : Option β := match m with
  | some (.inl a, μ) => k a μ
  | some (.inr q, μ) => kx q μ
  | none => none
theorem x_b3E {α β : Type} {m : Option ((α ⊕ Nat) × z_M)} {k : α → z_M → Option β} {kx : Nat → z_M → Option β} {r : β} (h : x_b3 m k kx = some r) : (∃ a μ, m = some (.inl a, μ) ∧ k a μ = some r) ∨ ∃ q μ, m = some (.inr q, μ) ∧ kx q μ = some r := by
  unfold x_b3 at h
  split at h
  · exact Or.inl ⟨_, _, rfl, h⟩
  · exact Or.inr ⟨_, _, rfl, h⟩
  · exact absurd h (x_n r)
def x_out {α : Type} (f : α → Option Value) : α ⊕ Nat → z_O
  | .inl a => .inl (f a)
  | .inr q => .inr q
abbrev x_vI (x : Int32) : Option Value := some (.int x)
abbrev x_vL (x : Int64) : Option Value := some (.long x)
abbrev x_vO (x : Option Nat) : Option Value := some (va_rf x)
abbrev x_vU (_ : Unit) : Option Value := none
theorem x_m0 {Q : z_O → z_M → Prop} {s s' : z_M} (h : some s = some s') (hQ : Q (.inl none) s') : Q (.inl none) s := by
  cases h; exact hQ
theorem x_m1i {Q : z_O → z_M → Prop} {μ : z_M} {a r : Int32} (h : some a = some r) (hQ : Q (.inl (some (.int r))) μ) : Q (.inl (some (.int a))) μ := by
  cases h; exact hQ
theorem x_m1l {Q : z_O → z_M → Prop} {μ : z_M} {a r : Int64} (h : some a = some r) (hQ : Q (.inl (some (.long r))) μ) : Q (.inl (some (.long a))) μ := by
  cases h; exact hQ
theorem x_m1o {Q : z_O → z_M → Prop} {μ : z_M} {a r : Option Nat} (h : some a = some r) (hQ : Q (.inl (some (va_rf r))) μ) : Q (.inl (some (va_rf a))) μ := by
  cases h; exact hQ
theorem x_m2i {Q : z_O → z_M → Prop} {a r : Int32} {s s' : z_M} (h : some (a, s) = some (r, s')) (hQ : Q (.inl (some (.int r))) s') : Q (.inl (some (.int a))) s := by
  cases h; exact hQ
theorem x_m2l {Q : z_O → z_M → Prop} {a r : Int64} {s s' : z_M} (h : some (a, s) = some (r, s')) (hQ : Q (.inl (some (.long r))) s') : Q (.inl (some (.long a))) s := by
  cases h; exact hQ
theorem x_m2o {Q : z_O → z_M → Prop} {a r : Option Nat} {s s' : z_M} (h : some (a, s) = some (r, s')) (hQ : Q (.inl (some (va_rf r))) s') : Q (.inl (some (va_rf a))) s := by
  cases h; exact hQ
theorem x_m3 {α : Type} {f : α → Option Value} {Q : z_O → z_M → Prop} {a : α} {o : α ⊕ Nat} {s s' : z_M} (h : some ((.inl a : α ⊕ Nat), s) = some (o, s')) (hQ : Q (x_out f o) s') : Q (.inl (f a)) s := by
  cases h; exact hQ
theorem x_m3x {α : Type} {f : α → Option Value} {Q : z_O → z_M → Prop} {q : Nat} {o : α ⊕ Nat} {s s' : z_M} (h : some ((.inr q : α ⊕ Nat), s) = some (o, s')) (hQ : Q (x_out f o) s') : Q (.inr q) s := by
  cases h; exact hQ
/-- casts -/
def x_is (g : z_G) (μ : z_M) (p : Nat) (nm : String) : Prop := z_isA g μ p nm ∨ ∃ C, Cond.castable C nm ∈ lw_tbl ∧ z_isA g μ p C
def x_ic (g : z_G) (μ : z_M) (o : Option Nat) (nm : String) : Prop := o = none ∨ ∃ p, o = some p ∧ x_is g μ p nm
def x_nis (g : z_G) (μ : z_M) (p : Nat) (nm : String) : Prop := ∃ C, va_Nc C nm g.2.1 ∧ z_isA g μ p C
/-- 1: it is one, 0: it is none -/
noncomputable def x_io {α : Type} (g : z_G) (μ : z_M) (p : Nat) (nm : String) (k : Int32 → Option α) : Option α := x_ip (z_isA g μ p nm) (k 1) (x_gp (x_nis g μ p nm) (k 0))
theorem x_ioE {α : Type} {g : z_G} {μ : z_M} {p : Nat} {nm : String} {k : Int32 → Option α} {r : α} (h : x_io g μ p nm k = some r) : ∃ x : Int32, (x = 1 ∧ z_isA g μ p nm ∨ x = 0 ∧ x_nis g μ p nm) ∧ k x = some r := by
  rcases x_ipE h with ⟨h1, h⟩ | ⟨h1, h⟩
  · exact ⟨1, Or.inl ⟨rfl, h1⟩, h⟩
  · obtain ⟨h2, h⟩ := x_gpE h
    exact ⟨0, Or.inr ⟨rfl, h2⟩, h⟩
/-- what may be put into an array of kind t -/
def x_sa (g : z_G) (μ : z_M) (t p : Nat) : Prop := ∃ C E, z_ty t = .object E ∧ z_isA g μ p C ∧ (C = E ∨ Cond.castable C E ∈ lw_tbl)
theorem x_nrf {o : Option Nat} {n : String} : narrow (.object n) (va_rf o) = va_rf o ∧ fits (.object n) (va_rf o) = true := by cases o <;> exact ⟨rfl, rfl⟩
theorem x_nra {o : Option Nat} {t : FieldType} : narrow (.array t) (va_rf o) = va_rf o ∧ fits (.array t) (va_rf o) = true := by cases o <;> exact ⟨rfl, rfl⟩
theorem x_fz {x : Int32} (h : x = 0 ∨ x = 1) : narrow .boolean (.int x) = .int x ∧ fits .boolean (.int x) = true := by
  rcases h with rfl | rfl <;> exact ⟨rfl, rfl⟩
section R17
variable {g : z_G} {d : Nat} {Y : z_Y} {Q : z_O → z_M → Prop} {μ μ1 : z_M} {pc index : Nat} {lc lc1 : List (Nat × Value)} {rest : List Value} {o : Option Nat} {i : Nat}
theorem zi_aload_nO {j : Fin 4} (n : Nat) (hd : decode Y.2.1 pc = .ok (.aload_n j, 1)) (hi : (j : Nat) = i) (hk : lc[n]? = some (i, va_rf o)) (k : z_V g d Y (pc + 1) lc (va_rf o :: rest) μ Q) : z_V g d Y pc lc rest μ Q := by
  cases o with
  | none => exact zi_aload_nN n hd hi hk k
  | some p => exact zi_aload_n n hd hi hk k
theorem zi_aloadO (n : Nat) (hd : decode Y.2.1 pc = .ok (.aload i, 2)) (hk : lc[n]? = some (i, va_rf o)) (k : z_V g d Y (pc + 2) lc (va_rf o :: rest) μ Q) : z_V g d Y pc lc rest μ Q := by
  cases o with
  | none => exact zi_aloadN n hd hk k
  | some p => exact zi_aload n hd hk k
theorem zi_astore_nO {j : Fin 4} (hd : decode Y.2.1 pc = .ok (.astore_n j, 1)) (hi : (j : Nat) = i) (hn : i < Y.2.2.1) (hl1 : z_st1 lc i (va_rf o) = lc1) (k : z_V g d Y (pc + 1) lc1 rest μ Q) : z_V g d Y pc lc (va_rf o :: rest) μ Q := by
  cases o with
  | none => exact zi_astore_nN hd hi hn hl1 k
  | some p => exact zi_astore_n hd hi hn hl1 k
theorem zi_astoreO (hd : decode Y.2.1 pc = .ok (.astore i, 2)) (hn : i < Y.2.2.1) (hl1 : z_st1 lc i (va_rf o) = lc1) (k : z_V g d Y (pc + 2) lc1 rest μ Q) : z_V g d Y pc lc (va_rf o :: rest) μ Q := by
  cases o with
  | none => exact zi_astoreN hd hn hl1 k
  | some p => exact zi_astore hd hn hl1 k
theorem zi_areturnO {rt : FieldType} (hr : Y.2.2.2.1 = some rt) (hrt : (∃ n, rt = .object n) ∨ ∃ t, rt = .array t) (hd : decode Y.2.1 pc = .ok (.areturn, 1)) (hQ : Q (.inl (some (va_rf o))) μ) : z_V g d Y pc lc [va_rf o] μ Q := by
  cases o with
  | none => exact zi_areturnN hr hrt hd hQ
  | some p => exact zi_areturn hr hrt hd hQ
theorem z_K.ofO {As : List Value} (hy : plainName Y.1.cls = true) (hh : Y.2.2.2.2 = []) (hL : (lg_sl As).length ≤ Y.2.2.1) (hl : lv_args 0 As = lc) (k : z_V g d Y 0 lc [] μ Q) : z_K g d Y As μ Q := by
  subst hl; exact z_K.of hy hh hL k
theorem z_K.ofHO {As : List Value} (hy : plainName Y.1.cls = true) (hh : Y.2.2.2.2 ≠ []) (hL : (lg_sl As).length ≤ Y.2.2.1) (hl : lv_args 0 As = lc) (k : z_V g d Y 0 lc [] μ Q) : z_K g d Y As μ Q := by
  subst hl; exact z_K.ofH hy hh hL k
theorem zi_putE {a ci k N : Nat} {fs : List Value} {C : String} {T : u_T} {v : Value} {ty : FieldType} (hm : μ.1 a = some (.inr (ci, fs))) (hc : vwCl[ci]? = some (C, T, N)) (hk : k < N) (hq : Cond.fieldLink Y.1.cls index (T k).1 (T k).2.1 (T k).2.2.1 ∈ lw_all) (hfin : (T k).2.2.2 = false ∨ (T k).2.2.2 = true ∧ Y.1.name = "<init>" ∧ (T k).1 = Y.1.cls) (hp : parseFieldDescriptor (T k).2.2.1 = some ty) (hn : narrow ty v = v ∧ fits ty v = true) (hlen : k < fs.length) (he : z_set μ a (.inr (ci, fs.set k v)) = μ1) (hd : decode Y.2.1 pc = .ok (.putfield index, 3)) (kk : z_V g d Y (pc + 3) lc rest μ1 Q) : z_V g d Y pc lc (v :: .ref a :: rest) μ Q := by
  subst he
  rcases hfin with h | ⟨h1, h2, h3⟩
  · exact zi_putf k hm hc hk hq h hp hn.1 hn.2 hlen hd kk
  · exact zi_putF k hm hc hk hq h1 h2 h3 hp hn.1 hn.2 hlen hd kk
theorem zi_putNE {a ci k N : Nat} {fs : List Value} {C host : String} {T : u_T} {v : Value} {ty : FieldType} (hm : μ.1 a = some (.inr (ci, fs))) (hc : vwCl[ci]? = some (C, T, N)) (hk : k < N) (hq : Cond.fieldLinkNest Y.1.cls index (T k).1 (T k).2.1 (T k).2.2.1 host ∈ lw_tbl) (hfin : (T k).2.2.2 = false) (hp : parseFieldDescriptor (T k).2.2.1 = some ty) (hn : narrow ty v = v ∧ fits ty v = true) (hlen : k < fs.length) (he : z_set μ a (.inr (ci, fs.set k v)) = μ1) (hd : decode Y.2.1 pc = .ok (.putfield index, 3)) (kk : z_V g d Y (pc + 3) lc rest μ1 Q) : z_V g d Y pc lc (v :: .ref a :: rest) μ Q := by
  subst he
  exact zi_putN k hm hc hk hq hfin hp hn.1 hn.2 hlen hd kk
/-- a field of what several classes extend -/
def x_hp (c k : Nat) (o n ds : String) (fin : Bool) (ty : FieldType) : Prop := ∃ (C : String) (T : u_T) (N : Nat), vwCl[c]? = some (C, T, N) ∧ k < N ∧ T k = (o, n, ds, fin) ∧ parseFieldDescriptor ds = some ty
theorem zi_putSE {a c k : Nat} {cs : List Nat} {fs : List Value} {o n ds : String} {fin : Bool} {v : Value} {ty : FieldType} (hcs : ∀ c ∈ cs, x_hp c k o n ds fin ty) (hc : c ∈ cs) (hm : μ.1 a = some (.inr (c, fs))) (hq : Cond.fieldLink Y.1.cls index o n ds ∈ lw_all) (hfin : fin = false ∨ fin = true ∧ Y.1.name = "<init>" ∧ o = Y.1.cls) (hn : narrow ty v = v ∧ fits ty v = true) (hlen : k < fs.length) (he : z_set μ a (.inr (c, fs.set k v)) = μ1) (hd : decode Y.2.1 pc = .ok (.putfield index, 3)) (kk : z_V g d Y (pc + 3) lc rest μ1 Q) : z_V g d Y pc lc (v :: .ref a :: rest) μ Q := by
  obtain ⟨C, T, N, q1, q2, q3, q4⟩ := hcs c hc
  refine zi_putE (T := T) (k := k) hm q1 q2 (by rw [q3]; exact hq) (by rw [q3]; exact hfin) (by rw [q3]; exact q4) hn hlen he hd kk
theorem zi_newE {ci N p : Nat} {C : String} {T : u_T} {fs : List Value} (ty : Nat → FieldType) (hty : ∀ k, k < N → parseFieldDescriptor (T k).2.2.1 = some (ty k)) (hl : (List.range N).map (fun k => defaultValue (ty k)) = fs) (hp : μ.2.1 = p) (he : z_new μ N (.inr (ci, fs)) = μ1) (hc : vwCl[ci]? = some (C, T, N)) (hq1 : Cond.classLink Y.1.cls index C ∈ lw_all) (hq2 : Cond.instantiable C N ∈ lw_all) (hq3 : Cond.initialized C ∈ lw_all) (hd : decode Y.2.1 pc = .ok (.new index, 3)) (kk : z_V g d Y (pc + 3) lc (.ref p :: rest) μ1 Q) : z_V g d Y pc lc rest μ Q := by
  subst hp; subst he; subst hl
  exact zi_new ty hty hc hq1 hq2 hq3 hd kk
theorem zi_newaE {atype : ArrayType} {t n p : Nat} {i : Int32} (x : vp_A) (hat : newarray.typeOf atype = z_ty t) (ht : t < 4) (hq : Cond.arrayClass (newarray.typeOf atype) ∈ lw_all) (hx : x.1 = n ∧ ∀ cA : ClassId, vp_cell cA x = arrV cA n (fun _ => defaultValue (z_ty t))) (hi : ¬ i < 0 ∧ i.toNatClampNeg = n) (hb : n ≤ 60000000) (hp : μ.2.1 = p) (he : z_new μ n (.inl (t, x)) = μ1) (hd : decode Y.2.1 pc = .ok (.newarray atype, 2)) (kk : z_V g d Y (pc + 2) lc (.ref p :: rest) μ1 Q) : z_V g d Y pc lc (.int i :: rest) μ Q := by
  subst hp; subst he
  exact zi_newa x hat ht hq hx hi hb hd kk
theorem zi_anewE {C : String} {t n p : Nat} {i : Int32} (hat : z_ty t = .object C) (ht : t < 7) (hq : Cond.classLink Y.1.cls index C ∈ lw_all) (hq2 : Cond.arrayOver (.object C) ∈ lw_tbl) (hi : ¬ i < 0 ∧ i.toNatClampNeg = n) (hb : n ≤ 60000000) (hp : μ.2.1 = p) (he : z_new μ n (.inl (t, z_nul n)) = μ1) (hd : decode Y.2.1 pc = .ok (.anewarray index, 3)) (kk : z_V g d Y (pc + 3) lc (.ref p :: rest) μ1 Q) : z_V g d Y pc lc (.int i :: rest) μ Q := by
  subst hp; subst he
  exact zi_anew hat ht hq hq2 hi hb hd kk
theorem zi_anewAE {n p : Nat} {i : Int32} (hq : Cond.classLink Y.1.cls index "[I" ∈ lw_all) (hq2 : Cond.arrayOver (.array .int) ∈ lw_tbl) (hi : ¬ i < 0 ∧ i.toNatClampNeg = n) (hb : n ≤ 60000000) (hp : μ.2.1 = p) (he : z_new μ n (.inl (6, z_nul n)) = μ1) (hd : decode Y.2.1 pc = .ok (.anewarray index, 3)) (kk : z_V g d Y (pc + 3) lc (.ref p :: rest) μ1 Q) : z_V g d Y pc lc (.int i :: rest) μ Q := by
  subst hp; subst he
  exact zi_anewA hq hq2 hi hb hd kk
theorem zi_castO {nm : String} (h : x_ic g μ o nm) (hq : Cond.classLink Y.1.cls index nm ∈ lw_all) (hd : decode Y.2.1 pc = .ok (.checkcast index, 3)) (kk : z_V g d Y (pc + 3) lc (va_rf o :: rest) μ Q) : z_V g d Y pc lc (va_rf o :: rest) μ Q := by
  rcases h with rfl | ⟨p, rfl, h | ⟨C, h1, h2⟩⟩
  · exact zi_castN hd kk
  · exact zi_cast hq h hd kk
  · exact zi_castY hq h1 h2 hd kk
theorem zi_instO {p : Nat} {x : Int32} {nm : String} (h : x = 1 ∧ z_isA g μ p nm ∨ x = 0 ∧ x_nis g μ p nm) (hq : Cond.classLink Y.1.cls index nm ∈ lw_all) (hd : decode Y.2.1 pc = .ok (.instanceof index, 3)) (kk : z_V g d Y (pc + 3) lc (.int x :: rest) μ Q) : z_V g d Y pc lc (.ref p :: rest) μ Q := by
  rcases h with ⟨rfl, h⟩ | ⟨rfl, C, h1, h2⟩
  · exact zi_inst hq h hd kk
  · exact zi_instNo hq (fun _ => h1) h2 hd kk
theorem zi_aastE {t v a n j : Nat} {i : Int32} {f : Nat → Option Nat} (hs : x_sa g μ t v) (hm : μ.1 a = some (.inl (t, n, .inr (.inr (.inr (.inr f)))))) (ht : t < 7) (hi : z_ix i j n) (he : z_set μ a (.inl (t, n, .inr (.inr (.inr (.inr (fun k => if k = j then some v else f k)))))) = μ1) (hd : decode Y.2.1 pc = .ok (.aastore, 1)) (kk : z_V g d Y (pc + 1) lc rest μ1 Q) : z_V g d Y pc lc (.ref v :: .int i :: .ref a :: rest) μ Q := by
  subst he
  obtain ⟨C, E, h1, h2, h3⟩ := hs
  exact zi_aast j hm ht h1 hi h2 h3 hd kk
theorem zi_aastNE {t a n j : Nat} {E : String} {i : Int32} {f : Nat → Option Nat} (hty : z_ty t = .object E) (hm : μ.1 a = some (.inl (t, n, .inr (.inr (.inr (.inr f)))))) (ht : t < 7) (hi : z_ix i j n) (he : z_set μ a (.inl (t, n, .inr (.inr (.inr (.inr (fun k => if k = j then none else f k)))))) = μ1) (hd : decode Y.2.1 pc = .ok (.aastore, 1)) (kk : z_V g d Y (pc + 1) lc rest μ1 Q) : z_V g d Y pc lc (.null :: .int i :: .ref a :: rest) μ Q := by
  subst he
  exact zi_aastN j hm ht hty hi hd kk
theorem zi_aastAE {v a n j : Nat} {x : vp_A} {i : Int32} {f : Nat → Option Nat} (hv : μ.1 v = some (.inl (0, x))) (hm : μ.1 a = some (.inl (6, n, .inr (.inr (.inr (.inr f)))))) (hi : z_ix i j n) (he : z_set μ a (.inl (6, n, .inr (.inr (.inr (.inr (fun k => if k = j then some v else f k)))))) = μ1) (hd : decode Y.2.1 pc = .ok (.aastore, 1)) (kk : z_V g d Y (pc + 1) lc rest μ1 Q) : z_V g d Y pc lc (.ref v :: .int i :: .ref a :: rest) μ Q := by
  subst he
  exact zi_aastA j hm hi hv hd kk
theorem zi_iastE {a n j : Nat} {f : Nat → Int32} {i x : Int32} (hm : μ.1 a = some (.inl (0, n, .inl f))) (hi : z_ix i j n) (he : z_set μ a (.inl (0, n, .inl (fun k => if k = j then x else f k))) = μ1) (hd : decode Y.2.1 pc = .ok (.iastore, 1)) (kk : z_V g d Y (pc + 1) lc rest μ1 Q) : z_V g d Y pc lc (.int x :: .int i :: .ref a :: rest) μ Q := by
  subst he
  exact zi_iast j hm hi hd kk
theorem zi_bastE {a n j : Nat} {f : Nat → Int32} {i x y : Int32} (hy : narrow .byte (.int x) = .int y) (hm : μ.1 a = some (.inl (1, n, .inl f))) (hi : z_ix i j n) (he : z_set μ a (.inl (1, n, .inl (fun k => if k = j then y else f k))) = μ1) (hd : decode Y.2.1 pc = .ok (.bastore, 1)) (kk : z_V g d Y (pc + 1) lc rest μ1 Q) : z_V g d Y pc lc (.int x :: .int i :: .ref a :: rest) μ Q := by
  subst he
  exact zi_bast j hm hi hy hd kk
theorem zi_zastE {a n j : Nat} {f : Nat → Int32} {i x y : Int32} (hy : narrow .boolean (.int x) = .int y) (hm : μ.1 a = some (.inl (2, n, .inl f))) (hi : z_ix i j n) (he : z_set μ a (.inl (2, n, .inl (fun k => if k = j then y else f k))) = μ1) (hd : decode Y.2.1 pc = .ok (.bastore, 1)) (kk : z_V g d Y (pc + 1) lc rest μ1 Q) : z_V g d Y pc lc (.int x :: .int i :: .ref a :: rest) μ Q := by
  subst he
  exact zi_zast j hm hi hy hd kk
/-- an element is written: the array's cell after it -/
def x_ia (μ : z_M) (a t n j : Nat) (f : Nat → Int32) (x : Int32) : z_M := z_set μ a (.inl (t, n, .inl (fun k => if k = j then x else f k)))
def x_ra (μ : z_M) (a t n j : Nat) (f : Nat → Option Nat) (x : Option Nat) : z_M := z_set μ a (.inl (t, n, .inr (.inr (.inr (.inr (fun k => if k = j then x else f k))))))
end R17
