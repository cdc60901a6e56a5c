/-! THE COMPONENT's LAW, 1: the steps of the decompiled code over a memory that is known -/
set_option maxRecDepth 100000
set_option linter.unusedVariables false
section T93
variable {α β : Type} {g : z_G} {μ : z_M} {a ci k : Nat} {fs : List Value}
theorem x_oS {p : Nat} {kk : Nat → Option α} : x_o (some p) kk = kk p := rfl
theorem x_nuS {p : Nat} {m : Option α} {kk : Nat → Option α} : x_nu (some p) m kk = kk p := rfl
theorem x_nuN {m : Option α} {kk : Nat → Option α} : x_nu none m kk = m := rfl
theorem x_obS {kk : List Value → Option α} (h : μ.1 a = some (.inr (ci, fs))) : x_ob μ a ci kk = kk fs := by
  unfold x_ob; rw [h]; exact if_pos rfl
theorem x_osS {c : Nat} {cs : List Nat} {kk : Nat → List Value → Option α} (h : μ.1 a = some (.inr (c, fs))) (hc : c ∈ cs) : x_os μ a cs kk = kk c fs := by
  unfold x_os; rw [h]; exact if_pos hc
theorem x_fvS {v : Value} {kk : Value → Option α} (h : fs[k]? = some v) : x_fv fs k kk = kk v := by
  unfold x_fv; rw [h]
theorem x_giS {x : Int32} {kk : Int32 → Option α} (h : μ.1 a = some (.inr (ci, fs))) (hk : fs[k]? = some (.int x)) : x_gi μ a ci k kk = kk x := by
  unfold x_gi; rw [x_obS h, x_fvS hk]; rfl
theorem x_glS {x : Int64} {kk : Int64 → Option α} (h : μ.1 a = some (.inr (ci, fs))) (hk : fs[k]? = some (.long x)) : x_gl μ a ci k kk = kk x := by
  unfold x_gl; rw [x_obS h, x_fvS hk]; rfl
theorem x_vrO {o : Option Nat} {kk : Option Nat → Option α} : x_vr (va_rf o) kk = kk o := by cases o <;> rfl
theorem x_grS {o : Option Nat} {kk : Option Nat → Option α} (h : μ.1 a = some (.inr (ci, fs))) (hk : fs[k]? = some (va_rf o)) : x_gr μ a ci k kk = kk o := by
  unfold x_gr; rw [x_obS h, x_fvS hk]; exact x_vrO
theorem x_grR {p : Nat} {kk : Option Nat → Option α} (h : μ.1 a = some (.inr (ci, fs))) (hk : fs[k]? = some (.ref p)) : x_gr μ a ci k kk = kk (some p) := x_grS (o := some p) h hk
theorem x_pfS {v : Value} {kk : z_M → Option α} (h : μ.1 a = some (.inr (ci, fs))) (hk : k < fs.length) : x_pf μ a ci k v kk = kk (z_set μ a (.inr (ci, fs.set k v))) := by
  unfold x_pf; rw [x_obS h]; exact if_pos hk
theorem x_psS {c : Nat} {cs : List Nat} {v : Value} {kk : z_M → Option α} (h : μ.1 a = some (.inr (c, fs))) (hc : c ∈ cs) (hk : k < fs.length) : x_ps μ a cs k v kk = kk (z_set μ a (.inr (c, fs.set k v))) := by
  unfold x_ps; rw [x_osS h hc]; exact if_pos hk
theorem x_naS {n : Nat} {kk : Nat → Option α} (h : n ≤ 60000000) : x_na (nI n) kk = kk n := by
  unfold x_na x_g
  rw [if_pos ⟨nI_pos (by omega), by rw [nI_clamp (by omega)]; exact h⟩, nI_clamp (by omega)]
theorem x_arS {t n : Nat} {f : Nat → Int32} {kk : Nat → (Nat → Int32) → Option α} (h : μ.1 a = some (.inl (t, n, .inl f))) : x_ar μ a t kk = kk n f := by
  unfold x_ar; rw [h]; exact if_pos rfl
theorem x_alS {n : Nat} {f : Nat → Int64} {kk : Nat → (Nat → Int64) → Option α} (h : μ.1 a = some (.inl (3, n, .inr (.inl f)))) : x_al μ a kk = kk n f := by
  unfold x_al; rw [h]; exact if_pos rfl
theorem x_aaS {t n : Nat} {f : Nat → Option Nat} {kk : Nat → (Nat → Option Nat) → Option α} (h : μ.1 a = some (.inl (t, n, .inr (.inr (.inr (.inr f)))))) : x_aa μ a t kk = kk n f := by
  unfold x_aa; rw [h]; exact if_pos rfl
theorem x_lnS {t n : Nat} {x : vp_A} {kk : Nat → Option α} (hn : x.1 = n) (h : μ.1 a = some (.inl (t, x))) : x_ln g μ a t kk = kk n := by
  subst hn; unfold x_ln; rw [h]; exact if_pos rfl
theorem x_byS {n : Nat} {f : Nat → Int32} {kk : Nat → (Nat → Int32) → Option α} (h : μ.1 a = some (.inl (1, n, .inl f))) : x_by g μ a kk = kk n f := by
  unfold x_by; rw [h]; rfl
theorem x_csS {m m' : Option α} (h : μ.1 a = some (.inr (ci, fs))) : x_cs μ a ci m m' = m := by
  unfold x_cs; rw [h]; exact if_pos rfl
theorem x_csN {c : Nat} {m m' : Option α} (h : μ.1 a = some (.inr (c, fs))) (hc : c ≠ ci) : x_cs μ a ci m m' = m' := by
  unfold x_cs; rw [h]; exact if_neg hc
theorem x_b3L {γ : Type} {v : γ} {μ1 : z_M} {kk : γ → z_M → Option β} {kx : Nat → z_M → Option β} : x_b3 (some (.inl v, μ1)) kk kx = kk v μ1 := rfl
theorem x_b3R {γ : Type} {q : Nat} {μ1 : z_M} {kk : γ → z_M → Option β} {kx : Nat → z_M → Option β} : x_b3 (some (.inr q, μ1)) kk kx = kx q μ1 := rfl
theorem x_nwS {n : Nat} {x : z_C} {kk : Nat → z_M → Option α} : x_nw μ n x kk = kk μ.2.1 (z_new μ n x) := rfl
theorem nI_inj {x y : Nat} (hx : x < 2 ^ 31) (hy : y < 2 ^ 31) : nI x = nI y ↔ x = y := ⟨fun h => by
  have h1 := congrArg Int32.toInt h
  rw [nI_toInt hx, nI_toInt hy] at h1
  omega, fun h => by rw [h]⟩
/-- constants -/
theorem z_Z_un {C n ds : String} {v v' : Value} (h : z_Z g C n ds v) (h' : z_Z g C n ds v') : v = v' := by
  obtain ⟨cf, kf, fi, f, a, cell, h1, h2, h3, h4, h5, h6, h7, h8⟩ := h
  obtain ⟨cf', kf', fi', f', a', cell', h1', h2', h3', h4', h5', h6', h7', h8'⟩ := h'
  cases h1.symm.trans h1'
  cases h4.symm.trans h4'
  cases h5.symm.trans h5'
  exact Option.some.inj (h7.symm.trans h7')
theorem z_OF_un {o n ds : String} {v v' : Value} {p : Nat} (h : z_OF g o n ds v p) (h' : z_OF g o n ds v' p) : v = v' := by
  obtain ⟨cf, kf, fi, f, cell, h1, h2, h3, h4, h5, h6⟩ := h
  obtain ⟨cf', kf', fi', f', cell', h1', h2', h3', h4', h5', h6'⟩ := h'
  cases h1.symm.trans h1'
  cases h3.symm.trans h3'
  exact Option.some.inj (h5.symm.trans h5')
theorem z_T_un {ty : FieldType} {p N N' : Nat} {f f' : Nat → Value} (h : z_T g ty p N f) (h' : z_T g ty p N' f') (hN : N < 2 ^ 32) : N ≤ N' ∧ nI N' = nI N ∧ ∀ j, j < N → f' j = f j := by
  obtain ⟨cell, h1, h2, h3, h4, h5, h6, h7⟩ := h
  obtain ⟨cell', h1', h2', h3', h4', h5', h6', h7'⟩ := h'
  cases h1.symm.trans h1'
  have e : Int32.ofNat N' = Int32.ofNat N := h5'.symm.trans h5
  have e2 : N' % 2 ^ 32 = N % 2 ^ 32 := by
    have e3 := congrArg (fun x => x.toUInt32.toNat) e
    simpa using e3
  have hle : N ≤ N' := by
    rw [Nat.mod_eq_of_lt hN] at e2
    have := Nat.mod_le N' (2 ^ 32)
    omega
  refine ⟨hle, e, fun j hj => ?_⟩
  exact Option.some.inj ((h6' j (by omega)).symm.trans (h6 j hj))
theorem x_stS {C n ds : String} {v : Value} (h : z_Z g C n ds v) : x_st g C n ds = some v := by
  have hx : ∃ v, z_Z g C n ds v := ⟨v, h⟩
  unfold x_st
  rw [dif_pos hx, z_Z_un (Classical.choose_spec hx) h]
theorem x_cfS {o n ds : String} {v : Value} {p : Nat} (h : z_OF g o n ds v p) : x_cf g o n ds p = some v := by
  have hx : ∃ v, z_OF g o n ds v p := ⟨v, h⟩
  unfold x_cf
  rw [dif_pos hx, z_OF_un (Classical.choose_spec hx) h]
theorem x_lnC {t N : Nat} {f : Nat → Value} {kk : Nat → Option α} (hm : μ.1 a = none) (h : z_T g (z_ty t) a N f) (hN : N < 2 ^ 32) : ∃ N', nI N' = nI N ∧ N ≤ N' ∧ x_ln g μ a t kk = kk N' := by
  have hx : ∃ n f, z_T g (z_ty t) a n f := ⟨N, f, h⟩
  obtain ⟨f', hf'⟩ := Classical.choose_spec hx
  have q := z_T_un h hf' hN
  refine ⟨Classical.choose hx, q.2.1, q.1, ?_⟩
  unfold x_ln
  rw [hm]
  exact dif_pos hx
theorem x_byC {N : Nat} {f : Nat → Int32} {kk : Nat → (Nat → Int32) → Option α} (hm : μ.1 a = none) (h : z_T g .byte a N (fun j => .int (f j))) (hN : N < 2 ^ 32) : ∃ N' f', nI N' = nI N ∧ N ≤ N' ∧ (∀ j, j < N → f' j = f j) ∧ x_by g μ a kk = kk N' f' := by
  have hx : ∃ q : Nat × (Nat → Int32), z_T g .byte a q.1 (fun j => .int (q.2 j)) := ⟨(N, f), h⟩
  have q := z_T_un h (Classical.choose_spec hx) hN
  refine ⟨(Classical.choose hx).1, (Classical.choose hx).2, q.2.1, q.1, fun j hj => ?_, ?_⟩
  · have := q.2.2 j hj
    exact Value.int.inj this
  · unfold x_by x_cb
    rw [hm, dif_pos hx]
    rfl
theorem x_crC {ty : FieldType} {N : Nat} {f : Nat → Option Nat} (h : z_T g ty a N (fun j => va_rf (f j))) (hN : N < 2 ^ 32) : ∃ N' f', nI N' = nI N ∧ N ≤ N' ∧ (∀ j, j < N → f' j = f j) ∧ x_cr g ty a = some (N', f') := by
  have hx : ∃ q : Nat × (Nat → Option Nat), z_T g ty a q.1 (fun j => va_rf (q.2 j)) := ⟨(N, f), h⟩
  have q := z_T_un h (Classical.choose_spec hx) hN
  refine ⟨(Classical.choose hx).1, (Classical.choose hx).2, q.2.1, q.1, fun j hj => ?_, ?_⟩
  · have := q.2.2 j hj
    revert this
    cases (Classical.choose hx).2 j <;> cases f j <;> intro this <;> first | rfl | (cases this; done) | (cases this; rfl)
  · unfold x_cr
    rw [dif_pos hx]
end T93
/-- the memory holds nothing below the run's own cells, nor ahead of them -/
def h_wf (g : z_G) (μ : z_M) : Prop := z_b g ≤ μ.2.1 ∧ ∀ a, (μ.2.1 ≤ a ∨ a < z_b g) → μ.1 a = none
/-- what a step changes: cells of S alone; kinds stay; tags (o) stay -/
def h_fr (g : z_G) (S : Nat → Prop) (o : Nat → Nat) (μ : z_M) (o' : Nat → Nat) (μ' : z_M) : Prop :=
  μ.2.1 ≤ μ'.2.1 ∧ (∀ a, a < μ.2.1 → o' a = o a) ∧ (∀ a, a < μ.2.1 → ¬ S a → μ'.1 a = μ.1 a) ∧ (∀ a C, z_isA g μ a C → z_isA g μ' a C) ∧ h_wf g μ'
/-- what is made and paid: five for a cell, one for a slot -/
def h_u (μ : z_M) : Nat := 5 * μ.2.1 + μ.2.2
section T93b
variable {g : z_G} {S S1 S2 : Nat → Prop} {o o1 o2 : Nat → Nat} {μ μ1 μ2 : z_M} {a : Nat}
theorem h_wf.lt {c : z_C} (h : h_wf g μ) (hm : μ.1 a = some c) : a < μ.2.1 := by
  by_cases h1 : a < μ.2.1
  · exact h1
  · rw [h.2 a (Or.inl (by omega))] at hm; cases hm
theorem h_wf.ge {c : z_C} (h : h_wf g μ) (hm : μ.1 a = some c) : z_b g ≤ a := by
  by_cases h1 : a < z_b g
  · rw [h.2 a (Or.inr h1)] at hm; cases hm
  · omega
theorem h_wf.ne {c : z_C} (h : h_wf g μ) (hm : μ.1 a = some c) : a ≠ μ.2.1 := by
  have := h.lt hm
  omega
theorem h_fr.refl (h : h_wf g μ) : h_fr g S o μ o μ := ⟨Nat.le_refl _, fun _ _ => rfl, fun _ _ _ => rfl, fun _ _ h => h, h⟩
theorem h_fr.trans (h1 : h_fr g S1 o μ o1 μ1) (h2 : h_fr g S2 o1 μ1 o2 μ2) (h : ∀ a, a < μ.2.1 → S1 a ∨ S2 a → S a) : h_fr g S o μ o2 μ2 := by
  obtain ⟨a1, b1, c1, d1, e1⟩ := h1
  obtain ⟨a2, b2, c2, d2, e2⟩ := h2
  refine ⟨Nat.le_trans a1 a2, fun a ha => (b2 a (Nat.lt_of_lt_of_le ha a1)).trans (b1 a ha), fun a ha hS => (c2 a (Nat.lt_of_lt_of_le ha a1) (fun q => hS (h a ha (Or.inr q)))).trans (c1 a ha (fun q => hS (h a ha (Or.inl q)))), fun a C q => d2 a C (d1 a C q), e2⟩
theorem h_fr.mono (h1 : h_fr g S1 o μ o1 μ1) (h : ∀ a, a < μ.2.1 → S1 a → S a) : h_fr g S o μ o1 μ1 :=
  ⟨h1.1, h1.2.1, fun a ha hS => h1.2.2.1 a ha (fun q => hS (h a ha q)), h1.2.2.2⟩
theorem h_isA_set {ci p : Nat} {fs fs' : List Value} (hm : μ.1 a = some (.inr (ci, fs))) : ∀ b C, z_isA g μ b C → z_isA g (z_set μ a (.inr (ci, fs'))) b C := by
  intro b C h
  rcases h with ⟨c, gs, T, N, h1, h2⟩ | ⟨t, x, h1, h2, h3⟩ | h
  · by_cases e : b = a
    · subst e
      rw [hm] at h1
      cases h1
      exact Or.inl ⟨_, _, T, N, z_set_self, h2⟩
    · exact Or.inl ⟨c, gs, T, N, (z_set_ne e).trans h1, h2⟩
  · by_cases e : b = a
    · subst e
      rw [hm] at h1
      cases h1
    · exact Or.inr (Or.inl ⟨t, x, (z_set_ne e).trans h1, h2, h3⟩)
  · exact Or.inr (Or.inr h)
theorem h_isA_arr {t : Nat} {x x' : vp_A} (hm : μ.1 a = some (.inl (t, x))) : ∀ b C, z_isA g μ b C → z_isA g (z_set μ a (.inl (t, x'))) b C := by
  intro b C h
  rcases h with ⟨c, gs, T, N, h1, h2⟩ | ⟨t', y, h1, h2, h3⟩ | h
  · by_cases e : b = a
    · subst e
      rw [hm] at h1
      cases h1
    · exact Or.inl ⟨c, gs, T, N, (z_set_ne e).trans h1, h2⟩
  · by_cases e : b = a
    · subst e
      rw [hm] at h1
      cases h1
      exact Or.inr (Or.inl ⟨_, _, z_set_self, h2, h3⟩)
    · exact Or.inr (Or.inl ⟨t', y, (z_set_ne e).trans h1, h2, h3⟩)
  · exact Or.inr (Or.inr h)
theorem h_wf.set {x y : z_C} (h : h_wf g μ) (hm : μ.1 a = some y) : h_wf g (z_set μ a x) := by
  refine ⟨h.1, fun b hb => ?_⟩
  have hb' : μ.1 b = none := h.2 b hb
  have e : b ≠ a := fun q => by rw [q, hm] at hb'; cases hb'
  rw [z_set_ne e]
  exact hb'
theorem h_fr.setF {ci : Nat} {fs fs' : List Value} (h : h_wf g μ) (hm : μ.1 a = some (.inr (ci, fs))) : h_fr g (fun b => b = a) o μ o (z_set μ a (.inr (ci, fs'))) :=
  ⟨Nat.le_refl _, fun _ _ => rfl, fun b hb hS => z_set_ne hS, h_isA_set (p := 0) hm, h.set hm⟩
theorem h_fr.setA {t : Nat} {x x' : vp_A} (h : h_wf g μ) (hm : μ.1 a = some (.inl (t, x))) : h_fr g (fun b => b = a) o μ o (z_set μ a (.inl (t, x'))) :=
  ⟨Nat.le_refl _, fun _ _ => rfl, fun b hb hS => z_set_ne hS, h_isA_arr hm, h.set hm⟩
theorem h_wf.new {x : z_C} {n : Nat} (h : h_wf g μ) : h_wf g (z_new μ n x) := by
  refine ⟨by show z_b g ≤ μ.2.1 + 1; have := h.1; omega, fun b hb => ?_⟩
  have h1 := h.1
  have e : b ≠ μ.2.1 := by
    rcases hb with hb | hb
    · have hb' : μ.2.1 + 1 ≤ b := hb
      omega
    · omega
  rw [z_new_ne e]
  refine h.2 b ?_
  rcases hb with hb | hb
  · have hb' : μ.2.1 + 1 ≤ b := hb
    exact Or.inl (by omega)
  · exact Or.inr hb
theorem h_isA_new {x : z_C} {n : Nat} (h : h_wf g μ) : ∀ b C, z_isA g μ b C → z_isA g (z_new μ n x) b C := by
  intro b C q
  rcases q with ⟨c, gs, T, N, h1, h2⟩ | ⟨t', y, h1, h2, h3⟩ | q
  · exact Or.inl ⟨c, gs, T, N, (z_new_ne (h.ne h1)).trans h1, h2⟩
  · exact Or.inr (Or.inl ⟨t', y, (z_new_ne (h.ne h1)).trans h1, h2, h3⟩)
  · exact Or.inr (Or.inr q)
theorem h_fr.new {x : z_C} {n t : Nat} (h : h_wf g μ) : h_fr g (fun _ => False) o μ (fun b => if b = μ.2.1 then t else o b) (z_new μ n x) :=
  ⟨by show μ.2.1 ≤ μ.2.1 + 1; omega, fun b hb => if_neg (by omega), fun b hb _ => z_new_ne (by omega), h_isA_new h, h.new⟩
theorem h_fr.wf (h : h_fr g S o μ o1 μ1) : h_wf g μ1 := h.2.2.2.2
theorem h_fr.cell {c : z_C} (h : h_fr g S o μ o1 μ1) (hw : h_wf g μ) (hm : μ.1 a = some c) (hS : ¬ S a) : μ1.1 a = some c := (h.2.2.1 a (hw.lt hm) hS).trans hm
theorem h_fr.sa (h : h_fr g S o μ o1 μ1) {t p : Nat} (hs : x_sa g μ t p) : x_sa g μ1 t p := by
  obtain ⟨C, E, h1, h2, h3⟩ := hs
  exact ⟨C, E, h1, h.2.2.2.1 _ _ h2, h3⟩
theorem h_u_set {x : z_C} : h_u (z_set μ a x) = h_u μ := rfl
theorem h_u_new {x : z_C} {n : Nat} : h_u (z_new μ n x) = h_u μ + 5 + n := by
  show 5 * (μ.2.1 + 1) + (μ.2.2 + n) = 5 * μ.2.1 + μ.2.2 + 5 + n
  omega
end T93b
