/-! THE COMPONENT's LAW, 6: strings -/
set_option maxRecDepth 100000
set_option linter.unusedVariables false
theorem x_gaT {α : Type} {j n : Nat} {k : Nat → Option α} (h : j < n) (hj : j < 2 ^ 31) : x_ga (nI j) n k = k j := by
  unfold x_ga
  rw [if_pos ⟨nI_pos hj, by rw [nI_clamp hj]; exact h⟩, nI_clamp hj]
theorem x_viS {α : Type} {x : Int32} {kk : Int32 → Option α} : x_vi (.int x) kk = kk x := rfl
theorem x_ioT {α : Type} {g : z_G} {μ : z_M} {p : Nat} {nm : String} {k : Int32 → Option α} (h : z_isA g μ p nm) : x_io g μ p nm k = k 1 := by
  unfold x_io; exact x_ipT h
theorem x_icI {g : z_G} {μ : z_M} {p : Nat} {nm : String} (h : z_isA g μ p nm) : x_ic g μ (some p) nm := Or.inr ⟨p, rfl, Or.inl h⟩
/-- a string of the letters ls; its cells never change -/
def h_st (g : z_G) (o : Nat → Nat) (μ : z_M) (p : Nat) (ls : List Nat) : Prop :=
  (ls.length ≤ 100 ∧ ∀ c ∈ ls, c < 128) ∧
  ((∃ (b : Nat) (f : Nat → Int32) (v2 v3 : Value), o p = 0 ∧ o b = 0 ∧ μ.1 p = some (.inr (23, [.ref b, .int 0, v2, v3])) ∧ μ.1 b = some (.inl (1, ls.length, .inl f)) ∧ ∀ i, i < ls.length → f i = nI (ls.getD i 0)) ∨
   (va_O "java/lang/String" p (z_A g) g.2.1 g.2.1.heap ∧ z_OF g "java/lang/String" "coder" "B" (.int 0) p ∧ ∃ b, z_OF g "java/lang/String" "value" "[B" (.ref b) p ∧ z_T g .byte b ls.length (fun j => .int (nI (ls.getD j 0)))))
section T93
variable {g : z_G} {o o1 : Nat → Nat} {μ μ1 : z_M} {p q : Nat} {ls ms : List Nat} {S : Nat → Prop}
theorem h_st.fr (h : h_st g o μ p ls) (hf : h_fr g S o μ o1 μ1) (hw : h_wf g μ) (hS : ∀ a, o a = 0 → ¬ S a) : h_st g o1 μ1 p ls := by
  obtain ⟨h0, ⟨b, f, v2, v3, h1, h2, h3, h4, h5⟩ | h⟩ := h
  · exact ⟨h0, Or.inl ⟨b, f, v2, v3, (hf.2.1 p (hw.lt h3)).trans h1, (hf.2.1 b (hw.lt h4)).trans h2, hf.cell hw h3 (hS p h1), hf.cell hw h4 (hS b h2), h5⟩⟩
  · exact ⟨h0, Or.inr h⟩
theorem z_OF_lt {C n ds : String} {v : Value} {a : Nat} (h : z_OF g C n ds v a) : a < z_b g := by
  obtain ⟨cf, kf, fi, f, cell, h1, h2, h3, h4, h5, h6⟩ := h
  exact Nat.lt_of_not_le h6
theorem h_st.acc (h : h_st g o μ p ls) (hw : h_wf g μ) : z_isA g μ p "java/lang/String" ∧ ∃ b, (∀ (α : Type) (kk : Option Nat → Option α), x_fr g μ p [23] 0 "java/lang/String" "value" "[B" kk = kk (some b)) ∧ (∀ (α : Type) (kk : Int32 → Option α), x_fi g μ p [23] 1 "java/lang/String" "coder" "B" kk = kk 0) ∧ (∃ N, nI N = nI ls.length ∧ ∀ (α : Type) (kk : Nat → Option α), x_ln g μ b 1 kk = kk N) ∧
    ∃ N f, ls.length ≤ N ∧ (∀ i, i < ls.length → f i = nI (ls.getD i 0)) ∧ ∀ (α : Type) (kk : Nat → (Nat → Int32) → Option α), x_by g μ b kk = kk N f := by
  obtain ⟨⟨hb, h0⟩, ⟨b, f, v2, v3, h1, h2, h3, h4, h5⟩ | ⟨h1, h2, b, h3, h4⟩⟩ := h
  · refine ⟨Or.inl ⟨23, _, TJ6, 4, h3, rfl⟩, b, fun α kk => ?_, fun α kk => ?_, ⟨ls.length, rfl, fun α kk => x_lnS rfl h4⟩, ls.length, f, Nat.le_refl _, h5, fun α kk => x_byS h4⟩
    · unfold x_fr x_ff; rw [h3]; rfl
    · unfold x_fi x_ff; rw [h3]; rfl
  · have hp : μ.1 p = none := hw.2 p (Or.inr (z_OF_lt h2))
    have hbn : μ.1 b = none := hw.2 b (Or.inr (z_T_lt h4))
    have hx : ∃ n f, z_T g (z_ty 1) b n f := ⟨_, _, h4⟩
    have hx2 : ∃ q : Nat × (Nat → Int32), z_T g .byte b q.1 (fun j => .int (q.2 j)) := ⟨(_, fun j => nI (ls.getD j 0)), h4⟩
    obtain ⟨f', hf'⟩ := Classical.choose_spec hx
    have q1 := z_T_un h4 hf' (by omega)
    have q2 := z_T_un h4 (Classical.choose_spec hx2) (by omega)
    refine ⟨Or.inr (Or.inr h1), b, fun α kk => ?_, fun α kk => ?_, ⟨Classical.choose hx, q1.2.1, fun α kk => ?_⟩, (Classical.choose hx2).1, (Classical.choose hx2).2, q2.1, fun i hi => Value.int.inj (q2.2.2 i hi), fun α kk => ?_⟩
    · unfold x_fr x_ff; rw [hp]; show x_b (x_cf g _ _ _ p) _ = _; rw [x_cfS h3]; rfl
    · unfold x_fi x_ff; rw [hp]; show x_b (x_cf g _ _ _ p) _ = _; rw [x_cfS h2]; rfl
    · unfold x_ln; rw [hbn]; exact dif_pos hx
    · have e : x_cb g b = some (Classical.choose hx2) := by unfold x_cb; exact dif_pos hx2
      unfold x_by; rw [hbn]; show x_b (x_cb g b) _ = _; rw [e]; rfl
theorem h_st.isA (h : h_st g o μ p ls) (hw : h_wf g μ) : z_isA g μ p "java/lang/String" := (h.acc hw).1
theorem z_cs_cmp (hok : z_ok g) : z_Z g "java/lang/String" "COMPACT_STRINGS" "Z" (.int 1) := by
  obtain ⟨-, -, -, -, -, -, -, -, -, -, h, -⟩ := hok.2.2.1
  exact h
theorem h_st.coder (h : h_st g o μ p ls) (hw : h_wf g μ) (hok : z_ok g) : D_J6_coder g p μ = some 0 := by
  obtain ⟨-, b, h1, h2, -⟩ := h.acc hw
  unfold D_J6_coder
  rw [x_stS (z_cs_cmp hok), x_bS]
  rw [x_viS, if_neg (by decide), h2]
  rfl
theorem h_st.latin (h : h_st g o μ p ls) (hw : h_wf g μ) (hok : z_ok g) : D_J6_isLatin1 g p μ = some 1 := by
  obtain ⟨-, b, h1, h2, -⟩ := h.acc hw
  unfold D_J6_isLatin1
  rw [x_stS (z_cs_cmp hok), x_bS]
  rw [x_viS, if_neg (by decide), h2]
  rfl
theorem h_st.len (h : h_st g o μ p ls) (hw : h_wf g μ) (hok : z_ok g) : D_J6_length g p μ = some (nI ls.length) := by
  obtain ⟨h0, b, h1, h2, ⟨N, e, h3⟩, -⟩ := h.acc hw
  unfold D_J6_length
  rw [h1, x_oS, h3, x_gpI h0, h.coder hw hok, x_bS, e]
  show some (nI ls.length >>> ((0 : Int32) &&& 31)) = _
  rw [sc_shr0 (by have := h.1.1; omega)]
theorem nI_bytes {x y : Nat} (hx : x < 128) (hy : y < 128) : nI x = nI y ↔ x = y := nI_eq (by omega) (by omega)
theorem h_getD_eq {xs ys : List Nat} (hl : xs.length = ys.length) (h : ∀ i, i < xs.length → xs.getD i 0 = ys.getD i 0) : xs = ys := by
  refine List.ext_getElem hl (fun i h1 h2 => ?_)
  have := h i h1
  rw [List.getD_eq_getElem?_getD, List.getD_eq_getElem?_getD, List.getElem?_eq_getElem h1, List.getElem?_eq_getElem h2] at this
  exact this
theorem h_getD_lt {xs : List Nat} (h : ∀ c ∈ xs, c < 128) (i : Nat) : xs.getD i 0 < 128 := by
  rw [List.getD_eq_getElem?_getD]
  cases e : xs[i]? with
  | none => decide
  | some c => exact h c (List.mem_of_getElem? e)
theorem h_st.un (h : h_st g o μ p ls) (h' : h_st g o μ p ms) (hw : h_wf g μ) (hok : z_ok g) : ls = ms := by
  have e1 := h.len hw hok
  rw [h'.len hw hok] at e1
  have e2 : ms.length = ls.length := (nI_eq (by have := h'.1.1; omega) (by have := h.1.1; omega)).mp (Option.some.inj e1)
  obtain ⟨-, b, h1, -, -, N, f, h2, h3, h4⟩ := h.acc hw
  obtain ⟨-, b', h1', -, -, N', f', h2', h3', h4'⟩ := h'.acc hw
  have hb : some (some b) = some (some b') := (h1 _ (fun o => some o)).symm.trans (h1' _ (fun o => some o))
  cases hb
  have hf : some f = some f' := (h4 _ (fun _ f => some f)).symm.trans (h4' _ (fun _ f => some f))
  cases hf
  refine h_getD_eq e2.symm (fun i hi => (nI_bytes (h_getD_lt h.1.2 i) (h_getD_lt h'.1.2 i)).mp ?_)
  rw [← h3 i hi, ← h3' i (by omega)]
/-- the bytes of two strings are gone through -/
theorem h_st.equals (h : h_st g o μ p ls) (h' : h_st g o μ q ms) (hw : h_wf g μ) (hok : z_ok g) : D_J6_equals g p (some q) μ = some (if ls = ms then 1 else 0) := by
  unfold D_J6_equals
  by_cases epq : p = q
  · subst epq
    rw [if_pos rfl, if_pos (h.un h' hw hok)]
  rw [if_neg (fun e => epq (Option.some.inj e)), x_oS]
  obtain ⟨a0, b, a1, a2, ⟨N, a3, a4⟩, N2, f, a5, a6, a7⟩ := h.acc hw
  obtain ⟨b0, c, b1, b2, ⟨M, b3, b4⟩, M2, f', b5, b6, b7⟩ := h'.acc hw
  have hl1 := h.1.1
  have hl2 := h'.1.1
  rw [x_ioT b0, if_neg (by decide), x_gpI (x_icI b0), x_stS (z_cs_cmp hok), x_bS]
  rw [x_viS, x_lS, if_neg (by decide), a2, b2, if_pos rfl, a1, b1]
  have key : D_J11_equals g (some b) (some c) μ = some (if ls = ms then 1 else 0) := by
    unfold D_J11_equals
    rw [x_oS, a4, x_oS, b4, a3, b3]
    by_cases e : ls.length = ms.length
    · rw [if_pos (by rw [e])]
      have hloop := x_find (L := fun fu k => D_J11_equals_9 g b c μ (some (1 : Int32)) fu (nI k)) (K := some (1 : Int32)) (R := fun _ => some (0 : Int32)) (p := fun k => decide (ls.getD k 0 ≠ ms.getD k 0)) (n := ls.length)
        (fun fu => by
          show D_J11_equals_9 g b c μ _ (fu + 1) _ = _
          unfold D_J11_equals_9
          rw [a4, a3]
          exact if_pos (nI_le (Nat.le_refl _) (by omega)))
        (fun fu k hk => by
          show D_J11_equals_9 g b c μ _ (fu + 1) _ = _
          conv => lhs; unfold D_J11_equals_9
          rw [a4, a3, if_neg (nI_ge hk (by omega)), a7, x_gaT (by omega) (by omega), b7, x_gaT (by omega) (by omega), a6 k hk, b6 k (by omega), x_lS, nI_1]
          by_cases e2 : ls.getD k 0 = ms.getD k 0
          · rw [if_pos (by rw [e2]), if_neg (fun q => absurd e2 (of_decide_eq_true q))]
          · rw [if_neg (fun q => e2 ((nI_bytes (h_getD_lt h.1.2 k) (h_getD_lt h'.1.2 k)).mp q)), if_pos (decide_eq_true e2)])
        x_F 0 (Nat.zero_le _) (by show ls.length - 0 < 10000; omega)
      have hloop' : D_J11_equals_9 g b c μ (some (1 : Int32)) x_F 0 = _ := hloop
      rw [hloop', Nat.sub_zero]
      cases e3 : s_find (fun k => decide (ls.getD k 0 ≠ ms.getD k 0)) 0 ls.length with
      | none =>
        have h9 := s_find_none e3
        rw [if_pos (h_getD_eq e (fun i hi => by
          exact Decidable.not_not.mp (of_decide_eq_false (h9 i (Nat.zero_le _) (by omega)))))]
      | some j =>
        have h9 := (s_find_some e3).2.2.1
        rw [if_neg (fun q => by rw [q] at h9; exact absurd rfl (of_decide_eq_true h9))]
    · rw [if_neg (fun q => e ((nI_eq (by omega) (by omega)).mp q)), if_neg (fun q => e (by rw [q]))]
  rw [key, x_bS]
  by_cases e : ls = ms
  · rw [if_pos e, if_neg (by decide)]
  · rw [if_neg e, if_pos rfl]
end T93
