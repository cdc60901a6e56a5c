/-! THE COMPONENT's LAW, 7: beginnings, letters, parts of strings; small Integers -/
set_option maxRecDepth 100000
set_option linter.unusedVariables false
theorem nI_subT {a b : Nat} (ha : a < 2 ^ 31) (hb : b < 2 ^ 31) : (nI a - nI b).toInt = (a : Int) - b := by
  rw [Int32.toInt_sub, nI_toInt ha, nI_toInt hb]
  exact Int.bmod_eq_of_le (by omega) (by omega)
theorem nI_sub0 {a b : Nat} (ha : a < 2 ^ 31) (hb : b < 2 ^ 31) : (0 : Int32) ≤ nI a - nI b ↔ b ≤ a := by
  rw [Int32.le_iff_toInt_le, nI_subT ha hb, show (0 : Int32).toInt = 0 from by decide]
  omega
theorem h_chr : ∀ c, c < 128 → (((nI c &&& (255 : Int32)).toUInt32 % 65536).toInt32 = nI c ∧ ((nI c).toUInt32 % 65536).toInt32 = nI c ∧ (nI c).toInt8.toInt32 = nI c) := by decide +kernel
theorem x_vrS {α : Type} {p : Nat} {kk : Option Nat → Option α} : x_vr (.ref p) kk = kk (some p) := rfl
/-- a string that the run made -/
def h_sm (o : Nat → Nat) (μ : z_M) (p : Nat) (ls : List Nat) : Prop :=
  (ls.length ≤ 100 ∧ ∀ c ∈ ls, c < 128) ∧ ∃ (b : Nat) (f : Nat → Int32) (v2 v3 : Value), o p = 0 ∧ o b = 0 ∧ μ.1 p = some (.inr (23, [.ref b, .int 0, v2, v3])) ∧ μ.1 b = some (.inl (1, ls.length, .inl f)) ∧ ∀ i, i < ls.length → f i = nI (ls.getD i 0)
section T93
variable {g : z_G} {o o1 : Nat → Nat} {μ μ1 : z_M} {p q : Nat} {ls ms : List Nat} {S : Nat → Prop}
theorem h_sm.st (h : h_sm o μ p ls) : h_st g o μ p ls := ⟨h.1, Or.inl h.2⟩
theorem h_sm.fr (h : h_sm o μ p ls) (hf : h_fr g S o μ o1 μ1) (hw : h_wf g μ) (hS : ∀ a, o a = 0 → ¬ S a) : h_sm o1 μ1 p ls := by
  obtain ⟨h0, b, f, v2, v3, h1, h2, h3, h4, h5⟩ := h
  exact ⟨h0, b, f, v2, v3, (hf.2.1 p (hw.lt h3)).trans h1, (hf.2.1 b (hw.lt h4)).trans h2, hf.cell hw h3 (hS p h1), hf.cell hw h4 (hS b h2), h5⟩
theorem h_take_iff {xs ys : List Nat} (hl : ys.length ≤ xs.length) : xs.take ys.length = ys ↔ ∀ i, i < ys.length → xs.getD i 0 = ys.getD i 0 := by
  constructor
  · intro h i hi
    have : (xs.take ys.length).getD i 0 = ys.getD i 0 := by rw [h]
    rw [List.getD_eq_getElem?_getD, List.getElem?_take_of_lt hi, ← List.getD_eq_getElem?_getD] at this
    exact this
  · intro h
    refine h_getD_eq (by rw [List.length_take]; omega) (fun i hi => ?_)
    rw [List.length_take] at hi
    rw [List.getD_eq_getElem?_getD, List.getElem?_take_of_lt (by omega), ← List.getD_eq_getElem?_getD]
    exact h i (by omega)
theorem h_st.startsWith (h : h_st g o μ p ls) (h' : h_st g o μ q ms) (hw : h_wf g μ) (hok : z_ok g) (hm : ms.length ≤ 7) : D_J6_startsWith g p (some q) μ = some (if ls.take ms.length = ms then 1 else 0) := by
  have hl1 := h.1.1
  obtain ⟨a0, b, a1, a2, ⟨N, a3, a4⟩, N2, f, a5, a6, a7⟩ := h.acc hw
  obtain ⟨b0, c, b1, b2, ⟨M, b3, b4⟩, M2, f', b5, b6, b7⟩ := h'.acc hw
  have key : D_J6_startsWith_2 g p (some q) 0 μ = some (if ls.take ms.length = ms then 1 else 0) := by
    unfold D_J6_startsWith_2
    rw [if_neg (by decide), x_gpI a0, h.len hw hok, x_bS, x_oS, x_gpI b0, h'.len hw hok, x_bS]
    by_cases e : ms.length ≤ ls.length
    · rw [if_pos ((nI_sub0 (by omega) (by omega)).mpr e), a1, b1, x_oS, b4, x_lS, x_gpI a0, h.coder hw hok, x_bS, x_gpI b0, h'.coder hw hok, x_bS, if_pos rfl, x_lS, if_neg (by decide), b3]
      have hloop := x_find (L := fun fu k => D_J8_mismatch_70 g (some b) (0 : Int32) (some c) (0 : Int32) (nI ms.length) μ (some (-1 : Int32)) fu (nI k)) (K := some (-1 : Int32)) (R := fun k => some (nI k)) (p := fun k => decide (ls.getD k 0 ≠ ms.getD k 0)) (n := ms.length)
        (fun fu => by
          show D_J8_mismatch_70 g _ _ _ _ _ μ _ (fu + 1) _ = _
          unfold D_J8_mismatch_70
          exact if_pos (nI_le (Nat.le_refl _) (by omega)))
        (fun fu k hk => by
          show D_J8_mismatch_70 g _ _ _ _ _ μ _ (fu + 1) _ = _
          conv => lhs; unfold D_J8_mismatch_70
          rw [if_neg (nI_ge hk (by omega)), x_oS, a7, Int32.zero_add, x_gaT (by omega) (by omega), x_oS, b7, x_gaT (by omega) (by omega), a6 k (by omega), b6 k hk, x_lS, nI_1]
          by_cases e2 : ls.getD k 0 = ms.getD k 0
          · rw [if_pos (by rw [e2]), if_neg (fun q => absurd e2 (of_decide_eq_true q))]
          · rw [if_neg (fun q => e2 ((nI_bytes (h_getD_lt h.1.2 k) (h_getD_lt h'.1.2 k)).mp q)), if_pos (decide_eq_true e2)])
        x_F 0 (Nat.zero_le _) (by show ms.length - 0 < 10000; omega)
      have hloop' : D_J8_mismatch_70 g (some b) (0 : Int32) (some c) (0 : Int32) (nI ms.length) μ (some (-1 : Int32)) x_F 0 = _ := hloop
      have e7 : nI ms.length ≤ (7 : Int32) := nI_le (b := 7) hm (by omega)
      have hmm : D_J8_mismatch g (some b) (0 : Int32) (some c) (0 : Int32) (nI ms.length) μ = _ := (if_pos e7).trans hloop'
      show x_b (D_J8_mismatch g (some b) (0 : Int32) (some c) (0 : Int32) (nI ms.length) μ) _ = _
      rw [hmm, Nat.sub_zero]
      cases e3 : s_find (fun k => decide (ls.getD k 0 ≠ ms.getD k 0)) 0 ms.length with
      | none =>
        have h9 := s_find_none e3
        rw [if_pos ((h_take_iff e).mpr (fun i hi => Decidable.not_not.mp (of_decide_eq_false (h9 i (Nat.zero_le _) (by omega))))), x_bS, if_neg (by decide)]
      | some j =>
        have h9 := s_find_some e3
        rw [if_neg (fun q => absurd ((h_take_iff e).mp q j (by omega)) (of_decide_eq_true h9.2.2.1)), x_bS, if_pos (nI_pos' (by omega))]
    · rw [if_neg (fun q => e ((nI_sub0 (by omega) (by omega)).mp q)), if_neg (fun q => e (by
        have := congrArg List.length q
        rw [List.length_take] at this
        omega))]
  unfold D_J6_startsWith
  rw [x_gpI a0, key, x_bS, x_gS]
  by_cases e : ls.take ms.length = ms
  · rw [if_pos e]; exact Or.inr rfl
  · rw [if_neg e]; exact Or.inl rfl
theorem z_cs_sio (hok : z_ok g) : ∃ o, x_st g "jdk/internal/util/Preconditions" "SIOOBE_FORMATTER" "Ljava/util/function/BiFunction;" = some (va_rf o) := by
  obtain ⟨-, -, -, -, -, -, -, -, -, -, -, -, ⟨-, -, h⟩, -⟩ := hok.2.2.1
  rcases h with h | ⟨t, h⟩
  · exact ⟨none, x_stS h⟩
  · exact ⟨some t, x_stS h⟩
theorem h_st.charAt {i : Nat} (h : h_st g o μ p ls) (hw : h_wf g μ) (hok : z_ok g) (hi : i < ls.length) : D_J6_charAt g p (nI i) μ = some (nI (ls.getD i 0)) := by
  have hl1 := h.1.1
  obtain ⟨a0, b, a1, a2, ⟨N, a3, a4⟩, N2, f, a5, a6, a7⟩ := h.acc hw
  obtain ⟨so, hso⟩ := z_cs_sio hok
  have hc := h_chr _ (h_getD_lt h.1.2 i)
  have key : D_J11_charAt g (some b) (nI i) μ = some (nI (ls.getD i 0)) := by
    unfold D_J11_charAt D_J6_checkIndex D_J12_checkIndex
    rw [x_oS, a4, hso, x_bS, x_vrO, if_neg (nI_pos (by omega)), a3, if_pos (nI_lt hi (by omega)), x_bS, x_bS, a7, x_gaT (by omega) (by omega), a6 i hi, hc.1, x_gS hc.2.1]
  unfold D_J6_charAt
  rw [x_gpI a0, h.latin hw hok, x_bS, if_neg (by decide), a1, key, x_bS, x_gS hc.2.1]
/-- bytes are copied -/
theorem x_acB {s d c l1 l2 : Nat} {f f2 : Nat → Int32} {a b : Nat} (ha : μ.1 a = some (.inl (1, l1, .inl f))) (hb : μ.1 b = some (.inl (1, l2, .inl f2))) (h1 : s + c ≤ l1) (h2 : d + c ≤ l2) (hl : l1 < 2 ^ 31 ∧ l2 < 2 ^ 31) (hs : ∀ i, i < c → (f (s + i)).toInt8.toInt32 = f (s + i)) :
    x_ac g μ (some a) (nI s) (some b) (nI d) (nI c) = some (z_set μ b (.inl (1, l2, .inl (va_cpy f f2 s d c)))) := by
  unfold x_ac
  rw [x_oS, x_oS, ha, hb]
  show x_gp _ _ = _
  have e1 : (nI s).toNatClampNeg = s := nI_clamp (by omega)
  have e2 : (nI d).toNatClampNeg = d := nI_clamp (by omega)
  have e3 : (nI c).toNatClampNeg = c := nI_clamp (by omega)
  rw [e1, e2, e3]
  refine x_gpI ⟨rfl, by decide, ⟨nI_pos (by omega), nI_pos (by omega), nI_pos (by omega), ?_, ?_⟩, fun _ => hs⟩
  · rw [e1, e3]; exact h1
  · rw [e2, e3]; exact h2
/-- a part of bytes, from their beginning -/
theorem h_cpr {a n k : Nat} {f : Nat → Int32} (hw : h_wf g μ) (ha : μ.1 a = some (.inl (1, n, .inl f))) (hk : k ≤ n) (hn : n ≤ 1000) (hs : ∀ i, i < k → (f i).toInt8.toInt32 = f i) :
    ∃ f', D_J10_copyOfRange g (some a) 0 (nI k) μ = some (some μ.2.1, z_set (z_new μ k (.inl (1, k, .inl (fun _ => 0)))) μ.2.1 (.inl (1, k, .inl f'))) ∧ ∀ i, i < k → f' i = f i := by
  have a1 : (z_new μ k (.inl (1, k, .inl (fun _ => 0)))).1 a = some (.inl (1, n, .inl f)) := (z_new_ne (hw.ne ha)).trans ha
  have hB : D_J10_copyOfRangeByte g (some a) 0 (nI k) μ = some (some μ.2.1, z_set (z_new μ k (.inl (1, k, .inl (fun _ => 0)))) μ.2.1 (.inl (1, k, .inl (va_cpy f (fun _ => 0) 0 0 k)))) := by
    unfold D_J10_copyOfRangeByte D_J10_checkLength
    rw [if_pos (nI_pos' (by omega)), x_bS, x_lS, Int32.sub_zero, x_naS (by omega), x_nwS, x_oS, x_lnS rfl a1, Int32.sub_zero, x_mnN (by omega) (by omega), show min n k = k from by omega]
    have this : x_ac g (z_new μ k (.inl (1, k, .inl (fun _ => 0)))) (some a) 0 (some μ.2.1) 0 (nI k) = some (z_set (z_new μ k (.inl (1, k, .inl (fun _ => 0)))) μ.2.1 (.inl (1, k, .inl (va_cpy f (fun _ => 0) 0 0 k)))) := x_acB (g := g) (s := 0) (d := 0) (c := k) (l2 := k) (f2 := fun _ => 0) (b := μ.2.1) a1 z_new_self (by omega) (by omega) (by omega) (fun i hi => by rw [Nat.zero_add]; exact hs i hi)
    rw [this, x_bS]
  unfold D_J10_copyOfRange
  rw [x_lS, if_pos rfl, x_oS, x_lnS rfl ha]
  by_cases e : k = n
  · subst e
    rw [if_pos rfl]
    refine ⟨f, ?_, fun _ _ => rfl⟩
    have e1 : z_set (z_new μ k (.inl (1, k, .inl (fun _ => 0)))) μ.2.1 (.inl (1, k, .inl f)) = z_new μ k (.inl (1, k, .inl f)) := by
      unfold z_set z_new
      refine Prod.ext (funext fun b => ?_) rfl
      by_cases e : b = μ.2.1
      · show (if b = μ.2.1 then _ else _) = (if b = μ.2.1 then _ else _)
        rw [if_pos e, if_pos e]
      · show (if b = μ.2.1 then _ else (if b = μ.2.1 then _ else _)) = (if b = μ.2.1 then _ else _)
        rw [if_neg e, if_neg e, if_neg e]
    have hA : z_isA g (z_new μ k (.inl (1, k, .inl f))) μ.2.1 "[B" := Or.inr (Or.inl ⟨1, _, z_new_self, by decide, rfl⟩)
    unfold x_cln
    rw [x_arS ha, x_gpI (fun _ => hs), x_b2S, x_gpI (x_icI hA), e1]
  · rw [if_neg (fun q => e ((nI_eq (by omega) (by omega)).mp q)), hB, x_b2S]
    refine ⟨_, rfl, fun i hi => ?_⟩
    unfold va_cpy
    rw [if_pos ⟨Nat.zero_le _, by omega⟩, Nat.zero_add, Nat.sub_zero]
/-- small Integers -/
theorem z_cs_int (hok : z_ok g) : vb_C (fun k => z_ad g (100 + k)) (z_A g) g.2.1 g.2.1.heap ∧ z_Z g "java/lang/Integer$IntegerCache" "cache" "[Ljava/lang/Integer;" (.ref (z_ad g 56)) ∧ z_T g (.object "java/lang/Integer") (z_ad g 56) 256 (fun j => .ref (z_ad g (100 + j))) ∧ z_Z g "java/lang/Integer$IntegerCache" "high" "I" (.int 127) := by
  obtain ⟨-, -, -, -, -, -, -, -, -, -, -, h, -⟩ := hok.2.2.1
  exact h
/-- the Integer of k -/
def h_in (g : z_G) (k : Nat) : Nat := z_ad g (100 + (k + 128))
theorem h_valueOf {k : Nat} (hok : z_ok g) (hk : k < 128) : D_J19_valueOf g (nI k) μ = some (some (h_in g k), μ) := by
  obtain ⟨-, h1, h2, h3⟩ := z_cs_int hok
  obtain ⟨N, f, e1, e2, e3, e4⟩ := x_crC (a := z_ad g 56) (f := fun j => some (z_ad g (100 + j))) h2 (by decide)
  have e127 : ¬ (127 : Int32) < nI k := nI_nlt (b := k) (a := 127) (by omega) (by omega)
  unfold D_J19_valueOf
  rw [x_lS, if_neg (by
    rw [Int32.lt_iff_toInt_lt, nI_toInt (by omega), show (-128 : Int32).toInt = -128 from by decide]
    omega), x_stS h3, x_bS, x_viS, if_neg e127, x_stS h1, x_bS]
  have e128 : nI k + (128 : Int32) = nI (k + 128) := nI_add k 128
  rw [x_vrS, x_oS, e4, x_bS, e128, x_gaT (by omega) (by omega), x_lS]
  show some (f (k + 128), μ) = _
  rw [e3 _ (by omega)]
  rfl
theorem h_in_isA (hok : z_ok g) {k : Nat} (hk : k < 128) : z_isA g μ (h_in g k) "java/lang/Integer" := Or.inr (Or.inr ((z_cs_int hok).1.1 (k + 128) (by omega)))
end T93
