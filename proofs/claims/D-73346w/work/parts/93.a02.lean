/-! THE COMPONENT's LAW, 2: lists -/
set_option maxRecDepth 100000
set_option linter.unusedVariables false
abbrev h_rf (n : Nat) (f : Nat → Option Nat) : z_C := .inl (4, n, .inr (.inr (.inr (.inr f))))
abbrev h_lc (m : Int32) (a k : Nat) : z_C := .inr (3, [.int m, .ref a, .int (nI k)])
/-- a list at l: its cells have the tag t, room for n, it holds xs -/
def h_ls (g : z_G) (o : Nat → Nat) (μ : z_M) (t l n : Nat) (xs : List Nat) : Prop :=
  o l = t ∧ xs.length ≤ n ∧ n ≤ 100000 ∧ (∀ x ∈ xs, x_sa g μ 4 x) ∧ ∃ (m : Int32) (arr : Nat), μ.1 l = some (h_lc m arr xs.length) ∧ ((n = 0 ∧ arr = z_ad g 55) ∨ (0 < n ∧ o arr = t ∧ ∃ f, μ.1 arr = some (h_rf n f) ∧ ∀ i, i < n → f i = xs[i]?))
theorem h_ck {i k : Nat} (h : i < k) (hk : k < 2 ^ 31) : D_J15_checkIndex (nI i) (nI k) = some (nI i) := by
  unfold D_J15_checkIndex D_J12_checkIndex
  rw [if_neg (nI_pos (by omega)), if_pos (nI_lt h hk)]; rfl
theorem h_half {n : Nat} (h : n < 2 ^ 31) : nI n >>> ((1 : Int32) &&& 31) = nI (n / 2) := pk_shrN h _ 1 (by decide)
theorem x_raZ {μ : z_M} {a n j : Nat} {f : Nat → Option Nat} {v : Option Nat} : x_ra μ a 4 n j f v = z_set μ a (h_rf n (fun k => if k = j then v else f k)) := rfl
section T93
variable {g : z_G} {o o1 : Nat → Nat} {μ μ1 : z_M} {t l n x : Nat} {xs : List Nat} {S : Nat → Prop}
theorem z_cs55 (hok : z_ok g) : z_Z g "java/util/ArrayList" "DEFAULTCAPACITY_EMPTY_ELEMENTDATA" "[Ljava/lang/Object;" (.ref (z_ad g 55)) ∧ z_T g (.object "java/lang/Object") (z_ad g 55) 0 (fun _ => .null) := by
  obtain ⟨-, -, -, -, -, -, -, -, h, -⟩ := hok.2.2.1
  exact h
theorem z_T_lt {ty : FieldType} {a N : Nat} {f : Nat → Value} (h : z_T g ty a N f) : a < z_b g := by
  obtain ⟨cell, h1, h2, h3, h4, h5, h6, h7⟩ := h
  exact Nat.lt_of_not_le h7
theorem h_55 (hok : z_ok g) (hw : h_wf g μ) : μ.1 (z_ad g 55) = none := hw.2 _ (Or.inr (z_T_lt (z_cs55 hok).2))
/-- a list stands when the cells of its tag stand -/
theorem h_ls.fr (hL : h_ls g o μ t l n xs) (h : h_fr g S o μ o1 μ1) (hw : h_wf g μ) (hS : ∀ a, o a = t → ¬ S a) : h_ls g o1 μ1 t l n xs := by
  obtain ⟨h1, h2, h3, h4, m, arr, h5, h6⟩ := hL
  refine ⟨(h.2.1 l (hw.lt h5)).trans h1, h2, h3, fun x hx => h.sa (h4 x hx), m, arr, h.cell hw h5 (hS l h1), ?_⟩
  rcases h6 with h6 | ⟨h6, h7, f, h8, h9⟩
  · exact Or.inl h6
  · exact Or.inr ⟨h6, (h.2.1 arr (hw.lt h8)).trans h7, f, h.cell hw h8 (hS arr h7), h9⟩
theorem h_ls.size (hL : h_ls g o μ t l n xs) : D_J2_size g l μ = some (nI xs.length) := by
  obtain ⟨h1, h2, h3, h4, m, arr, h5, h6⟩ := hL
  unfold D_J2_size
  rw [x_giS h5 rfl]
theorem h_ls.ob {α : Type} {kk : List Value → Option α} (hL : h_ls g o μ t l n xs) : ∃ fs, x_ob μ l 3 kk = kk fs := by
  obtain ⟨h1, h2, h3, h4, m, arr, h5, h6⟩ := hL
  exact ⟨_, x_obS h5⟩
theorem h_ls.obK {α : Type} {m : Option α} (hL : h_ls g o μ t l n xs) : x_ob μ l 3 (fun _ => m) = m := by
  obtain ⟨h1, h2, h3, h4, m, arr, h5, h6⟩ := hL
  exact x_obS h5
theorem h_ls.isEmpty (hL : h_ls g o μ t l n xs) : D_J2_isEmpty g l μ = some (if xs = [] then 1 else 0) := by
  obtain ⟨h1, h2, h3, h4, m, arr, h5, h6⟩ := hL
  unfold D_J2_isEmpty
  rw [x_giS h5 rfl]
  cases xs with
  | nil => exact if_pos nI_0
  | cons y ys => exact (if_neg (nI_ne0 (Nat.succ_pos _) (by simp at h2 ⊢; omega)))
/-- the array of a list that holds something -/
theorem h_ls.arr {i : Nat} (hL : h_ls g o μ t l n xs) (hi : xs[i]? = some x) : ∃ m arr f, μ.1 l = some (h_lc m arr xs.length) ∧ μ.1 arr = some (h_rf n f) ∧ o arr = t ∧ i < n ∧ f i = some x ∧ i < xs.length ∧ ∀ i, i < n → f i = xs[i]? := by
  obtain ⟨h1, h2, h3, h4, m, arr, h5, h6⟩ := hL
  have hlt := (List.getElem?_eq_some_iff.mp hi).1
  rcases h6 with ⟨h6, h7⟩ | ⟨h6, h7, f, h8, h9⟩
  · omega
  · exact ⟨m, arr, f, h5, h8, h7, by omega, (h9 i (by omega)).trans hi, hlt, h9⟩
theorem h_ls.get {i : Nat} (hL : h_ls g o μ t l n xs) (hi : xs[i]? = some x) : D_J2_get g l (nI i) μ = some (some x) := by
  obtain ⟨m, arr, f, h5, h8, h7, hn, hf, hlt, -⟩ := hL.arr hi
  have hb : n ≤ 100000 := hL.2.2.1
  unfold D_J2_get D_J2_elementData
  rw [x_giS h5 rfl, h_ck hlt (by have := hL.2.1; omega), x_bS, x_obS h5, x_grR h5 rfl, x_oS, x_aaS h8, x_gaS hn (by omega), x_lS, x_bS, hf]
theorem h_ls.set {i y : Nat} (hL : h_ls g o μ t l n xs) (hw : h_wf g μ) (hi : xs[i]? = some y) (hx : x_sa g μ 4 x) : ∃ μ1, D_J2_set g l (nI i) (some x) μ = some (some y, μ1) ∧ h_ls g o μ1 t l n (xs.set i x) ∧ h_fr g (fun a => o a = t) o μ o μ1 ∧ μ1.2 = μ.2 := by
  obtain ⟨m, arr, f, h5, h8, h7, hn, hf, hlt, hall⟩ := hL.arr hi
  have hb : n ≤ 100000 := hL.2.2.1
  have hne : l ≠ arr := fun q => by rw [q, h8] at h5; cases h5
  have hfr : h_fr g (fun a => o a = t) o μ o (x_ra μ arr 4 n i f (some x)) := (h_fr.setA (o := o) hw h8).mono (fun a _ q => by rw [q]; exact h7)
  refine ⟨x_ra μ arr 4 n i f (some x), ?_, ⟨hL.1, by rw [List.length_set]; exact hL.2.1, hb, fun z hz => ?_, m, arr, ?_, Or.inr ⟨by omega, h7, _, z_set_self, fun j hj => ?_⟩⟩, hfr, rfl⟩
  · unfold D_J2_set D_J2_elementData
    rw [x_giS h5 rfl, h_ck hlt (by have := hL.2.1; omega), x_bS, x_obS h5, x_grR h5 rfl, x_oS, x_aaS h8, x_gaS hn (by omega), x_lS, x_bS, x_grR h5 rfl, x_oS, x_oS, x_aaS h8, x_gaS hn (by omega), x_gpI hx, x_lS, hf]
  · rcases List.mem_or_eq_of_mem_set hz with hz | hz
    · exact hfr.sa (hL.2.2.2.1 z hz)
    · rw [hz]; exact hfr.sa hx
  · rw [List.length_set]; exact (z_set_ne hne).trans h5
  · show (if j = i then some x else f j) = _
    rw [List.getElem?_set]
    by_cases e : j = i
    · subst e
      rw [if_pos rfl, if_pos rfl, if_pos hlt]
    · rw [if_neg e, if_neg (fun q => e q.symm), hall j hj]
/-- the last step of add -/
theorem h_addJ {m : Int32} {arr k : Nat} {f : Nat → Option Nat} (hl : μ.1 l = some (h_lc m arr k)) (ha : μ.1 arr = some (h_rf n f)) (hk : k < n) (hn : n ≤ 200000) (hx : x_sa g μ 4 x) {β : Type} (kk : z_M → Option β) :
    (x_o (some arr) fun p7 => x_o (some x) fun p13 => x_aa μ p7 4 fun n8 f9 => x_ga (nI k) n8 fun j11 => x_gp (x_sa g μ 4 p13) <| x_l (x_ra μ p7 4 n8 j11 f9 (some p13)) fun μ12 => x_pf μ12 l 3 2 (.int (nI k + (1 : Int32))) kk)
      = kk (z_set (z_set μ arr (h_rf n (fun j => if j = k then some x else f j))) l (h_lc m arr (k + 1))) := by
  have hne : l ≠ arr := fun q => by rw [q, ha] at hl; cases hl
  rw [x_oS, x_oS, x_aaS ha, x_gaS hk (by omega), x_gpI hx, x_lS, x_raZ]
  rw [x_pfS (ci := 3) (fs := [.int m, .ref arr, .int (nI k)]) ((z_set_ne hne).trans hl) (Nat.le_of_ble_eq_true rfl)]
  rw [nI_1]
  rfl
theorem h_addR {m : Int32} {arr : Nat} {f : Nat → Option Nat} (hw : h_wf g μ) (ho : o l = t) (hoa : o arr = t) (hl : μ.1 l = some (h_lc m arr xs.length)) (ha : μ.1 arr = some (h_rf n f)) (hk : xs.length < n) (hn : n ≤ 100000) (hsa : ∀ y ∈ xs, x_sa g μ 4 y) (hx : x_sa g μ 4 x) (hf : ∀ i, i < n → f i = xs[i]?) :
    h_ls g o (z_set (z_set μ arr (h_rf n (fun j => if j = xs.length then some x else f j))) l (h_lc m arr (xs.length + 1))) t l n (xs ++ [x]) ∧ h_fr g (fun a => a = l ∨ a = arr) o μ o (z_set (z_set μ arr (h_rf n (fun j => if j = xs.length then some x else f j))) l (h_lc m arr (xs.length + 1))) := by
  have hne : l ≠ arr := fun q => by rw [q, ha] at hl; cases hl
  have f1 := h_fr.setA (o := o) (x' := (n, .inr (.inr (.inr (.inr (fun j => if j = xs.length then some x else f j)))))) hw ha
  have f2 := h_fr.setF (o := o) (fs' := [.int m, .ref arr, .int (nI (xs.length + 1))]) f1.wf ((z_set_ne hne).trans hl)
  have f3 : h_fr g (fun a => a = l ∨ a = arr) o μ o (z_set (z_set μ arr (h_rf n (fun j => if j = xs.length then some x else f j))) l (h_lc m arr (xs.length + 1))) := f1.trans f2 (fun a _ q => q.symm)
  refine ⟨⟨ho, by rw [List.length_append]; exact hk, hn, fun y hy => ?_, m, arr, ?_, Or.inr ⟨by omega, hoa, _, (z_set_ne (Ne.symm hne)).trans z_set_self, fun i hi => ?_⟩⟩, f3⟩
  · rcases List.mem_append.mp hy with hy | hy
    · exact f3.sa (hsa y hy)
    · rw [List.mem_singleton.mp hy]; exact f3.sa hx
  · rw [List.length_append]; exact z_set_self
  · show (if i = xs.length then some x else f i) = _
    by_cases e : i = xs.length
    · rw [if_pos e, e, List.getElem?_append_right (Nat.le_refl _), Nat.sub_self]; rfl
    · rw [if_neg e, hf i hi]
      by_cases h2 : i < xs.length
      · rw [List.getElem?_append_left h2]
      · rw [List.getElem?_eq_none (by omega), List.getElem?_eq_none (by simp; omega)]
end T93
