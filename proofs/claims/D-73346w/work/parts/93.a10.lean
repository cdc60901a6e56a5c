/-! THE COMPONENT's LAW, 10: names -/
set_option maxRecDepth 100000
set_option linter.unusedVariables false
def s_chr (n : Nat) : List Nat := (s_let n).map (fun d => d + 96)
theorem s_chr_len (n : Nat) : (s_chr n).length = s_len n := by unfold s_chr s_len; rw [List.length_map]
def s_val (l : List Nat) : Nat := l.foldl (fun a d => 27 * a + d) 0
theorem s_val_let (n : Nat) : s_val (s_let n) = n := by
  induction n using Nat.strongRecOn with
  | _ n ih =>
    by_cases h : n = 0
    · rw [h, s_let0]; rfl
    · rw [s_letS h]
      unfold s_val
      rw [List.foldl_append]
      show 27 * s_val (s_let (n / 27)) + n % 27 = n
      rw [ih (n / 27) (by omega)]
      omega
theorem s_let_inj {a b : Nat} (h : s_let a = s_let b) : a = b := by rw [← s_val_let a, h, s_val_let]
theorem s_map_inj : ∀ {xs ys : List Nat}, xs.map (fun d => d + 96) = ys.map (fun d => d + 96) → xs = ys
  | [], [], _ => rfl
  | [], _ :: _, h => by cases h
  | _ :: _, [], h => by cases h
  | x :: xs, y :: ys, h => by
    have h1 := List.cons.inj h
    have h9 : x + 96 = y + 96 := h1.1
    rw [s_map_inj h1.2, show x = y from by omega]
theorem s_chr_inj {a b : Nat} (h : s_chr a = s_chr b) : a = b := s_let_inj (s_map_inj h)
theorem s_chr_iff {a b : Nat} : s_chr a = s_chr b ↔ a = b := ⟨s_chr_inj, fun h => by rw [h]⟩
theorem s_let_take : ∀ (n a k : Nat), s_len a = n → k ≤ n → (s_let a).take k = s_let (a / 27 ^ (n - k)) := by
  intro n
  induction n with
  | zero =>
    intro a k h hk
    rw [show k = 0 from by omega, Nat.sub_self, Nat.pow_zero, Nat.div_one]
    rw [show s_let a = [] from List.length_eq_zero_iff.mp h]
    rfl
  | succ n ih =>
    intro a k h hk
    have h0 : a ≠ 0 := fun q => by rw [q, s_len0] at h; omega
    by_cases e : k = n + 1
    · rw [e, Nat.sub_self, Nat.pow_zero, Nat.div_one, ← h]
      exact List.take_length
    · have h1 : s_len (a / 27) = n := by rw [s_lenS h0] at h; omega
      rw [s_letS h0, List.take_append_of_le_length (by show k ≤ s_len (a / 27); omega), ih (a / 27) k h1 (by omega), Nat.div_div_eq_div_mul, show n + 1 - k = (n - k) + 1 from by omega, Nat.pow_succ, Nat.mul_comm]
theorem s_let_get : ∀ (n a k : Nat), s_len a = n → k < n → (s_let a).getD k 0 = a / 27 ^ (n - 1 - k) % 27 := by
  intro n
  induction n with
  | zero => intro a k h hk; omega
  | succ n ih =>
    intro a k h hk
    have h0 : a ≠ 0 := fun q => by rw [q, s_len0] at h; omega
    have h1 : s_len (a / 27) = n := by rw [s_lenS h0] at h; omega
    have h1' : (s_let (a / 27)).length = n := h1
    rw [s_letS h0, List.getD_eq_getElem?_getD]
    by_cases e : k = n
    · rw [e, show n + 1 - 1 - n = 0 from by omega, Nat.pow_zero, Nat.div_one, List.getElem?_append_right (by omega), h1', Nat.sub_self]
      rfl
    · rw [List.getElem?_append_left (by omega), ← List.getD_eq_getElem?_getD, ih (a / 27) k h1 (by omega), Nat.div_div_eq_div_mul, show n + 1 - 1 - k = (n - 1 - k) + 1 from by omega, Nat.pow_succ, Nat.mul_comm (27 ^ (n - 1 - k))]
theorem s_chr_pre (p a : Nat) : (s_chr a).take (s_chr p).length = s_chr p ↔ s_pre p a = true := by
  rw [s_chr_len]
  unfold s_pre
  by_cases h : s_len p ≤ s_len a
  · unfold s_chr
    rw [← List.map_take, s_let_take (s_len a) a (s_len p) rfl h, beq_iff_eq]
    exact s_chr_iff
  · rw [List.take_of_length_le (by rw [s_chr_len]; omega), show s_len a - s_len p = 0 from by omega, Nat.pow_zero, Nat.div_one, beq_iff_eq]
    exact s_chr_iff
theorem s_let_lt (n : Nat) : ∀ d ∈ s_let n, d < 27 := by
  induction n using Nat.strongRecOn with
  | _ n ih =>
    intro d hd
    by_cases h : n = 0
    · rw [h, s_let0] at hd; cases hd
    · rw [s_letS h] at hd
      rcases List.mem_append.mp hd with q | q
      · exact ih (n / 27) (by omega) d q
      · rw [List.mem_singleton.mp q]; omega
theorem s_chr_lt (n : Nat) : ∀ c ∈ s_chr n, c < 128 := by
  intro c hc
  obtain ⟨d, h1, h2⟩ := List.mem_map.mp hc
  have := s_let_lt n d h1
  omega
theorem s_lt_len (n : Nat) : n < 27 ^ s_len n := by
  induction n using Nat.strongRecOn with
  | _ n ih =>
    by_cases h : n = 0
    · rw [h, s_len0]; decide
    · rw [s_lenS h, Nat.pow_succ]
      have := ih (n / 27) (by omega)
      omega
theorem s_len_vn {n : Nat} (h : s_vn n) : 1 ≤ s_len n ∧ s_len n ≤ 4 := by
  refine ⟨?_, s_len_le 4 n h.2.1⟩
  rw [s_lenS (by have := h.1; omega)]
  omega
theorem s_chr_get {n k : Nat} (hk : k < s_len n) : (s_chr n).getD k 0 = n / 27 ^ (s_len n - 1 - k) % 27 + 96 := by
  have h1 := s_let_get (s_len n) n k rfl hk
  unfold s_chr
  rw [List.getD_eq_getElem?_getD, List.getElem?_map]
  rw [List.getD_eq_getElem?_getD] at h1
  have hk' : k < (s_let n).length := hk
  rw [List.getElem?_eq_getElem hk'] at h1 ⊢
  exact congrArg (fun d => d + 96) h1
/-- a tag that no cell has yet -/
theorem h_fresh (o : Nat → Nat) (B : Nat) : ∀ N : Nat, ∃ t, B < t ∧ ∀ a, a < N → o a ≠ t := by
  intro N
  induction N with
  | zero => exact ⟨B + 1, by omega, fun a ha => absurd ha (Nat.not_lt_zero _)⟩
  | succ N ih =>
    have key : ∀ N, ∃ m, B ≤ m ∧ ∀ a, a < N → o a ≤ m := by
      intro N
      induction N with
      | zero => exact ⟨B, Nat.le_refl _, fun a ha => absurd ha (Nat.not_lt_zero _)⟩
      | succ N ih =>
        obtain ⟨m, h1, h2⟩ := ih
        refine ⟨max m (o N), by omega, fun a ha => ?_⟩
        by_cases e : a = N
        · rw [e]; omega
        · have := h2 a (by omega); omega
    obtain ⟨m, h1, h2⟩ := key (N + 1)
    exact ⟨m + 1, by omega, fun a ha => by have := h2 a ha; omega⟩
/-- the string of the name n -/
def h_nm (o : Nat → Nat) (μ : z_M) (p n : Nat) : Prop := s_vn n ∧ h_sm o μ p (s_chr n)
def s_unit (k : Nat) : Nat := 27 ^ (k - 1)
section T93
variable {g : z_G} {o o1 : Nat → Nat} {μ μ1 : z_M} {t p q n m : Nat} {S : Nat → Prop}
theorem h_nm.st (h : h_nm o μ p n) : h_st g o μ p (s_chr n) := h.2.st
theorem h_nm.fr (h : h_nm o μ p n) (hf : h_fr g S o μ o1 μ1) (hw : h_wf g μ) (hS : ∀ a, o a = 0 → ¬ S a) : h_nm o1 μ1 p n := ⟨h.1, h.2.fr hf hw hS⟩
theorem h_nm.isA (h : h_nm o μ p n) (hw : h_wf g μ) : z_isA g μ p "java/lang/String" := (h_st.isA (g := g) h.st hw)
theorem h_nm.eq (h : h_nm o μ p n) (h' : h_nm o μ q m) (hw : h_wf g μ) (hok : z_ok g) : D_J6_equals g p (some q) μ = some (if n = m then 1 else 0) := by
  rw [h_st.equals (g := g) h.st h'.st hw hok]
  by_cases e : n = m
  · rw [if_pos e, if_pos (s_chr_iff.mpr e)]
  · rw [if_neg e, if_neg (fun q => e (s_chr_iff.mp q))]
theorem h_nm.starts (h : h_nm o μ p n) (h' : h_nm o μ q m) (hw : h_wf g μ) (hok : z_ok g) : D_J6_startsWith g p (some q) μ = some (if s_pre m n = true then 1 else 0) := by
  rw [h_st.startsWith (g := g) h.st h'.st hw hok (by rw [s_chr_len]; have := (s_len_vn h'.1).2; omega)]
  by_cases e : s_pre m n = true
  · rw [if_pos e, if_pos ((s_chr_pre m n).mpr e)]
  · rw [if_neg e, if_neg (fun q => e ((s_chr_pre m n).mp q))]
theorem h_nm.len (h : h_nm o μ p n) (hw : h_wf g μ) (hok : z_ok g) : D_J6_length g p μ = some (nI (s_len n)) := by
  rw [h_st.len (g := g) h.st hw hok, s_chr_len]
theorem h_nm.code (h : h_nm o μ p n) (hw : h_wf g μ) (hok : z_ok g) : D_X0_code g (some p) μ = some (nI n) := by
  have hI := h.isA hw
  have hL := h.len hw hok
  have h4 := s_len_vn h.1
  have hn : n < 531441 := h.1.2.1
  have hS : h_st g o μ p (s_chr n) := h.st
  have key := x_for (fun k (a : Nat) => a = n / 27 ^ (s_len n - k)) (fun f a k => D_X0_code_4 g (some p) μ (fun v => some v) f (nI a) (nI k)) (fun a => some (nI a)) (fun k _ => n / 27 ^ (s_len n - (k + 1))) (s_len n)
    (fun f a _ => by
      show D_X0_code_4 _ _ _ _ (f + 1) _ _ = _
      unfold D_X0_code_4
      rw [x_oS, x_gpI hI, hL, x_bS, if_pos (Int32.le_refl _)])
    (fun f a k ha hk => by
      show D_X0_code_4 _ _ _ _ (f + 1) _ _ = _
      conv => lhs; unfold D_X0_code_4
      have hc := hS.charAt hw hok (i := k) (by rw [s_chr_len]; exact hk)
      rw [s_chr_get hk] at hc
      rw [x_oS, x_gpI hI, hL, x_bS, if_neg (nI_ge hk (by omega)), x_gpI hI, hc, x_bS, x_lS, x_lS, nI_1]
      have e1 : (27 : Int32) * nI a = nI (27 * a) := nI_mul 27 a
      rw [e1, nI_add]
      have e2 : nI (27 * a + (n / 27 ^ (s_len n - 1 - k) % 27 + 96)) - (97 : Int32) + (1 : Int32) = nI (27 * a + n / 27 ^ (s_len n - 1 - k) % 27) := by
        have e3 : nI (27 * a + (n / 27 ^ (s_len n - 1 - k) % 27 + 96)) - (97 : Int32) = nI (27 * a + (n / 27 ^ (s_len n - 1 - k) % 27 + 96)) - (1 : Int32) - (96 : Int32) := by
          rw [Int32.sub_sub]; rfl
        rw [e3, show nI (27 * a + (n / 27 ^ (s_len n - 1 - k) % 27 + 96)) - (1 : Int32) = nI (27 * a + (n / 27 ^ (s_len n - 1 - k) % 27 + 96) - 1) from nI_sub (b := 1) (by omega)]
        have e4 : nI (27 * a + (n / 27 ^ (s_len n - 1 - k) % 27 + 96) - 1) = nI (27 * a + n / 27 ^ (s_len n - 1 - k) % 27 + 96 - 1) := by
          congr 1
        rw [e4]
        have e5 : nI (27 * a + n / 27 ^ (s_len n - 1 - k) % 27) + (96 : Int32) = nI (27 * a + n / 27 ^ (s_len n - 1 - k) % 27 + 96) := nI_add _ 96
        have e6 : nI (27 * a + n / 27 ^ (s_len n - 1 - k) % 27 + 96) - (1 : Int32) = nI (27 * a + n / 27 ^ (s_len n - 1 - k) % 27 + 96 - 1) := nI_sub (b := 1) (by omega)
        rw [← e6, ← e5, Int32.sub_sub, Int32.add_comm (1 : Int32) 96, ← Int32.sub_sub, Int32.add_sub_cancel, Int32.sub_add_cancel]
      rw [e2]
      have e7 : 27 * a + n / 27 ^ (s_len n - 1 - k) % 27 = n / 27 ^ (s_len n - (k + 1)) := by
        rw [ha, show s_len n - k = (s_len n - 1 - k) + 1 from by omega, Nat.pow_succ, ← Nat.div_div_eq_div_mul, show s_len n - (k + 1) = s_len n - 1 - k from by omega]
        omega
      rw [e7])
    (fun a k _ _ => rfl)
    x_F 0 0 (Nat.zero_le _) (by
      rw [Nat.sub_zero]
      exact (Nat.div_eq_of_lt (s_lt_len n)).symm) (by rw [x_Fv]; omega)
  have hP := s_foldP (fun k (a : Nat) => a = n / 27 ^ (s_len n - k)) (fun k _ => n / 27 ^ (s_len n - (k + 1))) (s_len n) (fun a k _ _ => rfl) (s_len n) 0 0 (by
      rw [Nat.sub_zero]
      exact (Nat.div_eq_of_lt (s_lt_len n)).symm) (by omega)
  rw [Nat.zero_add, Nat.sub_self, Nat.pow_zero, Nat.div_one] at hP
  unfold D_X0_code
  refine key.trans ?_
  rw [Nat.sub_zero, hP]
/-- a number is looked at as a name's -/
theorem h_name6 {a0 : Int32} (K : Int32 → Int32 → Option (Option Nat × z_M)) : ∀ (f r k : Nat), r < 2 ^ 31 → k ≤ 4 → s_len r < f →
    D_X0_name_6 g a0 μ K f (nI k) (nI (s_unit k)) (nI r) = if (s_let r).all (fun d => d != 0) = true ∧ k + s_len r ≤ 4 then K (nI (k + s_len r)) (nI (s_unit (k + s_len r))) else some (none, μ) := by
  intro f
  induction f with
  | zero => intro r k _ _ h; omega
  | succ f ih =>
    intro r k hr hk hf
    conv => lhs; unfold D_X0_name_6
    by_cases h0 : r = 0
    · subst h0
      rw [if_pos (show nI 0 ≤ (0 : Int32) from by decide), s_let0, s_len0, if_pos ⟨rfl, hk⟩]
      rfl
    · have e27 : nI r / (27 : Int32) = nI (r / 27) := nI_div (b := 27) hr (by omega)
      have em : nI r - nI r / (27 : Int32) * (27 : Int32) = nI (r % 27) := nI_mod (k := 27) hr (by omega)
      rw [if_neg (nI_nle (by omega) hr), em, s_letS h0, List.all_append, s_lenS h0]
      by_cases h1 : r % 27 = 0
      · rw [if_pos (by rw [h1]; rfl), if_neg (fun q => ?_)]
        have := q.1
        rw [Bool.and_eq_true] at this
        have h2 := this.2
        simp [h1] at h2
      · rw [if_neg (nI_ne0 (by omega) (by omega))]
        by_cases h2 : k = 4
        · have e4 : nI k = (4 : Int32) := by rw [h2]; rfl
          rw [if_pos e4, if_neg (fun q => by have := q.2; omega)]
        · have e4 : ¬ nI k = (4 : Int32) := fun q => h2 ((nI_eq (b := 4) (by omega) (by omega)).mp q)
          have hrec := ih (r / 27) (k + 1) (by omega) (by omega) (by rw [s_lenS h0] at hf; omega)
          have hall : (([r % 27] : List Nat).all (fun d => d != 0)) = true := by
            rw [List.all_cons, List.all_nil, Bool.and_true]
            simpa using h1
          rw [if_neg e4, x_lS, e27, hall, Bool.and_true, show k + (s_len (r / 27) + 1) = k + 1 + s_len (r / 27) from by omega, ← hrec]
          by_cases h3 : k = 0
          · subst h3
            rw [if_pos nI_0]
            show x_l (nI (s_unit 0) * (1 : Int32)) _ = _
            rw [x_lS, x_lS, x_lS, nI_1]
            rfl
          · rw [if_neg (nI_ne0 (by omega) (by omega))]
            show x_l (nI (s_unit k) * (27 : Int32)) _ = _
            rw [x_lS, x_lS, x_lS, nI_1]
            have e5 : nI (s_unit k) * (27 : Int32) = nI (s_unit k * 27) := nI_mul _ 27
            have e6 : s_unit k * 27 = s_unit (k + 1) := by
              unfold s_unit
              rw [show k + 1 - 1 = (k - 1) + 1 from by omega, Nat.pow_succ]
            rw [e5, e6]
theorem h_name63 (K : z_M → Option (Option Nat × z_M)) (hok : z_ok g) (hv : s_vn n) {s : Nat} : ∀ (m f i : Nat) (μ : z_M), i + m = s_len n → m < f → h_sb o μ t s 4 ((s_chr n).take i) → h_wf g μ →
    ∃ μ1, D_X0_name_63 g (nI n) s K f (nI (if m = 0 then 0 else 27 ^ (m - 1))) μ = K μ1 ∧ h_sb o μ1 t s 4 (s_chr n) ∧ h_fr g (fun a => o a = t) o μ o μ1 ∧ μ1.2 = μ.2 := by
  have h4 := s_len_vn hv
  have hn : n < 531441 := hv.2.1
  intro m
  induction m with
  | zero =>
    intro f i μ h1 h2 h3 hw
    obtain ⟨f, rfl⟩ : ∃ f', f = f' + 1 := ⟨f - 1, by omega⟩
    refine ⟨μ, ?_, ?_, h_fr.refl hw, rfl⟩
    · conv => lhs; unfold D_X0_name_63
      exact if_pos (by decide)
    · rw [List.take_of_length_le (by rw [s_chr_len]; omega)] at h3
      exact h3
  | succ m ih =>
    intro f i μ h1 h2 h3 hw
    obtain ⟨f, rfl⟩ : ∃ f', f = f' + 1 := ⟨f - 1, by omega⟩
    have hlen : ((s_chr n).take i).length = i := by rw [List.length_take, s_chr_len]; omega
    have hp0 : 0 < 27 ^ m := Nat.pow_pos (by omega)
    have hp1 : 27 ^ m ≤ 27 ^ 3 := Nat.pow_le_pow_right (by omega) (by omega)
    have hp2 : 27 ^ m < 20000 := Nat.lt_of_le_of_lt hp1 (by decide)
    have hd : n / 27 ^ m ≤ n := Nat.div_le_self _ _
    have hlt : n / 27 ^ m % 27 + 96 < 128 := by omega
    have hsb := fun (x : z_M) => x
    obtain ⟨μ1, q1, q2, q3, q4⟩ := h3.append hok hw hlt (by rw [hlen]; omega)
    have hcs : (s_chr n).take i ++ [n / 27 ^ m % 27 + 96] = (s_chr n).take (i + 1) := by
      have hi : i < (s_chr n).length := by rw [s_chr_len]; omega
      rw [List.take_succ, List.getElem?_eq_getElem hi]
      have := s_chr_get (n := n) (k := i) (by omega)
      rw [List.getD_eq_getElem?_getD, List.getElem?_eq_getElem hi, show s_len n - 1 - i = m from by omega] at this
      have h9 : (s_chr n)[i] = n / 27 ^ m % 27 + 96 := this
      rw [h9]
      rfl
    rw [hcs] at q2
    obtain ⟨μ2, r1, r2, r3, r4⟩ := ih f (i + 1) μ1 (by omega) (by omega) q2 q3.wf
    refine ⟨μ2, ?_, r2, q3.trans r3 (fun a _ q => q.elim id id), r4.trans q4⟩
    have e1 : (if m + 1 = 0 then 0 else 27 ^ (m + 1 - 1)) = 27 ^ m := if_neg (by omega)
    rw [e1]
    conv => lhs; unfold D_X0_name_63
    have e2 : nI n / nI (27 ^ m) = nI (n / 27 ^ m) := nI_div (by omega) (by omega)
    have e3 : nI (n / 27 ^ m) - nI (n / 27 ^ m) / (27 : Int32) * (27 : Int32) = nI (n / 27 ^ m % 27) := nI_mod (k := 27) (by omega) (by omega)
    have e4 : (97 : Int32) + nI (n / 27 ^ m % 27) - (1 : Int32) = nI (n / 27 ^ m % 27 + 96) := by
      have e5 : (97 : Int32) + nI (n / 27 ^ m % 27) = nI (97 + n / 27 ^ m % 27) := nI_add 97 _
      have e6 : nI (97 + n / 27 ^ m % 27) - (1 : Int32) = nI (97 + n / 27 ^ m % 27 - 1) := nI_sub (b := 1) (by omega)
      rw [e5, e6]
      congr 1
      omega
    have e7 : nI (27 ^ m) / (27 : Int32) = nI (if m = 0 then 0 else 27 ^ (m - 1)) := by
      have e8 : nI (27 ^ m) / (27 : Int32) = nI (27 ^ m / 27) := nI_div (b := 27) (by omega) (by omega)
      rw [e8]
      congr 1
      by_cases hm : m = 0
      · subst hm; rfl
      · rw [if_neg hm]
        obtain ⟨j, rfl⟩ : ∃ j, m = j + 1 := ⟨m - 1, by omega⟩
        rw [Nat.pow_succ]
        show 27 ^ j * 27 / 27 = 27 ^ j
        exact Nat.mul_div_cancel _ (by omega)
    have hob : ∀ (α : Type) (kk : Option α), x_ob μ s 22 (fun _ => kk) = kk := fun α kk => by
      obtain ⟨-, -, b, ff, v2, -, k4, -⟩ := h3
      exact x_obS k4
    rw [if_neg (nI_nle hp0 (by omega)), x_gS (nI_ne0 hp0 (by omega)), hob, e2, e3, e4, (h_chr _ hlt).2.1, q1, x_b2S, x_lS, e7]
    exact r1
theorem h_name {c : Int32} (hok : z_ok g) (hw : h_wf g μ) (hc : s_nm c = true) : ∃ p o1 μ1, D_X0_name g c μ = some (some p, μ1) ∧ h_nm o1 μ1 p (v_ c) ∧ h_fr g (fun _ => False) o μ o1 μ1 ∧ h_u μ1 ≤ h_u μ + 36 := by
  obtain ⟨hcv, hv⟩ := s_nm_wn hc
  generalize hN : v_ c = n at hcv hv
  subst hcv
  have h4 := s_len_vn hv
  have hn : n < 531441 := hv.2.1
  have hall : (s_let n).all (fun d => d != 0) = true := by
    rw [List.all_eq_true]
    exact fun d hd => by simpa using hv.2.2 d hd
  obtain ⟨t, ht0, ht⟩ := h_fresh o 0 μ.2.1
  obtain ⟨μ1, q1, q2, q3, q4, q5⟩ := h_sbNew (o := o) t 4 hok hw (by omega)
  have hne : μ.2.1 ≠ μ.2.1 + 1 := by omega
  have hlen : s_len n - 1 + 1 = s_len n := by omega
  obtain ⟨μ2, r1, r2, r3, r4⟩ := h_name63 (fun (μ37 : z_M) => x_ob μ37 μ.2.1 22 fun _ => x_b2 (D_J5_toString g μ.2.1 μ37) fun o41 μ42 => some (o41, μ42)) hok hv (s_len n) x_F 0 μ1 (by omega) (by rw [x_Fv]; omega) q2 q3.wf
  obtain ⟨μ3, u1, u2, u3, u4, u5⟩ := r2.toS hok r3.wf
  have f2 : h_fr g (fun _ => False) o μ (h_o1 (h_o1 o μ.2.1 t) (μ.2.1 + 1) t) μ2 := q3.trans r3 (fun a ha q => by
    rcases q with q | q
    · exact q
    · exact absurd ((q3.2.1 a ha).symm.trans q) (ht a ha))
  refine ⟨_, _, μ3, ?_, ⟨hv, u2⟩, f2.trans u3 (fun a _ q => q.elim id id), ?_⟩
  · unfold D_X0_name
    have e6 := h_name6 (g := g) (μ := μ) (a0 := nI n) (fun (v1_17 : Int32) (v2_18 : Int32) => if v1_17 = 0 then (some (none, μ)) else
      x_nw μ 4 (.inr (22, [.null, .int 0, .int 0, .int 0])) fun p20 μ21 =>
      x_b (D_J5_init g p20 (4 : Int32) μ21) fun μ23 =>
      D_X0_name_63 g (nI n) p20
        (fun (μ37 : z_M) => x_ob μ37 p20 22 fun _ =>
      x_b2 (D_J5_toString g p20 μ37) fun o41 μ42 =>
      some (o41, μ42))
        x_F v2_18 μ23) x_F n 0 (by omega) (by omega) (by rw [x_Fv]; omega)
    refine Eq.trans e6 ?_
    rw [if_pos ⟨hall, by omega⟩, Nat.zero_add, if_neg (nI_ne0 (by omega) (by omega)), x_nwS]
    refine Eq.trans (congrArg (fun z => x_b z _) q1) ?_
    rw [x_bS]
    have e7 : nI (s_unit (s_len n)) = nI (if s_len n = 0 then 0 else 27 ^ (s_len n - 1)) := by
      rw [if_neg (by omega)]
      rfl
    rw [e7]
    refine r1.trans ?_
    have hob : ∀ (α : Type) (kk : Option α), x_ob μ2 μ.2.1 22 (fun _ => kk) = kk := fun α kk => by
      obtain ⟨-, -, b, ff, v2, -, k4, -⟩ := r2
      exact x_obS k4
    show x_ob μ2 μ.2.1 22 (fun _ => _) = _
    rw [hob, u1, x_b2S]
  · rw [u4, s_chr_len]
    have : h_u μ2 = h_u μ1 := by unfold h_u; rw [r4]
    omega
theorem h_nameN {c : Int32} (hc : s_nm c = false) : D_X0_name g c μ = some (none, μ) := by
  unfold D_X0_name
  by_cases h0 : c ≤ 0
  · have e : D_X0_name_6 g c μ = D_X0_name_6 g c μ := rfl
    unfold x_F
    conv => lhs; unfold D_X0_name_6
    rw [if_pos h0, if_pos rfl]
  · have hpos : 0 ≤ c := Int32.le_of_lt (Int32.not_le.mp h0)
    obtain ⟨hcv, hcb⟩ := v_of hpos
    generalize hN : v_ c = n at hcv hcb
    have hn0 : n ≠ 0 := fun q => h0 (by rw [hcv, q]; decide)
    have hnb : s_nb n = false := by
      unfold s_nm at hc
      rw [hN, decide_eq_true hpos, Bool.true_and] at hc
      exact hc
    subst hcv
    have e6 := h_name6 (g := g) (μ := μ) (a0 := nI n) (fun (v1_17 : Int32) (v2_18 : Int32) => if v1_17 = 0 then (some (none, μ)) else
      x_nw μ 4 (.inr (22, [.null, .int 0, .int 0, .int 0])) fun p20 μ21 =>
      x_b (D_J5_init g p20 (4 : Int32) μ21) fun μ23 =>
      D_X0_name_63 g (nI n) p20
        (fun (μ37 : z_M) => x_ob μ37 p20 22 fun _ =>
      x_b2 (D_J5_toString g p20 μ37) fun o41 μ42 =>
      some (o41, μ42))
        x_F v2_18 μ23) x_F n 0 hcb (by omega) (by have := s_len7 hcb; rw [x_Fv]; omega)
    refine Eq.trans e6 ?_
    rw [if_neg]
    rintro ⟨h1, h2⟩
    have h3 : n < 27 ^ 4 := Nat.lt_of_lt_of_le (s_lt_len n) (Nat.pow_le_pow_right (by omega) (by omega))
    unfold s_nb at hnb
    rw [decide_eq_true (show 0 < n from by omega), decide_eq_true h3, h1] at hnb
    cases hnb
end T93
