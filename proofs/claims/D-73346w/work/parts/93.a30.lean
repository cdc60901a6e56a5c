/-! THE COMPONENT's LAW, 30: data, refusals to the asks of an entry -/
set_option maxRecDepth 100000
set_option linter.unusedVariables false
theorem s_fold_idx {α ι : Type} (l : List ι) (f : ι → α → α) : ∀ (m k : Nat) (a : α), k + m = l.length → s_fold (fun k a => match l[k]? with | some x => f x a | none => a) k m a = (l.drop k).foldl (fun a x => f x a) a := by
  intro m
  induction m with
  | zero =>
    intro k a h
    rw [List.drop_of_length_le (by omega)]
    rfl
  | succ m ih =>
    intro k a h
    have hk : k < l.length := by omega
    rw [List.drop_eq_getElem_cons hk, List.foldl_cons]
    show s_fold _ (k + 1) m (match l[k]? with | some x => f x a | none => a) = _
    rw [List.getElem?_eq_getElem hk]
    exact ih (k + 1) _ (by omega)
/-- a loop that goes through a list -/
theorem x_forL {γ δ β ι : Type} (l : List ι) (R : Nat → γ → δ → Prop) (L : Nat → γ → β) (K : γ → β) (f : ι → δ → δ)
    (h1 : ∀ fu s g, R l.length s g → L (fu + 1) s = K s) (h2 : ∀ fu k x s g, R k s g → l[k]? = some x → ∃ s1, L (fu + 1) s = L fu s1 ∧ R (k + 1) s1 (f x g)) :
    ∀ fu s g, R 0 s g → l.length < fu → ∃ s', L fu s = K s' ∧ R l.length s' (l.foldl (fun g x => f x g) g) := by
  intro fu s g hR hf
  have H := x_forS R (fun fu _ s => L fu s) K (fun k g => match l[k]? with | some x => f x g | none => g) l.length h1 (fun fu k s g hR hk => by
    have hx : l[k]? = some l[k] := List.getElem?_eq_getElem hk
    obtain ⟨s1, e1, r1⟩ := h2 fu k l[k] s g hR hx
    refine ⟨s1, e1, ?_⟩
    show R (k + 1) s1 (match l[k]? with | some x => f x g | none => g)
    rw [hx]
    exact r1) fu 0 s g (Nat.zero_le _) hR (by omega)
  rw [Nat.sub_zero, s_fold_idx l f l.length 0 g (by omega), List.drop_zero] at H
  exact H
section T93
variable {g : z_G} {C : h_C} {o o1 : Nat → Nat} {μ μ1 : z_M} {E : Nat → List Nat} {B b p n q k w a0 t l x ce room i c j d pit al ca m : Nat} {G G' : s_G} {S : Nat → Prop} {N : s_R} {xs es cs : List Nat} {nd : s_N} {ms : Nat → Int32} {but nonce name wish ends src : Int32} {e : s_E} {fs : List Value} {r : s_Q}
/-- an iterator over small Integers: one more -/
theorem h_it.int {l : List Nat} (hI : h_it μ p x k) (hL : h_ls g o μ t x n (l.map (h_in g))) (hw : h_wf g μ) (hok : z_ok g) (hk : l[k]? = some m) (hm : m < 128) {α : Type} (kk : Int32 → z_M → Option α) (m0 : Option α) :
    ∃ μ1, (x_ob μ p 25 fun _ => x_b (D_J20_hasNext g p μ) fun x45 => if x45 = 0 then m0 else x_ob μ p 25 fun _ => x_b2 (D_J20_next g p μ) fun o242 μ243 => x_gp (x_ic g μ243 o242 "java/lang/Integer") <| x_o o242 fun p245 => x_gp (z_isA g μ243 p245 "java/lang/Integer") <| x_b (D_J19_intValue g p245 μ243) fun x248 => kk x248 μ243) = kk (nI m) μ1 ∧
      h_it μ1 p x (k + 1) ∧ h_fr g (fun a => a = p) o μ o μ1 ∧ μ1.2 = μ.2 := by
  have hkl : k < l.length := (List.getElem?_eq_some_iff.mp hk).1
  have hx : (l.map (h_in g))[k]? = some (h_in g m) := by rw [List.getElem?_map, hk]; rfl
  obtain ⟨μ1, e1, i1, f1, u1⟩ := hI.next hL hw hx
  refine ⟨μ1, ?_, i1, f1, u1⟩
  have hA : ∀ μ', z_isA g μ' (h_in g m) "java/lang/Integer" := fun μ' => h_in_isA hok hm
  rw [hI.ob, hI.hasNext hL (by rw [List.length_map]; omega), x_bS, List.length_map, if_neg (show ¬ k = l.length by omega), if_neg (show ¬ (1 : Int32) = 0 by decide), hI.ob, e1, x_b2S, x_gpI (x_icI (hA μ1)), x_oS, x_gpI (hA μ1), h_intValue hok f1.wf hm, x_bS]
/-- an iterator: one more -/
theorem h_it.elem {nm : String} (hI : h_it μ p l k) (hL : h_ls g o μ t l n xs) (hw : h_wf g μ) (hk : xs[k]? = some x) (hA : z_isA g μ x nm) :
    ∃ μ1, (∀ {α : Type} (kk : Option Nat → z_M → Option α) (m0 : Option α), (x_ob μ p 25 fun _ => x_b (D_J20_hasNext g p μ) fun x45 => if x45 = 0 then m0 else x_ob μ p 25 fun _ => x_b2 (D_J20_next g p μ) fun o242 μ243 => x_gp (x_ic g μ243 o242 nm) (kk o242 μ243)) = kk (some x) μ1) ∧
      h_it μ1 p l (k + 1) ∧ h_fr g (fun a => a = p) o μ o μ1 ∧ μ1.2 = μ.2 := by
  have hkl : k < xs.length := (List.getElem?_eq_some_iff.mp hk).1
  obtain ⟨μ1, e1, i1, f1, u1⟩ := hI.next hL hw hk
  refine ⟨μ1, fun kk m0 => ?_, i1, f1, u1⟩
  rw [hI.ob, hI.hasNext hL (by omega), x_bS, if_neg (show ¬ k = xs.length by omega), if_neg (show ¬ (1 : Int32) = 0 by decide), hI.ob, e1, x_b2S, x_gpI (x_icI (f1.2.2.2.1 _ _ hA))]
theorem h_it.end (hI : h_it μ p l xs.length) (hL : h_ls g o μ t l n xs) {α : Type} (m0 : Option α) (m1 : Option α) :
    (x_ob μ p 25 fun _ => x_b (D_J20_hasNext g p μ) fun x45 => if x45 = 0 then m0 else m1) = m0 := by
  rw [hI.ob, hI.hasNext hL (Nat.le_refl _), x_bS, if_pos rfl, if_pos rfl]
theorem h_it.stop {l : List Nat} (hI : h_it μ p x l.length) (hL : h_ls g o μ t x n (l.map (h_in g))) {α : Type} (m0 : Option α) (m1 : Option α) :
    (x_ob μ p 25 fun _ => x_b (D_J20_hasNext g p μ) fun x45 => if x45 = 0 then m0 else m1) = m0 := by
  rw [hI.ob, hI.hasNext hL (by rw [List.length_map]; exact Nat.le_refl _), x_bS, List.length_map, if_pos rfl, if_pos rfl]
theorem s_setL_le (x : Int64) : (s_setL x).length ≤ 64 := by
  unfold s_setL
  exact Nat.le_trans (List.length_filter_le ..) (by rw [List.length_range]; exact Nat.le_refl _)
/-- data to the asks of an entry -/
theorem h_go.getAll {pm pd v3 v5 : Nat} {fm : List Value} (K : z_M → Option z_M) (h : h_go g C o μ E B G) (hen : h_en g o μ n p e) (hm : μ.1 pm = some (.inr (15, fm))) (hom : o pm = 0) (hm7 : fm[7]? = some (.ref pd)) (hm5 : fm[5]? = some (.int src))
    (hs : ∃ m f, m < 6 ∧ f < 2 ∧ src = nI (10 * m + f) ∧ r.2.2.1 = nI m ∧ r.2.2.2 = nI f) :
    ∃ o1 μ1, (x_gr μ p 17 4 fun o216 => x_o o216 fun p220 => x_ob μ p220 3 fun _ => x_b2 (D_J2_iterator g p220 μ) fun o224 μ225 => D_X12_gets_295 g (c_a C) (nI i) pm v3 v5 o224 K x_F μ225) = K μ1 ∧
      h_go g C o1 μ1 E (B + (9 + 20 * (s_setL (e_asks e)).length)) (s_getAll (e_asks e) r G) ∧ h_fr g (fun a => o a = 1000) o μ o1 μ1 := by
  obtain ⟨fs, al, ca, c1, c2, hL⟩ := hen.asks
  have hlen := s_setL_le (e_asks e)
  obtain ⟨μ2, e2, hI, f2, n2, u2⟩ := hL.iter (t' := 900) h.wf
  have h2 := h.fr (b := 9) f2 (fun a q => q.elim) (by omega)
  obtain ⟨μ3, e3, o3, r1, r2, r3, r4⟩ := x_forL (γ := z_M) (δ := s_G) (β := Option z_M) (s_setL (e_asks e))
    (R := fun k s G' => ∃ o', h_go g C o' s E (B + (9 + 20 * k)) G' ∧ h_it s μ.2.1 al k ∧ o' μ.2.1 = 900 ∧ h_fr g (fun a => o a = 1000) o μ o' s)
    (L := fun fu s => D_X12_gets_295 g (c_a C) (nI i) pm v3 v5 (some μ.2.1) K fu s)
    (K := K) (f := fun k G => s_get r k G)
    (fun fu s G' hR => by
      obtain ⟨o', h1, i1, o1, f1⟩ := hR
      have hL1 := hL.fr f1 h.wf (fun a ha (q : o a = 1000) => by have := hen.1; omega)
      show D_X12_gets_295 _ _ _ _ _ _ _ _ (fu + 1) _ = _
      unfold D_X12_gets_295
      rw [x_oS]
      exact i1.stop hL1 _ _)
    (fun fu k m s G' hR hk => by
      obtain ⟨o', h1, i1, o1, f1⟩ := hR
      have hL1 := hL.fr f1 h.wf (fun a ha (q : o a = 1000) => by have := hen.1; omega)
      have hm61 : m < 61 := hen.2.2.1 m (s_setL_mem (List.mem_of_getElem? hk)).1 (s_setL_mem (List.mem_of_getElem? hk)).2
      obtain ⟨μ4, e4, i4, f4, u4⟩ := i1.int hL1 h1.wf h.ok hk (by omega) (fun x248 μ243 => x_gr μ243 pm 15 7 fun o249 => x_gi μ243 pm 15 5 fun x253 => x_ob μ243 (c_a C) 12 fun _ => x_b (D_X12_gives g (c_a C) (nI i) (-1 : Int32) x248 o249 x253 μ243) fun μ260 => D_X12_gets_295 g (c_a C) (nI i) pm v3 v5 (some μ.2.1) K fu μ260) (K s)
      have f14 : h_fr g (fun a => o a = 1000) o μ o' μ4 := f1.trans f4 (fun a ha q => by
        rcases q with q | q
        · exact q
        · omega)
      have h4 := h1.fr (b := 0) f4 (fun a q => by rw [q, o1]; omega) (by unfold h_u; rw [u4]; omega)
      have hm4 := f14.cell h.wf hm (fun (q : o pm = 1000) => by omega)
      obtain ⟨o5, μ5, e5, h5, f5⟩ := h4.getK (k := m) (a1 := nI i) (a4 := some pd) (r := r) hm61 hs
      have hpl : μ.2.1 < s.2.1 := by
        obtain ⟨x, mm, arr, sz, k1, k2⟩ := i1
        exact h1.wf.lt k1
      have hp4 : μ.2.1 < μ4.2.1 := by rw [u4]; exact hpl
      refine ⟨μ5, ?_, o5, h5.le (by omega), i4.fr f5 f4.wf (fun (q : o' μ.2.1 = 1000) => by omega) (fun (q : o' al = 1000) => by have := hL1.1; have := hen.1; have := f1.2.1 p (hen.lt h.wf); omega), (f5.2.1 _ hp4).trans o1, f14.trans f5 (fun a ha q => ?_)⟩
      · show D_X12_gets_295 _ _ _ _ _ _ _ _ (fu + 1) _ = _
        conv => lhs; unfold D_X12_gets_295
        rw [x_oS]
        refine e4.trans ?_
        rw [x_grR hm4 hm7, x_giS hm4 hm5, h4.ob, e5, x_bS]
      · rcases q with q | q
        · exact q
        · rw [f14.2.1 a ha] at q; exact q)
    x_F μ2 G ⟨h_o1 o μ.2.1 900, h2, hI, if_pos rfl, f2.mono (fun a _ q => q.elim)⟩ (by rw [x_Fv]; omega)
  refine ⟨o3, μ3, ?_, ?_, r4⟩
  · rw [x_grR c1 c2, x_oS, hL.obK, e2, x_b2S]
    exact e3
  · rw [s_getAllL]
    exact r1
end T93
