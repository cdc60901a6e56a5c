/-! THE COMPONENT's LAW, 32: entries are answered, one behind the other -/
set_option maxRecDepth 100000
set_option linter.unusedVariables false
/-- what an answer costs -/
def k_ent (e : s_E) : Nat := 10 + 20 * (s_pop (e_in e) + (s_setL (e_asks e)).length)
def k_answerAll (N : s_R) (lk : Nat → Option Nat) (n : Nat) (name : Int32) (fresh : Bool) (r : s_Q) : Nat → s_G → Nat
  | 0, G => 0
  | m + 1, G => match s_ff name fresh (g_es G n) with
    | none => 0
    | some i => match (g_es G n)[i]? with
      | none => 0
      | some e => k_ent e + k_answerAll N lk n name fresh r m (s_answer N lk n i e r G)
section T93
variable {g : z_G} {C : h_C} {o o1 : Nat → Nat} {μ μ1 : z_M} {E : Nat → List Nat} {B b p n q k w a0 t l x ce room i c j d pit al ca m : Nat} {G G' : s_G} {S : Nat → Prop} {N : s_R} {xs es cs : List Nat} {nd : s_N} {ms : Nat → Int32} {but nonce name wish ends src : Int32} {e : s_E} {fs : List Value} {r : s_Q}
theorem s_getAll_ways {set : Int64} : g_ways (s_getAll set r G) = g_ways G := by
  have H : ∀ m k G, g_ways (s_fold (fun k G => if s_hasL set (nI k) = true then s_get r k G else G) k m G) = g_ways G := by
    intro m
    induction m with
    | zero => intro k G; rfl
    | succ m ih =>
      intro k G
      show g_ways (s_fold _ (k + 1) m (if s_hasL set (nI k) = true then s_get r k G else G)) = _
      rw [ih]
      by_cases c : s_hasL set (nI k) = true
      · rw [if_pos c]; rfl
      · rw [if_neg c]
  exact H 64 0 G
/-- a node's dead nonces are more -/
theorem h_go.setDead {y : Int64} (h : h_go g C o μ E B G) (hq : (c_ns C)[n]? = some q) : (∀ (α : Type) (kk : Int64 → Option α), x_gl μ q 13 3 kk = kk (g_dead G n)) ∧
    ∃ μ1, (∀ (α : Type) (kk : z_M → Option α), x_pf μ q 13 3 (.long y) kk = kk μ1) ∧ h_go g C o μ1 E B (g_sdead G n y) ∧ h_fr g (fun a => o a = 1030 + n) o μ o μ1 := by
  obtain ⟨ce, hno, hce, hn6, hnn, reb⟩ := h.node hq
  have hno' := hno
  obtain ⟨h0, sl, el, ml, ds, f, h1, ⟨h2, h3⟩, ⟨h4, h5, h6⟩, h7, h8, h9⟩ := hno'
  have f1 := h_fr.setF (o := o) (fs' := [.ref sl, .ref el, .ref ml, .long y]) h.wf h1
  have f1' : h_fr g (fun a => o a = 1030 + n) o μ o (z_set μ q (.inr (13, [.ref sl, .ref el, .ref ml, .long y]))) := f1.mono (fun a _ q => by rw [q]; exact h0)
  have S0 : ∀ a, o a = 0 → ¬ o a = 1030 + n := fun a ha => by omega
  have hmq : ml ≠ q := fun e => by rw [e, h1] at h8; cases h8
  refine ⟨fun α kk => x_glS h1 rfl, _, fun α kk => x_pfS h1 (Nat.le_of_ble_eq_true rfl), ?_, f1'⟩
  have H := reb _ o _ ce (E n) ((g_nd G n).1, (g_nd G n).2.1, y) (g_meas G) 0 f1' (fun a ha => Or.inr (Or.inr (Or.inl ha))) ⟨h0, sl, el, ml, ds, f, z_set_self, ⟨h2.fr f1' h.wf (fun a ha => by omega), h3.mono (fun x y _ hr => hr.fr f1' h.wf S0)⟩,
    ⟨h4.fr f1' h.wf (fun a ha => by omega), h5.mono (fun x y _ hr => hr.fr f1' h.wf S0 (fun a ha (q : o a = 1030 + n) => by have := hr.1; omega)), h6⟩, h7, f1.cell h.wf h8 hmq, h9⟩ hce (by rw [h_u_set]; omega) (fun _ _ _ _ _ => rfl) (h.1.2.2.1.node (fun e he => h.1.2.2.1.sent hn6 e he))
  rw [s_up1_id] at H
  exact H
/-- a node loses an entry, its nonces are dead -/
theorem h_go.close (h : h_go g C o μ E B G) (hq : (c_ns C)[n]? = some q) (hp : (E n)[i]? = some p) (he : (g_es G n)[i]? = some e) :
    ∃ μ1, (∀ (α : Type) (kk : Nat → z_M → Option α), (x_b (D_X13_loses g q (some p) μ) fun μ161 => x_gl μ161 q 13 3 fun y162 => x_o (some p) fun p166 => x_gl μ161 p166 17 5 fun y167 => x_pf μ161 q 13 3 (.long (y162 ||| y167)) (kk p166)) = kk p μ1) ∧
      h_go g C o μ1 (s_up1 E n ((E n).eraseIdx i)) B (s_close n i (e_nonces e) G) ∧ h_en g o μ1 n p e ∧ h_fr g (fun a => o a = 1020 + n ∨ o a = 1030 + n) o μ o μ1 := by
  obtain ⟨ce, hno⟩ := h.node0 hq
  have hen := hno.en hp he
  obtain ⟨μ1, e1, h1, f1, u1⟩ := h.lose hq hp
  have hen1 := hen.fr f1 h.wf (fun a ha (q : o a = 1020 + n) => by omega) (fun a ha (q : o a = 1020 + n) => by
    have := hen.1
    have := h.nodes.2
    have hn := (List.getElem?_eq_some_iff.mp hq).1
    have h6 : n_nodes (c_N C) ≤ 6 := h.hN.1.1.2
    omega)
  obtain ⟨k1, μ2, k2, h2, f2⟩ := h1.setDead (y := g_dead (g_ses G n ((g_es G n).eraseIdx i)) n ||| e_nonces e) hq
  have hen1' := hen1
  obtain ⟨-, -, -, nm, al, ca, c3, -, -⟩ := hen1'
  refine ⟨μ2, fun α kk => ?_, ?_, hen1.fr f2 h1.wf (fun a ha (q : o a = 1030 + n) => by omega) (fun a ha (q : o a = 1030 + n) => by
    have := hen.1
    have := h.nodes.2
    have hn := (List.getElem?_eq_some_iff.mp hq).1
    have h6 : n_nodes (c_N C) ≤ 6 := h.hN.1.1.2
    omega), f1.trans f2 (fun a _ q => q)⟩
  · rw [e1, x_bS, k1, x_oS, x_glS c3 rfl, k2]
  · have eG : g_sdead (g_ses G n ((g_es G n).eraseIdx i)) n (g_dead (g_ses G n ((g_es G n).eraseIdx i)) n ||| e_nonces e) = s_close n i (e_nonces e) G := by
      rw [s_close_snd]
      have e1 : g_nd (g_ses G n ((g_es G n).eraseIdx i)) n = ((g_es G n).eraseIdx i, (g_nd G n).2) := s_up1_s
      have e2 : g_dead (g_ses G n ((g_es G n).eraseIdx i)) n = (g_nd G n).2.2 := by
        unfold g_dead
        rw [e1]
      unfold g_sdead
      rw [e2, e1]
      show g_snd (g_snd G (s_up1 (g_nd G) n ((g_es G n).eraseIdx i, (g_nd G n).2))) (s_up1 (s_up1 (g_nd G) n ((g_es G n).eraseIdx i, (g_nd G n).2)) n ((g_es G n).eraseIdx i, (g_nd G n).2.1, (g_nd G n).2.2 ||| e_nonces e)) = g_snd G (s_clo n i (e_nonces e) (g_nd G))
      rw [s_up1_up1]
      rfl
    rw [eG] at h2
    exact h2
/-- the entries that data answer are gone through -/
theorem h_go.answers {pm pd v3 v5 l11 c11 : Nat} {fm : List Value} {fresh : Bool} {L : List Nat} (K : z_M → Option z_M) (hn : n < n_nodes (c_N C)) (hqn : (c_ns C)[n]? = some q) (h : h_go g C o μ E B G) (hm : μ.1 pm = some (.inr (15, fm))) (hom : o pm = 0) (hm7 : fm[7]? = some (.ref pd)) (hm5 : fm[5]? = some (.int src))
    (hd : h_dt o μ pd (name, r.1, r.2.1)) (hs : ∃ m f, m < 6 ∧ f < 2 ∧ src = nI (10 * m + f) ∧ r.2.2.1 = nI m ∧ r.2.2.2 = nI f) (hL : h_ls g o μ 901 l11 c11 L) (hmt : s_mt name fresh (E n) (g_es G n) = L) (hl : (g_ways G).length + 6 * (g_es G n).length ≤ c_Mw C) (hmm : L.length ≤ m) :
    ∃ o1 μ1 E', (x_b2 (D_J2_iterator g l11 μ) fun o138 μ139 => D_X12_gets_193 g (c_a C) (nI n) pm q o138 K x_F μ139) = K μ1 ∧
      h_go g C o1 μ1 E' (B + 9 + k_answerAll (c_N C) (c_lk C) n name fresh r m G) (s_answerAll (c_N C) (c_lk C) n name fresh r m G) ∧ h_fr g (fun a => 1000 ≤ o a) o μ o1 μ1 := by
  have hN := h.hN
  have h6 : n_nodes (c_N C) ≤ 6 := hN.1.1.2
  obtain ⟨μ2, e2, hI, f2, n2, u2⟩ := hL.iter (t' := 900) h.wf
  have h2 := h.fr (b := 9) f2 (fun a q => q.elim) (by omega)
  have hLb : L.length ≤ 9000 := by
    obtain ⟨ce, hno, hce, -, -, -⟩ := h.node hqn
    obtain ⟨-, _, _, _, _, _, -, -, ⟨k4, k5, -⟩, -⟩ := hno
    have := k4.2.1
    have hMe : c_Me C ≤ 64 := h.1.2.2.2.2
    have hlen : (s_mt name fresh (E n) (g_es G n)).length ≤ (E n).length := by
      have : ∀ (xs : List Nat) (es : List s_E), (s_mt name fresh xs es).length ≤ xs.length := by
        intro xs
        induction xs with
        | nil => intro es; exact Nat.le_refl _
        | cons x xs ih =>
          intro es
          cases es with
          | nil => exact Nat.zero_le _
          | cons e es =>
            show (if s_wt name fresh e = true then x :: s_mt name fresh xs es else s_mt name fresh xs es).length ≤ _
            by_cases c : s_wt name fresh e = true
            · rw [if_pos c]; exact Nat.succ_le_succ (ih es)
            · rw [if_neg c]; exact Nat.le_succ_of_le (ih es)
      exact this _ _
    rw [hmt] at hlen
    omega
  obtain ⟨μ3, e3, o3, E3, G3, sp, r1, r2, r3, r4, r5, r6, r7, r8⟩ := x_forL (γ := z_M) (δ := Unit) (β := Option z_M) L
    (R := fun k s _ => ∃ o' E' G' sp, h_go g C o' s E' (B + 9 + sp) G' ∧ h_it s μ.2.1 l11 k ∧ o' μ.2.1 = 900 ∧ h_fr g (fun a => 1000 ≤ o a) o μ o' s ∧ s_mt name fresh (E' n) (g_es G' n) = L.drop k ∧ (g_ways G').length + 6 * (g_es G' n).length ≤ c_Mw C ∧
      s_answerAll (c_N C) (c_lk C) n name fresh r m G = s_answerAll (c_N C) (c_lk C) n name fresh r (m - k) G' ∧ sp + k_answerAll (c_N C) (c_lk C) n name fresh r (m - k) G' = k_answerAll (c_N C) (c_lk C) n name fresh r m G)
    (L := fun fu s => D_X12_gets_193 g (c_a C) (nI n) pm q (some μ.2.1) K fu s)
    (K := K) (f := fun _ u => u)
    (fun fu s _ hR => by
      obtain ⟨o', E', G', sp, h1, i1, o1, f1, a1, a2, a3, a4⟩ := hR
      have hL1 := hL.fr f1 h.wf (fun a ha (q : 1000 ≤ o a) => by omega)
      show D_X12_gets_193 _ _ _ _ _ _ _ (fu + 1) _ = _
      unfold D_X12_gets_193
      rw [x_oS]
      exact i1.end hL1 _ _)
    (fun fu k x s _ hR hk => by
      obtain ⟨o', E', G', sp, h1, i1, o1, f1, a1, a2, a3, a4⟩ := hR
      have hkl := (List.getElem?_eq_some_iff.mp hk).1
      have hL1 := hL.fr f1 h.wf (fun a ha (q : 1000 ≤ o a) => by omega)
      have hdrop : L.drop k = x :: L.drop (k + 1) := by
        rw [List.drop_eq_getElem_cons hkl, (List.getElem?_eq_some_iff.mp hk).2]
      rw [hdrop] at a1
      have hpl : μ.2.1 < s.2.1 := by
        obtain ⟨y, mm, arr, sz, k1, k2⟩ := i1
        exact h1.wf.lt k1
      obtain ⟨ce9, hno9⟩ := h1.node0 hqn
      have hno9' := hno9
      obtain ⟨-, _, _, _, _, _, -, -, ⟨k49, k59, -⟩, -⟩ := hno9'
      obtain ⟨i9, e9, b19, b29, -⟩ := s_mt_cons (E' n) (g_es G' n) x (L.drop (k + 1)) k59.1 a1
      obtain ⟨μ4, e4, i4, f4, u4⟩ := i1.elem hL1 h1.wf hk (hno9.en b19 b29).isA
      have h4 := h1.fr (b := 0) f4 (fun a q => by rw [q, o1]; omega) (by unfold h_u; rw [u4]; omega)
      have f14 : h_fr g (fun a => 1000 ≤ o a) o μ o' μ4 := f1.trans f4 (fun a ha q => by
        rcases q with q | q
        · exact q
        · omega)
      obtain ⟨ce, hno⟩ := h4.node0 hqn
      have hno' := hno
      obtain ⟨-, -, -, -, -, -, -, -, ⟨k4, k5, -⟩, -⟩ := hno'
      obtain ⟨i, e, b1, b2, b3, b4, b5⟩ := s_mt_cons (E' n) (g_es G' n) x (L.drop (k + 1)) k5.1 a1
      have hen := hno.en b1 b2
      obtain ⟨μ5, k6, h5, hen5, f5⟩ := h4.close hqn b1 b2
      have f15 : h_fr g (fun a => 1000 ≤ o a) o μ o' μ5 := f14.trans f5 (fun a ha q => by
        rcases q with q | q | q
        · exact q
        · rw [f14.2.1 a ha] at q; omega
        · rw [f14.2.1 a ha] at q; omega)
      have S0 : ∀ a, o a = 0 → ¬ 1000 ≤ o a := fun a ha => by omega
      have hm5' := f15.cell h.wf hm (S0 _ hom)
      have hom5 : o' pm = 0 := (f15.2.1 pm (h.wf.lt hm)).trans hom
      have hd5 := hd.fr f15 h.wf S0
      have ecl : (g_ways (s_close n i (e_nonces e) G')).length = (g_ways G').length := by rw [s_close_snd]; rfl
      have hesl : i < (g_es G' n).length := (List.getElem?_eq_some_iff.mp b2).1
      have eces : g_es (s_close n i (e_nonces e) G') n = (g_es G' n).eraseIdx i := by
        rw [s_close_snd]
        show (s_clo n i (e_nonces e) (g_nd G') n).1 = _
        unfold s_clo
        rw [s_up1_s]
        rfl
      obtain ⟨o6, μ6, e6, h6', f6, l6⟩ := h5.dataAll (r := r) (name := name) (e := e) (fm := fm) (pd := pd) (src := src) q μ.2.1 (fun (μ215 : z_M) => x_gr μ215 x 17 4 fun o216 => x_o o216 fun p220 => x_ob μ215 p220 3 fun _ => x_b2 (D_J2_iterator g p220 μ215) fun o224 μ225 => D_X12_gets_295 g (c_a C) (nI n) pm q μ.2.1 o224 (fun (μ261 : z_M) => D_X12_gets_193 g (c_a C) (nI n) pm q (some μ.2.1) K fu μ261) x_F μ225) hn hen5 hm5' hom5 hm7 hm5 hd5 hs (by
        rw [ecl]; omega)
      have S1 : ∀ a, o' a = 0 → ¬ (o' a = 1000 ∨ o' a = 1001) := fun a ha => by omega
      have hen6 := hen5.fr f6 h5.wf S1 (fun a ha (q : o' a = 1000 ∨ o' a = 1001) => by have := hen5.1; omega)
      have hm6 := f6.cell h5.wf hm5' (S1 _ hom5)
      have hom6 : o6 pm = 0 := (f6.2.1 pm (h5.wf.lt hm5')).trans hom5
      obtain ⟨o7, μ7, e7, h7, f7⟩ := h6'.getAll (r := r) (e := e) (v3 := q) (v5 := μ.2.1) (i := n) (fun (μ261 : z_M) => D_X12_gets_193 g (c_a C) (nI n) pm q (some μ.2.1) K fu μ261) hen6 hm6 hom6 hm7 hm5 hs
      have f16 : h_fr g (fun a => 1000 ≤ o a) o μ o6 μ6 := f15.trans f6 (fun a ha q => by
        rcases q with q | q
        · exact q
        · rw [f15.2.1 a ha] at q; omega)
      have f17 : h_fr g (fun a => 1000 ≤ o a) o μ o7 μ7 := f16.trans f7 (fun a ha q => by
        rcases q with q | q
        · exact q
        · rw [f16.2.1 a ha] at q; omega)
      have en : e_name e = name := by
        have b3' := b3
        unfold s_wt at b3'
        rw [Bool.and_eq_true] at b3'
        exact of_decide_eq_true b3'.1
      have eans : s_getAll (e_asks e) r (s_dataAll (c_N C) (c_lk C) n (e_in e) name r (s_close n i (e_nonces e) G')) = s_answer (c_N C) (c_lk C) n i e r G' := by rw [s_answer_close, en]
      have hff := s_ff_is b2 b3 b4
      have hmk : m - k = (m - (k + 1)) + 1 := by omega
      have ens : s_answerAll (c_N C) (c_lk C) n name fresh r (m - k) G' = s_answerAll (c_N C) (c_lk C) n name fresh r (m - (k + 1)) (s_answer (c_N C) (c_lk C) n i e r G') := by
        rw [hmk]
        conv => lhs; unfold s_answerAll
        rw [hff]
        show (match (g_es G' n)[i]? with | none => G' | some e => _) = _
        rw [b2]
      have enk : k_answerAll (c_N C) (c_lk C) n name fresh r (m - k) G' = k_ent e + k_answerAll (c_N C) (c_lk C) n name fresh r (m - (k + 1)) (s_answer (c_N C) (c_lk C) n i e r G') := by
        rw [hmk]
        conv => lhs; unfold k_answerAll
        rw [hff]
        show (match (g_es G' n)[i]? with | none => 0 | some e => _) = _
        rw [b2]
      have ees : g_es (s_answer (c_N C) (c_lk C) n i e r G') n = (g_es G' n).eraseIdx i := by
        rw [← eans]
        unfold g_es at eces ⊢
        rw [s_getAll_nd, s_dataAll_nd]
        exact eces
      have ewy : (g_ways (s_answer (c_N C) (c_lk C) n i e r G')).length ≤ (g_ways G').length + 6 := by
        rw [← eans, s_getAll_ways]
        rw [ecl] at l6
        exact l6
      have hpop := s_popK_le (e_in e) h6
      have S9 : ¬ (o' μ.2.1 = 1000 ∨ o' μ.2.1 = 1001) := by omega
      have hp4 : μ.2.1 < μ4.2.1 := by rw [u4]; exact hpl
      have hp5 : μ.2.1 < μ5.2.1 := Nat.lt_of_lt_of_le hp4 f5.1
      have hp6 : μ.2.1 < μ6.2.1 := Nat.lt_of_lt_of_le hp5 f6.1
      have o6p : o6 μ.2.1 = 900 := (f6.2.1 _ hp5).trans o1
      have hll : l11 < μ.2.1 := by
        obtain ⟨-, -, -, -, mm, arr, k1, -⟩ := hL
        exact h.wf.lt k1
      have ol1 : o' l11 = 901 := (f14.2.1 l11 hll).trans hL.1
      have ol6 : o6 l11 = 901 := (f16.2.1 l11 hll).trans hL.1
      have i5 := i4.fr f5 f4.wf (fun (q : o' μ.2.1 = 1020 + n ∨ o' μ.2.1 = 1030 + n) => by omega) (fun (q : o' l11 = 1020 + n ∨ o' l11 = 1030 + n) => by omega)
      have i6 := i5.fr f6 h5.wf S9 (fun (q : o' l11 = 1000 ∨ o' l11 = 1001) => by omega)
      have i7 := i6.fr f7 h6'.wf (fun (q : o6 μ.2.1 = 1000) => by omega) (fun (q : o6 l11 = 1000) => by omega)
      have hel : ((g_es G' n).eraseIdx i).length + 1 = (g_es G' n).length := by
        rw [List.length_eraseIdx, if_pos hesl]; omega
      refine ⟨μ7, ?_, o7, s_up1 E' n ((E' n).eraseIdx i), s_answer (c_N C) (c_lk C) n i e r G', sp + k_ent e, ?_, i7, (f7.2.1 _ hp6).trans o6p, f17, ?_, by rw [ees]; omega, a3.trans ens, by rw [← a4, enk]; omega⟩
      · show D_X12_gets_193 _ _ _ _ _ _ _ (fu + 1) _ = _
        conv => lhs; unfold D_X12_gets_193
        rw [x_oS]
        refine (e4 _ _).trans ?_
        refine hno.ob.trans ?_
        refine (k6 _ _).trans ?_
        refine Eq.trans e6 ?_
        exact e7
      · rw [← eans]
        unfold k_ent
        exact h7.le (by omega)
      · rw [s_up1_s, ees]
        exact b5)
    x_F μ2 () ⟨h_o1 o μ.2.1 900, E, G, 0, h2, hI, if_pos rfl, f2.mono (fun a _ q => q.elim), hmt, hl, rfl, by rw [Nat.zero_add]; rfl⟩ (by rw [x_Fv]; omega)
  have hlt := r1
  rw [List.drop_length] at r5
  have hnil : s_ff name fresh (g_es G3 n) = none := by
    obtain ⟨ce, hno⟩ := r1.node0 hqn
    obtain ⟨-, _, _, _, _, _, -, -, ⟨k4, k5, -⟩, -⟩ := hno
    exact s_ff_no (s_mt_nil (E3 n) (g_es G3 n) k5.1 r5)
  have en3 : ∀ mm, s_answerAll (c_N C) (c_lk C) n name fresh r mm G3 = G3 ∧ k_answerAll (c_N C) (c_lk C) n name fresh r mm G3 = 0 := fun mm => by
    cases mm with
    | zero => exact ⟨rfl, rfl⟩
    | succ mm =>
      unfold s_answerAll k_answerAll
      rw [hnil]
      exact ⟨rfl, rfl⟩
  refine ⟨o3, μ3, E3, by rw [e2, x_b2S]; exact e3, ?_, r4⟩
  rw [r7, (en3 _).1]
  rw [(en3 _).2] at r8
  exact r1.le (by omega)
end T93
