/-! THE COMPONENT's LAW, 22: a node of the run changes; an entry takes; what is thrown -/
set_option maxRecDepth 100000
set_option linter.unusedVariables false
theorem h_tn_un {m n t : Nat} (hm : m < 6) (hn : n < 6) (h : h_tn m t) (h' : h_tn n t) : m = n := by
  rcases h with h | h | h | ⟨h, h9⟩ <;> rcases h' with h' | h' | h' | ⟨h', h8⟩ <;> omega
theorem s_setL_or {x : Int64} {k : Nat} (hk : k < 64) (hb : ∀ j, j < 64 → s_hasL x (nI j) = true → j < k) : s_setL (x ||| ((1 : Int64) <<< ((nI k).toInt64 &&& 63))) = s_setL x ++ [k] := by
  have H : ∀ n, n ≤ 64 → (List.range n).filter (fun j => s_hasL (x ||| ((1 : Int64) <<< ((nI k).toInt64 &&& 63))) (nI j)) = (List.range n).filter (fun j => s_hasL x (nI j)) ++ (if k < n then [k] else []) := by
    intro n
    induction n with
    | zero => intro _; rfl
    | succ n ih =>
      intro hn
      have e : s_hasL (x ||| ((1 : Int64) <<< ((nI k).toInt64 &&& 63))) (nI n) = (s_hasL x (nI n) || decide (n = k)) := by
        rw [s_hasL_or _ _ (by omega), s_hasL_1 hk (by omega)]
      rw [List.range_succ, List.filter_append, List.filter_append, ih (by omega)]
      have e1 : ∀ p : Nat → Bool, [n].filter p = if p n = true then [n] else [] := fun p => by
        cases h : p n
        · rw [List.filter_cons_of_neg (by rw [h]; decide), List.filter_nil]; rfl
        · rw [List.filter_cons_of_pos h, List.filter_nil]; rfl
      rw [e1, e1, e]
      by_cases c : n = k
      · subst c
        have hx : s_hasL x (nI n) = false := by
          cases h : s_hasL x (nI n)
          · rfl
          · exact absurd (hb n (by omega) h) (Nat.lt_irrefl _)
        rw [hx, if_neg (Nat.lt_irrefl _), if_pos (show (false || decide (n = n)) = true by rw [Bool.false_or]; exact decide_eq_true rfl), if_neg (show ¬ false = true by decide), if_pos (show n < n + 1 by omega), List.append_nil]
      · rw [decide_eq_false c, Bool.or_false]
        by_cases c2 : n < k
        · rw [if_neg (show ¬ k < n by omega), if_neg (show ¬ k < n + 1 by omega), List.append_nil, List.append_nil]
        · have hx : s_hasL x (nI n) = false := by
            cases h : s_hasL x (nI n)
            · rfl
            · exact absurd (hb n (by omega) h) c2
          rw [hx, if_pos (show k < n by omega), if_pos (show k < n + 1 by omega), if_neg (show ¬ false = true by decide), List.append_nil, List.append_nil]
  have := H 64 (Nat.le_refl _)
  rw [if_pos hk] at this
  exact this
/-- what it takes that an entry takes one more -/
def s_tc (t : Nat) : Nat := if t < 100 then 0 else 400
/-- whence: a node, or an ask -/
def s_ft (t : Nat) : Int32 := if t < 100 then nI t else -1
section T93
variable {g : z_G} {C : h_C} {o o1 : Nat → Nat} {μ μ1 : z_M} {E : Nat → List Nat} {B b p n q k w a0 t l x ce room i name c : Nat} {G G' : s_G} {S : Nat → Prop} {N : s_R} {xs es : List Nat} {nd : s_N} {ms : Nat → Int32} {but nonce : Int32} {e : s_E} {fs : List Value}
theorem h_no.congr {ms' : Nat → Int32} (h : h_no g o μ n q ce es nd ms) (hm : ∀ j, j < 6 → ms' (6 * n + j) = ms (6 * n + j)) : h_no g o μ n q ce es nd ms' := by
  obtain ⟨h0, sl, el, ml, ds, f, h1, h2, h3, h7, h8, h9⟩ := h
  exact ⟨h0, sl, el, ml, ds, f, h1, h2, h3, h7, h8, fun j hj => (h9 j hj).trans (hm j hj).symm⟩
/-- a node's change is the run's -/
theorem h_go.node (h : h_go g C o μ E B G) (hq : (c_ns C)[n]? = some q) : ∃ ce, h_no g o μ n q ce (E n) (g_nd G n) (g_meas G) ∧ ce ≤ c_Me C + c_Me C / 2 + 10 ∧ n < 6 ∧ n < n_nodes (c_N C) ∧
    ∀ (S : Nat → Prop) (o1 : Nat → Nat) (μ1 : z_M) (ce' : Nat) (es' : List Nat) (nd' : s_N) (ms' : Nat → Int32) (b : Nat), h_fr g S o μ o1 μ1 → (∀ a, S a → h_tn n (o a)) → h_no g o1 μ1 n q ce' es' nd' ms' → ce' ≤ c_Me C + c_Me C / 2 + 10 → h_u μ1 + 9 * ce ≤ h_u μ + b + 9 * ce' →
      (∀ m j, m < 6 → m ≠ n → j < 6 → ms' (6 * m + j) = g_meas G (6 * m + j)) → s_tms (g_smeas (g_snd G (s_up1 (g_nd G) n nd')) ms') → h_go g C o1 μ1 (s_up1 E n es') (B + b) (g_smeas (g_snd G (s_up1 (g_nd G) n nd')) ms') := by
  obtain ⟨⟨⟨h1, hw⟩, h2, h2t, h2m⟩, h3, ⟨h4, h5⟩, ⟨h6, h7⟩, ⟨fd, d1, d2, d3⟩, ⟨fe, e1, e2, e3⟩, cw, ce, ws, b1, ⟨b2, b3⟩, ⟨w1, w2⟩, n1⟩ := h
  have h6n : n_nodes (c_N C) ≤ 6 := h2.1.1.1.2
  have hnl := (List.getElem?_eq_some_iff.mp hq).1
  have hn6 : n < 6 := by omega
  refine ⟨ce n, n1 n q hq, b3 n, hn6, by omega, fun S o1 μ1 ce' es' nd' ms' b hf hS hno hce hu hms htm => ?_⟩
  have S1 : ∀ a, o a < 1010 → ¬ S a := fun a ha q => by
    have := h_tn_ge (hS a q)
    omega
  have S0 : ∀ a, o a = 0 → ¬ S a := fun a ha => S1 a (by omega)
  have hd : o (c_d C) = 3 := by obtain ⟨-, _, _, _, _, _, _, _, _, _, _, _, ⟨q, -⟩, _⟩ := h3; exact q
  have hsum := s_sum6_up (f := ce) (f' := s_up1 ce n ce') hn6 (fun j hj => s_up1_n hj)
  rw [s_up1_s] at hsum
  refine ⟨⟨⟨h1, hf.wf⟩, h2, htm, h2m⟩, h3.fr hf hw S0 (S1 _ (by omega)), ⟨(hf.2.1 _ (hw.lt h5)).trans h4, hf.cell hw h5 (S1 _ (by omega))⟩, ⟨h6.fr hf hw (fun a ha => S1 a (by omega)), h7⟩, ⟨fd, (hf.2.1 _ (hw.lt d2)).trans d1, hf.cell hw d2 (S1 _ (by omega)), d3⟩,
    ⟨fe, (hf.2.1 _ (hw.lt e2)).trans e1, hf.cell hw e2 (S1 _ (by omega)), fun k hk => (e3 k hk).fr hf hw S0⟩, cw, s_up1 ce n ce', ws, by omega, ⟨b2, fun m => ?_⟩, ⟨w1.fr hf hw (fun a ha => S1 a (by omega)), w2.mono (fun x y _ hr => hr.fr hf hw S0)⟩, fun m q' hq' => ?_⟩
  · by_cases em : m = n
    · rw [em, s_up1_s]; exact hce
    · rw [s_up1_n em]; exact b3 m
  · have hml := (List.getElem?_eq_some_iff.mp hq').1
    have hm6 : m < 6 := by omega
    by_cases em : m = n
    · subst em
      cases hq.symm.trans hq'
      show h_no g o1 μ1 m q (s_up1 ce m ce' m) (s_up1 E m es' m) (s_up1 (g_nd G) m nd' m) ms'
      rw [s_up1_s, s_up1_s, s_up1_s]
      exact hno
    · show h_no g o1 μ1 m q' (s_up1 ce n ce' m) (s_up1 E n es' m) (s_up1 (g_nd G) n nd' m) ms'
      rw [s_up1_n em, s_up1_n em, s_up1_n em]
      exact ((n1 m q' hq').fr hf hw S0 (fun a ha q => em (h_tn_un hm6 hn6 ha (hS a q)))).congr (fun j hj => hms m j hm6 em hj)
theorem h_en.ob {α : Type} {m : Option α} (h : h_en g o μ n p e) : x_ob μ p 17 (fun _ => m) = m := by
  obtain ⟨h0, h1, h2, q, al, ca, h3, h4, h5⟩ := h
  exact x_obS h3
/-- an entry takes one more -/
theorem h_en.takes (h : h_en g o μ n p e) (hw : h_wf g μ) (hok : z_ok g) (ht : t < 6 ∨ (100 ≤ t ∧ t < 161 ∧ nonce = nI (t - 100) ∧ ∀ j, j < 64 → s_hasL (e_asks e) (nI j) = true → j < t - 100)) :
    ∃ o1 μ1, D_X17_takes g p (s_ft t) nonce μ = some μ1 ∧ h_en g o1 μ1 n p (s_join t nonce e) ∧ h_fr g (fun a => o a = o p ∨ o a = o p + 8) o μ o1 μ1 ∧ h_u μ1 ≤ h_u μ + s_tc t ∧ o1 p = o p := by
  obtain ⟨h0, h1, h2, q, al, ca, h3, h4, h5⟩ := h
  have f1 := h_fr.setF (o := o) (fs' := [.ref q, .int (e_wish e), .int (e_ends e), .int (e_first e), .ref al, .long (e_nonces e ||| ((1 : Int64) <<< (nonce.toInt64 &&& 63))), .int (e_in e), .int (e_out e), .int (e_tried e), .int (e_sent e)]) hw h3
  have c1 : (z_set μ p (.inr (17, [.ref q, .int (e_wish e), .int (e_ends e), .int (e_first e), .ref al, .long (e_nonces e ||| ((1 : Int64) <<< (nonce.toInt64 &&& 63))), .int (e_in e), .int (e_out e), .int (e_tried e), .int (e_sent e)]))).1 p = some (.inr (17, [.ref q, .int (e_wish e), .int (e_ends e), .int (e_first e), .ref al, .long (e_nonces e ||| ((1 : Int64) <<< (nonce.toInt64 &&& 63))), .int (e_in e), .int (e_out e), .int (e_tried e), .int (e_sent e)])) := z_set_self
  unfold D_X17_takes
  rw [x_glS h3 rfl, x_pfS h3 (Nat.le_of_ble_eq_true rfl)]
  generalize hM : z_set μ p (.inr (17, [.ref q, .int (e_wish e), .int (e_ends e), .int (e_first e), .ref al, .long (e_nonces e ||| ((1 : Int64) <<< (nonce.toInt64 &&& 63))), .int (e_in e), .int (e_out e), .int (e_tried e), .int (e_sent e)])) = M at f1 c1
  have hM' : z_set μ p (.inr (17, List.set [.ref q, .int (e_wish e), .int (e_ends e), .int (e_first e), .ref al, .long (e_nonces e), .int (e_in e), .int (e_out e), .int (e_tried e), .int (e_sent e)] 5 (.long (e_nonces e ||| ((1 : Int64) <<< (nonce.toInt64 &&& 63)))))) = M := hM
  rw [hM']
  have hu : h_u M = h_u μ := by rw [← hM]; rfl
  have S0 : ∀ a, o a = 0 → ¬ a = p := fun a ha q => by rw [q] at ha; omega
  have S2 : ∀ a, o a = o p + 8 → ¬ a = p := fun a ha q => by rw [q] at ha; omega
  by_cases c : t < 100
  · have ht6 : t < 6 := by rcases ht with q | q; exact q; omega
    unfold s_ft
    rw [if_pos c, if_neg (oI_none (by omega)), x_giS c1 rfl]
    have f2 := h_fr.setF (o := o) (fs' := [.ref q, .int (e_wish e), .int (e_ends e), .int (e_first e), .ref al, .long (e_nonces e ||| ((1 : Int64) <<< (nonce.toInt64 &&& 63))), .int (e_in e ||| ((1 : Int32) <<< (nI t &&& 31))), .int (e_out e), .int (e_tried e), .int (e_sent e)]) f1.wf c1
    have f12 := f1.trans f2 (S := fun a => a = p) (fun a _ q => q.elim id id)
    refine ⟨o, _, x_pfS c1 (Nat.le_of_ble_eq_true rfl), ?_, f12.mono (fun a _ q => Or.inl (by rw [q])), by rw [h_u_set, hu]; exact Nat.le_add_right _ _, rfl⟩
    unfold s_join
    rw [if_pos c]
    exact ⟨h0, h1, h2, q, al, ca, z_set_self, h4.fr f12 hw S0, h5.fr f12 hw S2⟩
  · obtain ⟨t1, t2, rfl, t3⟩ : 100 ≤ t ∧ t < 161 ∧ nonce = nI (t - 100) ∧ ∀ j, j < 64 → s_hasL (e_asks e) (nI j) = true → j < t - 100 := by rcases ht with q | q; omega; exact q
    unfold s_ft
    rw [if_neg c, if_pos rfl]
    have hls : h_ls g o M (o p + 8) al ca ((s_setL (e_asks e)).map (h_in g)) := h5.fr f1 hw S2
    have hlen : ((s_setL (e_asks e)).map (h_in g)).length ≤ 64 := by
      rw [List.length_map]
      unfold s_setL
      exact Nat.le_trans (List.length_filter_le ..) (by rw [List.length_range]; exact Nat.le_refl _)
    have hcl := hls.2.1
    obtain ⟨o2, μ2, n1, e2, q2, f2, q3, q4, q5⟩ := hls.add (x := h_in g (t - 100)) hok f1.wf (by omega) ⟨"java/lang/Integer", "java/lang/Object", rfl, h_in_isA hok (by omega), Or.inr q2994⟩
    have f12 : h_fr g (fun a => o a = o p ∨ o a = o p + 8) o μ o2 μ2 := f1.trans f2 (fun a _ q => by
      rcases q with q | q
      · rw [q]; exact Or.inl rfl
      · exact Or.inr q)
    have c2 := f2.cell f1.wf c1 (fun (q : o p = o p + 8) => by omega)
    have eo : o2 p = o p := f12.2.1 p (hw.lt h3)
    refine ⟨o2, μ2, ?_, ?_, f12, by rw [hu] at q5; unfold s_tc; rw [if_neg c]; omega, eo⟩
    · rw [x_grR c1 rfl, h_valueOf hok (by omega), x_b2S, x_oS, hls.obK, e2, x_b2S]
    · unfold s_join
      rw [if_neg c]
      have hset : s_setL (e_asks e ||| ((1 : Int64) <<< ((nI (t - 100)).toInt64 &&& 63))) = s_setL (e_asks e) ++ [t - 100] := s_setL_or (by omega) t3
      refine ⟨by rw [eo]; exact h0, h1, fun j hj hb => ?_, q, al, n1, c2, (h4.fr f1 hw S0).fr f2 f1.wf (fun a ha (q : o a = o p + 8) => by omega), ?_⟩
      · have hb' : s_hasL (e_asks e ||| ((1 : Int64) <<< ((nI (t - 100)).toInt64 &&& 63))) (nI j) = true := hb
        rw [s_hasL_or _ _ hj, s_hasL_1 (by omega) hj, Bool.or_eq_true] at hb'
        rcases hb' with hb' | hb'
        · exact h2 j hj hb'
        · have := of_decide_eq_true hb'; omega
      · show h_ls g o2 μ2 (o2 p + 8) al n1 ((s_setL (e_asks e ||| ((1 : Int64) <<< ((nI (t - 100)).toInt64 &&& 63)))).map (h_in g))
        rw [hset, List.map_append, eo]
        exact q2
end T93
