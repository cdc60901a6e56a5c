/-! THE COMPONENT's LAW, 33: what was measured, kept; which entries data answer -/
set_option maxRecDepth 100000
set_option linter.unusedVariables false
theorem s_mt_len {name : Int32} {fresh : Bool} : ∀ (xs : List Nat) (es : List s_E), xs.length = es.length → (s_mt name fresh xs es).length = es.countP (s_wt name fresh)
  | [], [], _ => rfl
  | [], _ :: _, h => by cases h
  | _ :: _, [], h => by cases h
  | x :: xs, e :: es, h => by
    have ih := s_mt_len (name := name) (fresh := fresh) xs es (by simpa using h)
    show (if s_wt name fresh e = true then x :: s_mt name fresh xs es else s_mt name fresh xs es).length = _
    by_cases c : s_wt name fresh e = true
    · rw [if_pos c, List.countP_cons_of_pos c, List.length_cons, ih]
    · rw [if_neg c, List.countP_cons_of_neg c, ih]
section T93
variable {g : z_G} {C : h_C} {o o1 : Nat → Nat} {μ μ1 : z_M} {E : Nat → List Nat} {B b p n q k w a0 t l x ce room i c j d pit al ca m fr : Nat} {G G' : s_G} {S : Nat → Prop} {N : s_R} {xs es cs : List Nat} {nd : s_N} {ms : Nat → Int32} {but nonce name wish ends src v : Int32} {e : s_E} {fs : List Value} {r : s_Q}
theorem s_keep_eq {d : s_D} (hr : (g_ds G n).length ≤ room) : (if 0 < room then g_sds G n (s_put room d (g_ds G n)) else G) = g_sds G n (s_put room d (g_ds G n)) := by
  by_cases c : 0 < room
  · rw [if_pos c]
  · rw [if_neg c]
    have e0 : room = 0 := by omega
    have e1 : g_ds G n = [] := List.length_eq_zero_iff.mp (by omega)
    have e2 : s_put room d (g_ds G n) = g_ds G n := by
      rw [e1, e0]
      rfl
    rw [e2, g_sds_id]
/-- a measure is put down -/
theorem h_go.setMeas (h : h_go g C o μ E B G) (hq : (c_ns C)[n]? = some q) (hfr : fr < 6) (hv : ∃ x, x ≤ 99 ∧ v = nI x) : ∃ fs ml f μ1, μ.1 q = some (.inr (13, fs)) ∧ fs[2]? = some (.ref ml) ∧ μ.1 ml = some (h_ia 6 f) ∧ μ1 = z_set μ ml (h_ia 6 (h_up f fr v)) ∧
    h_go g C o μ1 E B (g_smeas G (s_up1 (g_meas G) (6 * n + fr) v)) ∧ h_fr g (fun a => o a = 1030 + n) o μ o μ1 := by
  obtain ⟨ce, hno, hce, hn6, hnn, reb⟩ := h.node hq
  have hno' := hno
  obtain ⟨h0, sl, el, ml, ds, f, h1, ⟨h2, h3⟩, ⟨h4, h5, h6⟩, h7, h8, h9⟩ := hno'
  have f1 := h_fr.setA (o := o) (x' := (6, .inl (h_up f fr v))) h.wf h8
  have f1' : h_fr g (fun a => o a = 1030 + n) o μ o (z_set μ ml (h_ia 6 (h_up f fr v))) := f1.mono (fun a _ q => by rw [q]; exact h7)
  have S0 : ∀ a, o a = 0 → ¬ o a = 1030 + n := fun a ha => by omega
  have hmq : q ≠ ml := fun e => by rw [← e, h1] at h8; cases h8
  refine ⟨_, ml, f, _, h1, rfl, h8, rfl, ?_, f1'⟩
  have H := reb _ o _ ce (E n) (g_nd G n) (s_up1 (g_meas G) (6 * n + fr) v) 0 f1' (fun a ha => Or.inr (Or.inr (Or.inl ha))) ⟨h0, sl, el, ml, ds, h_up f fr v, f1.cell h.wf h1 hmq, ⟨h2.fr f1' h.wf (fun a ha => by omega), h3.mono (fun x y _ hr => hr.fr f1' h.wf S0)⟩,
    ⟨h4.fr f1' h.wf (fun a ha => by omega), h5.mono (fun x y _ hr => hr.fr f1' h.wf S0 (fun a ha (q : o a = 1030 + n) => by have := hr.1; omega)), h6⟩, h7, z_set_self, fun j hj => by
      show (if j = fr then v else f j) = s_up1 (g_meas G) (6 * n + fr) v (6 * n + j)
      unfold s_up1
      by_cases e : j = fr
      · rw [if_pos e, if_pos (by omega)]
      · rw [if_neg e, if_neg (by omega)]; exact h9 j hj⟩ hce (by rw [h_u_set]; omega) (fun m j hm hmn hj => s_up1_n (by omega)) (by
      have ht := h.1.2.2.1
      rw [s_up1_id]
      obtain ⟨tm, t1, t2, t3, t4⟩ := ht
      refine ⟨tm, t1, t2, t3, fun i hi => ?_⟩
      show s_up1 (g_meas G) (6 * n + fr) v i = -1 ∨ _
      by_cases e : i = 6 * n + fr
      · rw [e]
        refine Or.inr ?_
        obtain ⟨x, x1, x2⟩ := hv
        exact ⟨x, x1, by show s_up1 (g_meas G) (6 * n + fr) v (6 * n + fr) = _; rw [s_up1_s, x2]⟩
      · rw [s_up1_n e]
        rcases t4 i hi with q | ⟨x, x1, x2⟩
        · exact Or.inl q
        · exact Or.inr ⟨x, x1, by show s_up1 (g_meas G) (6 * n + fr) v i = _; rw [s_up1_n e, x2]⟩)
  rw [s_up1_id, s_up1_id] at H
  exact H
/-- data are kept: the run -/
theorem h_go.keeps {pd : Nat} {d : s_D} (h : h_go g C o μ E B G) (hq : (c_ns C)[n]? = some q) (hd : h_dt o μ pd d) (hnod : ((g_ds G n).map (fun d => d.1)).Nodup) (hroom : (g_ds G n).length ≤ n_room (c_N C) n) :
    ∃ μ1, D_X13_keeps g q (some pd) (nI (n_room (c_N C) n)) μ = some μ1 ∧ h_go g C o μ1 E B (g_sds G n (s_put (n_room (c_N C) n) d (g_ds G n))) ∧ h_fr g (fun a => o a = 1010 + n) o μ o μ1 := by
  obtain ⟨ce, hno, hce, hn6, hnn, reb⟩ := h.node hq
  have h4 : n_room (c_N C) n ≤ 4 := (n_room_b h.hN hn6).2
  obtain ⟨μ1, e1, q1, f1, u1⟩ := hno.keeps h.wf h.ok hd hnod h4 hroom
  have hu : h_u μ1 = h_u μ := by unfold h_u; rw [u1]
  have H := reb _ o μ1 ce (E n) _ (g_meas G) 0 f1 (fun a ha => Or.inl ha) q1 hce (by omega) (fun _ _ _ _ _ => rfl) (h.1.2.2.1.node (fun e he => h.1.2.2.1.sent hn6 e he))
  rw [s_up1_id] at H
  exact ⟨μ1, e1, H, f1⟩
/-- the entries that data answer are found -/
theorem h_go.gets25 {pm pd l11 : Nat} {fm : List Value} {until_ : Int32} {d2 : Int32} (K : z_M → Option z_M) (h : h_go g C o μ E B G) (hqn : (c_ns C)[n]? = some q) (hm : μ.1 pm = some (.inr (15, fm))) (hom : o pm = 0) (hm7 : fm[7]? = some (.ref pd)) (hd : h_dt o μ pd (name, until_, d2))
    (hL : h_ls g o μ 901 l11 2 []) :
    ∃ o1 μ1 c11, D_X12_gets_25 g (c_a C) (nI n) (some pm) (some q) l11 K x_F 0 μ = K μ1 ∧ h_go g C o1 μ1 E (B + 44 * (g_es G n).countP (s_wt name (decide (¬ until_ < g_minute G)))) G ∧ h_ls g o1 μ1 901 l11 c11 (s_mt name (decide (¬ until_ < g_minute G)) (E n) (g_es G n)) ∧ h_fr g (fun a => o a = 901) o μ o1 μ1 := by
  have hMe : c_Me C ≤ 64 := h.1.2.2.2.2
  obtain ⟨ce0, hno0, hce0, -, -, -⟩ := h.node hqn
  obtain ⟨-, _, _, _, _, _, -, -, ⟨k4, k5, -⟩, -⟩ := hno0
  have hlen : (E n).length = (g_es G n).length := k5.1
  have hle : (E n).length ≤ 200 := by have := k4.2.1; omega
  obtain ⟨d0, d1, qd, dc, dn⟩ := hd
  obtain ⟨μ1, e1, o1, c1, r1, r2, r3, r4⟩ := x_forS (γ := z_M) (δ := Unit) (β := Option z_M)
    (R := fun k s _ => ∃ o' cap, h_go g C o' s E (B + 9 * (cap - 2)) G ∧ h_ls g o' s 901 l11 cap (s_mt name (decide (¬ until_ < g_minute G)) ((E n).take k) ((g_es G n).take k)) ∧
      (cap = 2 ∨ 3 ≤ (s_mt name (decide (¬ until_ < g_minute G)) ((E n).take k) ((g_es G n).take k)).length ∧ 2 ≤ cap ∧ cap ≤ (s_mt name (decide (¬ until_ < g_minute G)) ((E n).take k) ((g_es G n).take k)).length + (s_mt name (decide (¬ until_ < g_minute G)) ((E n).take k) ((g_es G n).take k)).length / 2 + 10) ∧ h_fr g (fun a => o a = 901) o μ o' s)
    (L := fun fu k s => D_X12_gets_25 g (c_a C) (nI n) (some pm) (some q) l11 K fu (nI k) s)
    (K := K) (st := fun _ u => u) (n := (E n).length)
    (fun fu s _ hR => by
      obtain ⟨o', cap, h1, -, -, -⟩ := hR
      obtain ⟨ce, hno⟩ := h1.node0 hqn
      obtain ⟨-, _, _, _, _, _, c1, -, ⟨m4, m5, -⟩, -⟩ := hno
      show D_X12_gets_25 _ _ _ _ _ _ _ (fu + 1) _ _ = _
      unfold D_X12_gets_25
      rw [x_oS, x_lsz c1 rfl m4, if_pos (Int32.le_refl _)])
    (fun fu k s _ hR hk => by
      obtain ⟨o', cap, h1, l1, cc, f1⟩ := hR
      obtain ⟨ce, hno⟩ := h1.node0 hqn
      obtain ⟨-, _, _, _, _, _, c1, -, ⟨m4, m5, -⟩, -⟩ := hno
      obtain ⟨x, hx⟩ := h_at (xs := E n) (n := (E n).length) (k := k) rfl hk
      obtain ⟨e, he, hen⟩ := m5.getL hx
      have he' : (g_es G n)[k]? = some e := he
      have hA : z_isA g s x "AskedNames$Entry" := hen.isA
      have hen' := hen
      obtain ⟨-, e1, -, nm, al, ca, c3, c4, -⟩ := hen'
      have S0 : ∀ a, o a = 0 → ¬ o a = 901 := fun a ha => by omega
      have hm1 := f1.cell h.wf hm (S0 _ hom)
      have dc1 := f1.cell h.wf dc (S0 _ d0)
      have dn1 := dn.fr f1 h.wf S0
      have hstep : D_X12_gets_25 g (c_a C) (nI n) (some pm) (some q) l11 K (fu + 1) (nI k) s = (if s_wt name (decide (¬ until_ < g_minute G)) e = true then (x_ob s l11 3 fun _ => x_b2 (D_J2_add g l11 (some x) s) fun x71 μ72 => D_X12_gets_25 g (c_a C) (nI n) (some pm) (some q) l11 K fu (nI (k + 1)) μ72) else D_X12_gets_25 g (c_a C) (nI n) (some pm) (some q) l11 K fu (nI (k + 1)) s) := by
        conv => lhs; unfold D_X12_gets_25
        rw [x_oS, x_lsz c1 rfl m4, if_neg (nI_ge hk (by omega)), x_lgt c1 rfl m4 hx hA, x_oS, x_grR c3 rfl, x_oS, x_grR hm1 hm7, x_oS, x_grR dc1 rfl, x_oS, x_gpI (c4.isA h1.wf), c4.eq dn1 h1.wf h.ok, x_bS]
        unfold s_wt
        by_cases q1 : e.1 = name
        · have q1' : v_ (e_name e) = v_ name := by rw [← q1]; rfl
          rw [if_pos q1', if_neg (show ¬ (1 : Int32) = 0 by decide), x_giS c3 rfl, x_lS, decide_eq_true q1, Bool.true_and]
          by_cases q2 : e.2.1 = 0
          · have q2' : e_wish e = 0 := q2
            rw [if_pos q2', decide_eq_true q2, Bool.true_or, if_pos rfl]
            congr 1
            funext _
            congr 1
            funext x71 μ72
            rw [x_lS, nI_1]
          · have q2' : ¬ e_wish e = 0 := q2
            rw [if_neg q2', decide_eq_false q2, Bool.false_or, x_grR hm1 hm7, x_oS, x_giS dc1 rfl, x_giS h1.ca rfl]
            by_cases q3 : until_ < g_minute G
            · rw [if_pos q3, decide_eq_false (fun q => q q3), if_neg (show ¬ false = true by decide), x_lS, nI_1]
            · rw [if_neg q3, decide_eq_true q3, if_pos rfl]
              congr 1
              funext _
              congr 1
              funext x71 μ72
              rw [x_lS, nI_1]
        · have q1' : ¬ v_ (e_name e) = v_ name := fun q => q1 ((s_wn_eq e1 d1).mp q)
          rw [if_neg q1', if_pos rfl, decide_eq_false q1, Bool.false_and, if_neg (show ¬ false = true by decide), x_lS, nI_1]
      have et1 : (E n).take (k + 1) = (E n).take k ++ [x] := by rw [List.take_succ, hx]; rfl
      have et2 : (g_es G n).take (k + 1) = (g_es G n).take k ++ [e] := by rw [List.take_succ, he']; rfl
      have hl2 : ((E n).take k).length = ((g_es G n).take k).length := by rw [List.length_take, List.length_take, hlen]
      have esn := s_mt_snoc (name := name) (fresh := decide (¬ until_ < g_minute G)) ((E n).take k) ((g_es G n).take k) x e hl2
      rw [← et1, ← et2] at esn
      by_cases cw : s_wt name (decide (¬ until_ < g_minute G)) e = true
      · rw [if_pos cw] at esn
        have hlb : (s_mt name (decide (¬ until_ < g_minute G)) ((E n).take k) ((g_es G n).take k)).length ≤ 200 := by
          rw [s_mt_len _ _ hl2]
          have h1 := List.countP_le_length (p := s_wt name (decide (¬ until_ < g_minute G))) (l := (g_es G n).take k)
          rw [List.length_take] at h1
          omega
        have hsa : x_sa g s 4 x := ⟨"AskedNames$Entry", "java/lang/Object", rfl, hA, Or.inr q2995⟩
        by_cases cin : (s_mt name (decide (¬ until_ < g_minute G)) ((E n).take k) ((g_es G n).take k)).length < cap
        · obtain ⟨μ2, a1, a2, a3, a4⟩ := l1.addIn h1.wf cin hsa
          have h2 := h1.fr (b := 0) a3 (fun a q => by have q' : o' a = 901 := q; omega) (by unfold h_u; rw [a4]; omega)
          refine ⟨μ2, by rw [hstep, if_pos cw, l1.obK, a1, x_b2S], o', cap, h2, by rw [esn]; exact a2, ?_, f1.trans a3 (fun a ha q => ?_)⟩
          · rw [esn, List.length_append]
            show cap = 2 ∨ 3 ≤ _ + 1 ∧ _ ∧ cap ≤ _ + 1 + (_ + 1) / 2 + 10
            rcases cc with cc | ⟨c5, c6, c7⟩
            · exact Or.inl cc
            · exact Or.inr ⟨by omega, c6, by omega⟩
          · rcases q with q | q
            · exact q
            · rw [f1.2.1 a ha] at q; exact q
        · obtain ⟨o2, μ2, n1, a1, a2, a3, a4, a5, a6⟩ := l1.add h.ok h1.wf (by omega) hsa
          have hcl := l1.2.1
          have h2 := h1.fr (b := 9 * (n1 - cap)) a3 (fun a q => by have q' : o' a = 901 := q; omega) a6
          have hc2 : 2 ≤ cap := by rcases cc with cc | ⟨-, c6, -⟩ <;> omega
          refine ⟨μ2, by rw [hstep, if_pos cw, l1.obK, a1, x_b2S], o2, n1, h2.le (by omega), by rw [esn]; exact a2, ?_, f1.trans a3 (fun a ha q => ?_)⟩
          · rw [esn, List.length_append]
            show n1 = 2 ∨ 3 ≤ _ + 1 ∧ _ ∧ n1 ≤ _ + 1 + (_ + 1) / 2 + 10
            refine Or.inr ⟨by omega, by omega, ?_⟩
            rcases a5 with a5 | a5
            · rcases cc with cc | ⟨c5, c6, c7⟩ <;> omega
            · omega
          · rcases q with q | q
            · exact q
            · rw [f1.2.1 a ha] at q; exact q
      · rw [if_neg cw, List.append_nil] at esn
        exact ⟨s, by rw [hstep, if_neg cw], o', cap, h1, by rw [esn]; exact l1, by rw [esn]; exact cc, f1⟩)
    x_F 0 μ () (Nat.zero_le _) ⟨o, 2, h.le (by omega), hL, Or.inl rfl, h_fr.refl h.wf⟩ (by rw [x_Fv]; omega)
  rw [List.take_of_length_le (Nat.le_refl _), List.take_of_length_le (by omega)] at r2 r3
  have hcnt := s_mt_len (name := name) (fresh := decide (¬ until_ < g_minute G)) (E n) (g_es G n) hlen
  refine ⟨o1, μ1, c1, e1, r1.le ?_, r2, r4⟩
  rw [← hcnt]
  rcases r3 with r3 | ⟨r5, r6, r7⟩ <;> omega
end T93
