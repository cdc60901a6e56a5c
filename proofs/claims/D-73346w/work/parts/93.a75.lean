/-! THE COMPONENT's LAW, 75: the call trail -/
set_option maxRecDepth 100000
set_option maxHeartbeats 400000
set_option linter.unusedVariables false
/-- nodes in a row of eight -/
def h_r8 (μ : z_M) (p : Nat) (l : List Nat) : Prop := ∃ f, μ.1 p = some (h_ia 8 f) ∧ ∀ i x, l[i]? = some x → f i = nI x
/-- the way back -/
def s_ahead (fr : Option Nat) : Int32 := match fr with
  | none => 0
  | some x => (1 : Int32) <<< (nI x &&& 31)
theorem s_walkN {N : s_R} {lk : Nat → Option Nat} {name m at_ : Nat} {been : Int32} {fr : Option Nat} {l : List Nat} (h1 : ¬ s_bit been (nI at_) = true) (h2 : s_serve N at_ name = none) : s_walk N lk name (m + 1) been fr at_ l = match s_next N lk 0 (fun _ => -1) at_ name (s_ahead fr) with
    | none => (2, l ++ [at_])
    | some to => s_walk N lk name m (been ||| ((1 : Int32) <<< (nI at_ &&& 31))) (some at_) to (l ++ [at_]) := by
  conv => lhs; unfold s_walk
  rw [if_neg h1, if_neg (fun q => q h2)]
  cases fr <;> rfl
theorem s_pop_le6 (x : Int32) : s_pop x ≤ 6 := by
  rw [s_pop_cnt]
  exact Nat.le_trans List.countP_le_length (by rw [List.length_range]; omega)
theorem l_snoc_get {l : List Nat} {i x y : Nat} (h : (l ++ [y])[i]? = some x) : l[i]? = some x ∨ i = l.length ∧ x = y := by
  by_cases c : i < l.length
  · rw [List.getElem?_append_left c] at h
    exact Or.inl h
  · rw [List.getElem?_append_right (by omega)] at h
    have hl := (List.getElem?_eq_some_iff.mp h).1
    have hl' : i - l.length < 1 := hl
    have e : i = l.length := by omega
    subst e
    rw [Nat.sub_self] at h
    exact Or.inr ⟨rfl, (Option.some.inj h).symm⟩
section T93
variable {g : z_G} {C : h_C} {o o1 o2 : Nat → Nat} {μ μ1 μ2 : z_M} {E : Nat → List Nat} {a s x tb v i K q B w name nn : Nat} {S : Nat → Prop} {N R L : s_R} {p : s_P} {T : s_T} {G : s_G} {n r m k node ix what c letters : Int32} {cc : Nat → Nat → Int32}
theorem x_acI {s d c l1 l2 : Nat} {f f2 : Nat → Int32} {a b : Nat} (ha : μ.1 a = some (h_ia l1 f)) (hb : μ.1 b = some (h_ia l2 f2)) (h1 : s + c ≤ l1) (h2 : d + c ≤ l2) (hl : l1 < 2 ^ 31 ∧ l2 < 2 ^ 31) :
    x_ac g μ (some a) (nI s) (some b) (nI d) (nI c) = some (z_set μ b (h_ia l2 (va_cpy f f2 s d c))) := by
  unfold x_ac
  rw [x_oS, x_oS, ha, hb]
  show x_gp _ _ = _
  have e1 : (nI s).toNatClampNeg = s := nI_clamp (by omega)
  have e2 : (nI d).toNatClampNeg = d := nI_clamp (by omega)
  have e3 : (nI c).toNatClampNeg = c := nI_clamp (by omega)
  rw [e1, e2, e3]
  refine x_gpI ⟨rfl, by decide, ⟨nI_pos (by omega), nI_pos (by omega), nI_pos (by omega), ?_, ?_⟩, fun q => absurd q (by decide)⟩
  · rw [e1, e3]; exact h1
  · rw [e2, e3]; exact h2
/-- a part of a row of ints, from its beginning -/
theorem x_cpI {b k n : Nat} {f : Nat → Int32} (hw : h_wf g μ) (ha : μ.1 b = some (h_ia n f)) (hk : k ≤ n) (hn : n ≤ 1000) : ∃ f', D_J10_copyOf_4 g (some b) (nI k) μ = some (some μ.2.1, z_new μ k (h_ia k f')) ∧ ∀ i, i < k → f' i = f i := by
  unfold D_J10_copyOf_4
  rw [x_oS, x_lnS (n := n) rfl ha]
  by_cases c : k = n
  · subst c
    refine ⟨f, ?_, fun i _ => rfl⟩
    rw [if_pos rfl]
    have e : x_cln μ b 0 = some (μ.2.1, z_new μ k (h_ia k f)) := by
      unfold x_cln
      rw [x_arS ha]
      exact x_gpI (fun q => absurd q (by decide))
    rw [e, x_b2S]
    exact x_gpI (x_icI (Or.inr (Or.inl ⟨0, _, z_new_self, by omega, rfl⟩)))
  · rw [if_neg (fun q => c ((nI_eq (by omega) (by omega)).mp q)), x_naS (by omega), x_nwS]
    have e1 : (z_new μ k (.inl (0, k, .inl (fun _ => 0)))).1 b = some (h_ia n f) := (z_new_ne (hw.ne ha)).trans ha
    refine ⟨va_cpy f (fun _ => 0) 0 0 k, ?_, fun i hi => ?_⟩
    · have e2 : x_ac g (z_new μ k (.inl (0, k, .inl (fun _ => 0)))) (some b) 0 (some μ.2.1) 0 (nI k) = some (z_set (z_new μ k (.inl (0, k, .inl (fun _ => 0)))) μ.2.1 (h_ia k (va_cpy f (fun _ => 0) 0 0 k))) := x_acI (s := 0) (d := 0) (c := k) (l2 := k) e1 z_new_self (by omega) (by omega) (by omega)
      rw [x_lnS (n := n) rfl e1, x_mnN (by omega) (by omega), Nat.min_eq_right hk, e2, x_bS, z_new_set]
    · unfold va_cpy
      rw [if_pos ⟨by omega, by omega⟩]
      congr 1
      omega
theorem s_adrN {ss : List Nat} {node name : Nat} (hl : ss.length = n_serves N) : (s_serve N node name = none → s_adr ss (s_serve N node name) = none) ∧ (s_serve N node name ≠ none → ∃ x, s_adr ss (s_serve N node name) = some x) := by
  constructor
  · intro h; rw [h]; rfl
  · intro h
    cases e : s_serve N node name with
    | none => exact absurd e h
    | some j =>
      obtain ⟨x, hx⟩ := h_at hl (s_serve_lt e)
      exact ⟨x, hx⟩
/-- a trail goes on -/
theorem h_go.trail17 {p2 : Nat} (Kf : Int32 → Int32 → Int32 → z_M → Option (Option Nat × z_M)) (hdn : g_down G = 0) (hms : g_meas G = fun _ => -1) (hop : o p2 = 870) : ∀ (m f : Nat) (been : Int32) (fr : Option Nat) (at_ : Nat) (l : List Nat) (μ : z_M), h_go g C o μ E B G → h_nm o μ w name → h_r8 μ p2 l → at_ < n_nodes (c_N C) → (∀ x, fr = some x → x < 6) → s_pop been + m = 7 → l.length = s_pop been → m < f →
    ∃ (μ1 : z_M) (L' : List Nat) (met at' : Int32), D_X12_trail_17 g (c_a C) (some w) p2 Kf f (nI l.length) been (oI fr) (nI at_) μ = Kf (nI L'.length) met at' μ1 ∧ h_go g C o μ1 E B G ∧ h_fr g (fun b => b = p2) o μ o μ1 ∧ h_r8 μ1 p2 L' ∧ L'.length ≤ 6 ∧
      ((at' = -1 ∧ s_walk (c_N C) (c_lk C) name m been fr at_ l = (2, L')) ∨ ∃ b, b < n_nodes (c_N C) ∧ at' = nI b ∧ s_walk (c_N C) (c_lk C) name m been fr at_ l = (if s_bit met (nI b) = true then 3 else 1, L' ++ [b])) := by
  intro m
  induction m with
  | zero =>
    intro f been fr at_ l μ h hw hr hat hfr hm hl hf
    have := s_pop_le6 been
    omega
  | succ m ih =>
    intro f been fr at_ l μ h hw hr hat hfr hm hl hf
    obtain ⟨f, rfl⟩ : ∃ f', f = f' + 1 := ⟨f - 1, by omega⟩
    have hN := h.hN
    have h6 : n_nodes (c_N C) ≤ 6 := hN.1.1.2
    have hpop6 := s_pop_le6 been
    have hD : D_X12_trail_17 g (c_a C) (some w) p2 Kf (f + 1) (nI l.length) been (oI fr) (nI at_) μ = if s_bit been (nI at_) = true then Kf (nI l.length) been (nI at_) μ else (x_nu (s_adr (c_ss C) (s_serve (c_N C) at_ name)) (x_ar μ p2 0 fun n31 f32 =>
        x_ga (nI l.length) n31 fun j34 => x_l (x_ia μ p2 0 n31 j34 f32 (nI at_)) fun μ37 => x_l (nI l.length + (1 : Int32)) fun v38 => x_l (been ||| ((1 : Int32) <<< (nI at_ &&& 31))) fun v39 =>
        x_l (fun (s40 : Int32) (s41 : Option Nat) (s42 : Int32) => x_ob μ37 (c_a C) 12 fun _ => x_b (D_X12_best g (c_a C) s40 s41 s42 μ37) fun x46 => D_X12_trail_17 g (c_a C) (some w) p2 Kf f v38 v39 (nI at_) x46 μ37) fun J82 =>
        if oI fr = (-1 : Int32) then (J82 (nI at_) (some w) (0 : Int32)) else J82 (nI at_) (some w) ((1 : Int32) <<< (oI fr &&& 31))) fun p30 => Kf (nI l.length) been (nI at_) μ) := by
      conv => lhs; unfold D_X12_trail_17
      rw [if_neg (show ¬ nI at_ = -1 from oI_none (by omega)), x_has, x_bS]
      by_cases c : s_bit been (nI at_) = true
      · rw [if_pos c, if_neg (show ¬ (1 : Int32) = 0 by decide), if_pos c]
      · rw [if_neg c, if_pos (show (0 : Int32) = 0 from rfl), if_neg c, x_grR h.ca rfl, x_oS, h.nt.ob, h.nt.server hN hw h.wf h.ok (by omega), x_bS]
    rw [hD]
    by_cases d1 : s_bit been (nI at_) = true
    · refine ⟨μ, l, been, nI at_, if_pos d1, h, h_fr.refl h.wf, hr, by omega, Or.inr ⟨at_, hat, rfl, ?_⟩⟩
      unfold s_walk
      rw [if_pos d1, if_pos d1]
    · have d1' : s_bit been (nI at_) = false := by simpa using d1
      have hpo := s_pop_or been (show at_ < 6 by omega) d1'
      have hp7 := s_pop_le6 (been ||| ((1 : Int32) <<< (nI at_ &&& 31)))
      rw [if_neg d1]
      obtain ⟨sn, ss⟩ := s_adrN (N := c_N C) (ss := c_ss C) (node := at_) (name := name) h.serveN
      by_cases cs : s_serve (c_N C) at_ name = none
      · rw [sn cs, x_nuN]
        obtain ⟨fr8, r1, r2⟩ := hr
        have F1 : h_fr g (fun b => b = p2) o μ o (z_set μ p2 (h_ia 8 (h_up fr8 l.length (nI at_)))) := h_fr.setA h.wf r1
        have h2 : h_go g C o (z_set μ p2 (h_ia 8 (h_up fr8 l.length (nI at_)))) E (B + 0) G := h.fr (b := 0) F1 (fun b q => by subst q; omega) (by rw [h_u_set]; omega)
        have hw2 := hw.fr F1 h.wf (fun b hb q => by subst q; omega)
        have hr2 : h_r8 (z_set μ p2 (h_ia 8 (h_up fr8 l.length (nI at_)))) p2 (l ++ [at_]) := ⟨_, z_set_self, fun i y hy => by
          rcases l_snoc_get hy with q | ⟨q1, q2⟩
          · have hi := (List.getElem?_eq_some_iff.mp q).1
            exact (if_neg (by omega)).trans (r2 i y q)
          · rw [q1, q2]
            exact if_pos rfl⟩
        have hlen : (l ++ [at_]).length = l.length + 1 := by rw [List.length_append]; rfl
        have hnx : ∀ but : Int32, but = s_ahead fr → ∃ (μ1 : z_M) (L' : List Nat) (met at' : Int32), (x_ob (z_set μ p2 (h_ia 8 (h_up fr8 l.length (nI at_)))) (c_a C) 12 fun _ => x_b (D_X12_best g (c_a C) (nI at_) (some w) but (z_set μ p2 (h_ia 8 (h_up fr8 l.length (nI at_))))) fun x46 => D_X12_trail_17 g (c_a C) (some w) p2 Kf f (nI (l.length + 1)) (been ||| ((1 : Int32) <<< (nI at_ &&& 31))) (nI at_) x46 (z_set μ p2 (h_ia 8 (h_up fr8 l.length (nI at_))))) = Kf (nI L'.length) met at' μ1 ∧ h_go g C o μ1 E B G ∧ h_fr g (fun b => b = p2) o μ o μ1 ∧ h_r8 μ1 p2 L' ∧ L'.length ≤ 6 ∧
            ((at' = -1 ∧ s_walk (c_N C) (c_lk C) name (m + 1) been fr at_ l = (2, L')) ∨ ∃ b, b < n_nodes (c_N C) ∧ at' = nI b ∧ s_walk (c_N C) (c_lk C) name (m + 1) been fr at_ l = (if s_bit met (nI b) = true then 3 else 1, L' ++ [b])) := by
          intro but hb
          rw [h2.ob, h2.best hat hw2, x_bS, s_walkN d1 cs, ← hb, hdn, hms]
          cases hx : s_next (c_N C) (c_lk C) 0 (fun _ => -1) at_ name but with
          | none =>
            refine ⟨_, l ++ [at_], been ||| ((1 : Int32) <<< (nI at_ &&& 31)), -1, ?_, h2, F1, hr2, by rw [hlen]; omega, Or.inl ⟨rfl, rfl⟩⟩
            obtain ⟨f, rfl⟩ : ∃ f', f = f' + 1 := ⟨f - 1, by omega⟩
            rw [hlen]
            conv => lhs; unfold D_X12_trail_17
            rw [if_pos (show oI none = -1 from rfl)]
            rfl
          | some to =>
            obtain ⟨u1, u2, u3⟩ := s_next_some hx hN
            obtain ⟨v1, v2, v3, -⟩ := s_up_ok hN h.hlk (by omega) u1 u2
            obtain ⟨μ1, L', met, at', e1, h3, F3, r3, l3, c3⟩ := ih f (been ||| ((1 : Int32) <<< (nI at_ &&& 31))) (some at_) to (l ++ [at_]) _ h2 hw2 hr2 v2 (fun x hx => by cases hx; omega) (by omega) (by omega) (by omega)
            rw [hlen] at e1
            exact ⟨μ1, L', met, at', e1, h3, F1.trans F3 (fun b _ q => q.elim id id), r3, l3, c3⟩
        rw [x_arW r1 rfl (by omega) (by omega), x_lS, nI_1, x_lS, x_lS]
        cases fr with
        | none =>
          rw [if_pos (show oI none = -1 from rfl)]
          exact hnx 0 rfl
        | some y =>
          have hy6 := hfr y rfl
          rw [if_neg (show ¬ oI (some y) = -1 from oI_none (by omega))]
          exact hnx ((1 : Int32) <<< (nI y &&& 31)) rfl
      · obtain ⟨x, hx⟩ := ss cs
        rw [hx, x_nuS]
        refine ⟨μ, l, been, nI at_, rfl, h, h_fr.refl h.wf, hr, by omega, Or.inr ⟨at_, hat, rfl, ?_⟩⟩
        unfold s_walk
        rw [if_neg d1, if_pos cs, if_neg d1]
/-- a trail: its row, how it ends -/
theorem h_go.trail (h : h_go g C o μ E B G) (hw : h_nm o μ w name) (hdn : g_down G = 0) (hms : g_meas G = fun _ => -1) (hat : nn < n_nodes (c_N C)) : ∃ o1 μ1 q f, D_X12_trail g (c_a C) (nI nn) (some w) μ = some (some q, μ1) ∧ h_fr g (fun _ => False) o μ o1 μ1 ∧ h_u μ1 ≤ B + k_rooms C + 60 ∧ (s_trail (c_N C) (c_lk C) nn name).2.length ≤ 7 ∧
    μ1.1 q = some (h_ia ((s_trail (c_N C) (c_lk C) nn name).2.length + 1) f) ∧ (∀ i x, (s_trail (c_N C) (c_lk C) nn name).2[i]? = some x → f i = nI x) ∧ f (s_trail (c_N C) (c_lk C) nn name).2.length = (s_trail (c_N C) (c_lk C) nn name).1 := by
  have hN := h.hN
  have h6 : n_nodes (c_N C) ≤ 6 := hN.1.1.2
  have h1 := h.new (t := 870) (m := 8) (x := h_ia 8 (fun _ => 0))
  have F0 : h_fr g (fun _ => False) o μ (h_o1 o μ.2.1 870) (z_new μ 8 (h_ia 8 (fun _ => 0))) := h_fr.new h.wf
  have hw1 := hw.fr F0 h.wf (fun _ _ q => q)
  have lp : μ.2.1 < (z_new μ 8 (h_ia 8 (fun _ => 0))).2.1 := Nat.lt_succ_self _
  -- the tail
  have tail : ∀ (μ2 : z_M) (L' : List Nat) (o2 : Nat → Nat) (code : Int32), h_go g C o2 μ2 E (B + (5 + 8)) G → h_r8 μ2 μ.2.1 L' → L'.length ≤ 7 → ∃ μ3 f3, (∀ (kk : Option Nat → z_M → Option (Option Nat × z_M)), (x_b2 (D_J10_copyOf_4 g (some μ.2.1) (nI L'.length + (1 : Int32)) μ2) fun o55 μ56 => kk o55 μ56) = kk (some μ2.2.1) (z_new μ2 (L'.length + 1) (h_ia (L'.length + 1) f3))) ∧ (∀ i x, L'[i]? = some x → h_up f3 L'.length code i = nI x) ∧ h_up f3 L'.length code L'.length = code ∧ μ3 = z_new μ2 (L'.length + 1) (h_ia (L'.length + 1) (h_up f3 L'.length code)) ∧ (∀ (kk : z_M → Option (Option Nat × z_M)), (x_ar (z_new μ2 (L'.length + 1) (h_ia (L'.length + 1) f3)) μ2.2.1 0 fun n78 f79 => x_ga (nI L'.length) n78 fun j81 => x_l (x_ia (z_new μ2 (L'.length + 1) (h_ia (L'.length + 1) f3)) μ2.2.1 0 n78 j81 f79 code) kk) = kk μ3) := by
    intro μ2 L' o2 code h2 hr2 hl7
    obtain ⟨f2, r1, r2⟩ := hr2
    obtain ⟨f3, e3, c3⟩ := x_cpI (k := L'.length + 1) h2.wf r1 (by omega) (by omega)
    refine ⟨_, f3, fun kk => ?_, fun i x hx => ?_, if_pos rfl, rfl, fun kk => ?_⟩
    · rw [nI_1, e3, x_b2S]
    · have hi := (List.getElem?_eq_some_iff.mp hx).1
      exact (if_neg (by omega)).trans ((c3 i (by omega)).trans (r2 i x hx))
    · exact x_arN (i := nI L'.length) (j := L'.length) rfl (by omega) (by omega)
  obtain ⟨μ2, L', met, at', e2, h2, F2, r2, l2, c2⟩ := h_go.trail17 (C := C) (g := g) (w := w) (name := name) (p2 := μ.2.1) (fun (v4_48 : Int32) (v5_49 : Int32) (v7_50 : Int32) (μ51 : z_M) => x_l (fun (v4_52 : Int32) (μ53 : z_M) => x_b2 (D_J10_copyOf_4 g (some μ.2.1) (v4_52 + (1 : Int32)) μ53) fun o55 μ56 =>
      if v7_50 = (-1 : Int32) then (x_o o55 fun p77 => x_ar μ56 p77 0 fun n78 f79 => x_ga v4_52 n78 fun j81 => x_l (x_ia μ56 p77 0 n78 j81 f79 (2 : Int32)) fun μ84 => some ((some p77), μ84)) else
      x_b (D_X0_has v5_49 v7_50) fun x59 => if x59 = 0 then (x_o o55 fun p61 => x_ar μ56 p61 0 fun n62 f63 => x_ga v4_52 n62 fun j65 => x_l (x_ia μ56 p61 0 n62 j65 f63 (1 : Int32)) fun μ68 => some ((some p61), μ68)) else
      x_o o55 fun p69 => x_ar μ56 p69 0 fun n70 f71 => x_ga v4_52 n70 fun j73 => x_l (x_ia μ56 p69 0 n70 j73 f71 (3 : Int32)) fun μ76 => some ((some p69), μ76)) fun J113 =>
      if v7_50 = (-1 : Int32) then (J113 v4_48 μ51) else x_ar μ51 μ.2.1 0 fun n86 f87 => x_ga v4_48 n86 fun j89 => x_l (x_ia μ51 μ.2.1 0 n86 j89 f87 v7_50) fun μ92 => x_l (v4_48 + (1 : Int32)) fun v93 => J113 v93 μ92)
    hdn hms (show h_o1 o μ.2.1 870 μ.2.1 = 870 from if_pos rfl) 7 x_F 0 none nn [] _ h1 hw1 ⟨_, z_new_self, fun i x hx => by cases hx⟩ hat (fun x hx => by cases hx) (by rw [s_pop_0]) (by rw [s_pop_0]; rfl) (by rw [x_Fv]; omega)
  have hD : D_X12_trail g (c_a C) (nI nn) (some w) μ = (x_l (fun (v4_52 : Int32) (μ53 : z_M) => x_b2 (D_J10_copyOf_4 g (some μ.2.1) (v4_52 + (1 : Int32)) μ53) fun o55 μ56 =>
      if at' = (-1 : Int32) then (x_o o55 fun p77 => x_ar μ56 p77 0 fun n78 f79 => x_ga v4_52 n78 fun j81 => x_l (x_ia μ56 p77 0 n78 j81 f79 (2 : Int32)) fun μ84 => some ((some p77), μ84)) else
      x_b (D_X0_has met at') fun x59 => if x59 = 0 then (x_o o55 fun p61 => x_ar μ56 p61 0 fun n62 f63 => x_ga v4_52 n62 fun j65 => x_l (x_ia μ56 p61 0 n62 j65 f63 (1 : Int32)) fun μ68 => some ((some p61), μ68)) else
      x_o o55 fun p69 => x_ar μ56 p69 0 fun n70 f71 => x_ga v4_52 n70 fun j73 => x_l (x_ia μ56 p69 0 n70 j73 f71 (3 : Int32)) fun μ76 => some ((some p69), μ76)) fun J113 =>
      if at' = (-1 : Int32) then (J113 (nI L'.length) μ2) else x_ar μ2 μ.2.1 0 fun n86 f87 => x_ga (nI L'.length) n86 fun j89 => x_l (x_ia μ2 μ.2.1 0 n86 j89 f87 at') fun μ92 => x_l (nI L'.length + (1 : Int32)) fun v93 => J113 v93 μ92) := by
    unfold D_X12_trail
    rw [x_naL (i := 8) (n := 8) rfl (by omega), x_nwS]
    exact e2
  have F02 : h_fr g (fun _ => False) o μ (h_o1 o μ.2.1 870) μ2 := F0.trans F2 (fun b hb q => q.elim id (fun q => by omega))
  have wt : s_trail (c_N C) (c_lk C) nn name = s_walk (c_N C) (c_lk C) name 7 0 none nn [] := rfl
  rw [wt]
  rcases c2 with ⟨c3, c4⟩ | ⟨b, b1, b2, b3⟩
  · rw [c4]
    obtain ⟨μ3, f3, t1, t2, t3, t4, t5⟩ := tail μ2 L' _ 2 h2 r2 (by omega)
    have F3 : h_fr g (fun _ => False) (h_o1 o μ.2.1 870) μ2 (h_o1 (h_o1 o μ.2.1 870) μ2.2.1 870) μ3 := by rw [t4]; exact h_fr.new h2.wf
    refine ⟨_, μ3, μ2.2.1, _, ?_, F02.trans F3 (fun b _ q => q.elim id id), ?_, by show L'.length ≤ 7; omega, by rw [t4]; exact z_new_self, t2, t3⟩
    · rw [hD, x_lS, if_pos c3]
      refine (t1 _).trans ?_
      show (if at' = (-1 : Int32) then _ else _) = _
      rw [if_pos c3, x_oS]
      exact t5 _
    · have u2 := h2.cost
      rw [t4, h_u_new]
      omega
  · rw [b3]
    subst b2
    have hne : ¬ nI b = (-1 : Int32) := oI_none (by omega)
    obtain ⟨f8, r1, r1b⟩ := r2
    have F2b : h_fr g (fun d => d = μ.2.1) (h_o1 o μ.2.1 870) μ2 (h_o1 o μ.2.1 870) (z_set μ2 μ.2.1 (h_ia 8 (h_up f8 L'.length (nI b)))) := h_fr.setA h2.wf r1
    have q870 : h_o1 o μ.2.1 870 μ.2.1 = 870 := if_pos rfl
    have h2b := h2.fr (b := 0) F2b (fun d q => by subst q; omega) (by rw [h_u_set]; omega)
    have hlen : (L' ++ [b]).length = L'.length + 1 := by rw [List.length_append]; rfl
    have r2b : h_r8 (z_set μ2 μ.2.1 (h_ia 8 (h_up f8 L'.length (nI b)))) μ.2.1 (L' ++ [b]) := ⟨_, z_set_self, fun i y hy => by
      rcases l_snoc_get hy with q | ⟨q1, q2⟩
      · have hi := (List.getElem?_eq_some_iff.mp q).1
        exact (if_neg (by omega)).trans (r1b i y q)
      · rw [q1, q2]
        exact if_pos rfl⟩
    obtain ⟨μ3, f3, t1, t2, t3, t4, t5⟩ := tail _ (L' ++ [b]) _ (if s_bit met (nI b) = true then 3 else 1) h2b r2b (by rw [hlen]; omega)
    have F3 : h_fr g (fun _ => False) (h_o1 o μ.2.1 870) (z_set μ2 μ.2.1 (h_ia 8 (h_up f8 L'.length (nI b)))) (h_o1 (h_o1 o μ.2.1 870) μ2.2.1 870) μ3 := by rw [t4]; exact h_fr.new h2b.wf
    refine ⟨_, μ3, μ2.2.1, _, ?_, (F02.trans F2b (S := fun d => d = μ.2.1) (fun d _ q => q.elim (fun q => q.elim) id)).trans F3 (fun d hd q => by
      rcases q with q | q
      · omega
      · exact q.elim), ?_, by rw [hlen]; omega, by rw [t4]; exact z_new_self, t2, t3⟩
    · rw [hD, x_lS, if_neg hne, x_arW r1 rfl (by omega) (by omega), x_lS, nI_1]
      have e9 : nI (L'.length + 1) = nI (L' ++ [b]).length := by rw [hlen]
      rw [e9]
      refine (t1 _).trans ?_
      show (if (nI b) = (-1 : Int32) then _ else _) = _
      rw [if_neg hne, x_has, x_bS]
      by_cases cb : s_bit met (nI b) = true
      · rw [if_pos cb] at t5 ⊢
        rw [if_neg (show ¬ (1 : Int32) = 0 by decide), x_oS]
        exact t5 _
      · rw [if_neg cb] at t5 ⊢
        rw [if_pos rfl, x_oS]
        exact t5 _
    · have u2 := h2b.cost
      rw [t4, h_u_new]
      omega
theorem h_iv.trail (cc : Nat → Nat → Int32) (h : h_iv g o μ a T) : ∃ μ1, D_X0_trail g a n node c k μ = some (q_trail T n node c k, μ1) ∧ h_iv g (h_o9 o μ) μ1 a T ∧ h_u μ1 ≤ h_u μ + 8000 := by
  have hrefl : h_iv g (h_o9 o μ) μ a T := h.next (h_fr.refl h.2.1)
  unfold D_X0_trail q_trail
  by_cases c1 : s_nm c = true
  · obtain ⟨p9, μ3, e1, h1, hq, hu3, hle⟩ := h.name c1
    rw [e1, x_b2S, h1.2.2.2.ob, h1.isNode, x_bS]
    have h9 : h_o9 (h_o9 o μ) μ3 = h_o9 o μ := h_o9_o9 hle
    cases en : s_row (u_nets T.1) n with
    | none => exact ⟨μ3, if_pos rfl, h1, by omega⟩
    | some N =>
      have hN := h.nets en
      show ∃ μ1, (if (if (s_node N node).isSome = true then (1 : Int32) else 0) = 0 then _ else _) = some ((match s_node N node with
        | none => (-1 : Int32)
        | some b => if s_nm c = true then
            (if k = -1 then nI (s_trail N (s_lk0 N none) b (v_ c)).2.length else if k = 20 then (s_trail N (s_lk0 N none) b (v_ c)).1
             else match s_ix k (s_trail N (s_lk0 N none) b (v_ c)).2.length with
              | none => -1
              | some j => match (s_trail N (s_lk0 N none) b (v_ c)).2[j]? with
                | none => -1
                | some x => nI x)
          else -1), μ1) ∧ _
      cases eb : s_node N node with
      | none => exact ⟨μ3, if_pos rfl, h1, by omega⟩
      | some b =>
        obtain ⟨b1, b2, b3⟩ := s_node_lt hN eb
        rw [if_neg (show ¬ (if (some b).isSome = true then (1 : Int32) else 0) = 0 from fun q => absurd (show (1 : Int32) = 0 from q) (by decide)), x_nuS]
        show ∃ μ1, _ = some ((if s_nm c = true then
            (if k = -1 then nI (s_trail N (s_lk0 N none) b (v_ c)).2.length else if k = 20 then (s_trail N (s_lk0 N none) b (v_ c)).1
             else match s_ix k (s_trail N (s_lk0 N none) b (v_ c)).2.length with
              | none => -1
              | some j => match (s_trail N (s_lk0 N none) b (v_ c)).2[j]? with
                | none => -1
                | some x => nI x)
          else (-1 : Int32)), μ1) ∧ _
        rw [if_pos c1]
        by_cases ck : (-1 : Int32) ≤ k
        · rw [if_pos ck]
          obtain ⟨o4, μ4, C, e4, ⟨d1, d2, d3, d4⟩, hg4, F4⟩ := h1.newG (K := 1) cc en (by omega)
          have hq4 := hq.fr F4 h1.2.1 (fun _ _ q => q)
          subst d1
          obtain ⟨o5, μ5, q5, f5, e5, F5, u5, l5, m5, r5, z5⟩ := hg4.trail hq4 rfl rfl b2
          rw [← d2]
          generalize s_trail (c_N C) (c_lk C) b (v_ c) = st at l5 m5 r5 z5
          refine ⟨μ5, ?_, ?_, ?_⟩
          · rw [e4, hg4.ob, b3, e5, x_b2S]
            have e7 : nI (st.2.length + 1) - (1 : Int32) = nI st.2.length := nI_pred _
            by_cases k20 : k = 20
            · rw [if_pos k20, if_neg (show ¬ k = -1 by rw [k20]; decide), if_pos k20, x_oS, x_lnS (n := st.2.length + 1) rfl m5, x_arS m5, e7, x_gaT (by omega) (by omega), z5]
            · rw [if_neg k20]
              by_cases km : k = -1
              · rw [if_pos km, if_pos km, x_oS, x_lnS (n := st.2.length + 1) rfl m5, e7]
              · rw [if_neg km, if_neg km, if_neg k20, x_oS, x_lnS (n := st.2.length + 1) rfl m5, e7]
                have hk0 : 0 ≤ k := by
                  have h1 : k ≠ -1 := km
                  rw [Int32.le_iff_toInt_le] at ck ⊢
                  have h2 : k.toInt ≠ (-1 : Int32).toInt := fun q => h1 (Int32.toInt_inj.mp q)
                  have e1 : (-1 : Int32).toInt = -1 := by decide
                  have e0 : (0 : Int32).toInt = 0 := by decide
                  omega
                obtain ⟨k1, k2⟩ := v_of hk0
                by_cases kl : v_ k < st.2.length
                · have ei : s_ix k st.2.length = some (v_ k) := if_pos ⟨hk0, kl⟩
                  have hge : st.2[v_ k]? = some st.2[v_ k] := List.getElem?_eq_getElem kl
                  rw [ei]
                  show _ = some ((match st.2[v_ k]? with | none => (-1 : Int32) | some x => nI x), μ5)
                  rw [hge, if_neg (fun q => by rw [k1] at q; exact nI_ge kl (by omega) q), x_arS m5]
                  have := r5 _ _ hge
                  conv => lhs; rw [k1]
                  rw [x_gaT (by omega) (by omega), this]
                · have ei : s_ix k st.2.length = none := if_neg (fun q => kl q.2)
                  rw [ei, if_pos (by rw [k1]; exact nI_le (by omega) (by omega))]
          · rw [← h9]
            exact h1.next ((F4.trans F5 (S := fun _ => False) (fun _ _ q => q.elim id id)).mono (fun _ _ q => q.elim))
          · have r12 := n_routes12 hg4.hN
            have kr := k_rooms_le (N := c_N C) (D := 1) d3 d4
            omega
        · rw [if_neg ck]
          refine ⟨μ3, ?_, h1, by omega⟩
          have hlt : k < -1 := Int32.not_le.mp ck
          have k1 : ¬ k = -1 := fun q => by rw [q] at hlt; exact absurd hlt (by decide)
          have k2 : ¬ k = 20 := fun q => by rw [q] at hlt; exact absurd hlt (by decide)
          have k3 : ∀ v, s_ix k v = none := fun v => if_neg (fun q => absurd (Int32.lt_of_le_of_lt q.1 hlt) (by decide))
          rw [if_neg k1, if_neg k2, k3]
  · have e1 : D_X0_name g c μ = some (none, μ) := h_nameN (by cases q : s_nm c; rfl; exact absurd q c1)
    rw [e1, x_b2S, h.2.2.2.ob, h.isNode, x_bS]
    refine ⟨μ, ?_, hrefl, by omega⟩
    cases en : s_row (u_nets T.1) n with
    | none => exact if_pos rfl
    | some N =>
      show (if (if (s_node N node).isSome = true then (1 : Int32) else 0) = 0 then _ else _) = some ((match s_node N node with
        | none => (-1 : Int32)
        | some b => if s_nm c = true then _ else -1), μ)
      cases eb : s_node N node with
      | none => exact if_pos rfl
      | some b =>
        show _ = some ((if s_nm c = true then _ else (-1 : Int32)), μ)
        rw [if_neg (show ¬ (if (some b).isSome = true then (1 : Int32) else 0) = 0 from fun q => absurd (show (1 : Int32) = 0 from q) (by decide)), x_nuN, if_neg c1]
end T93
