/-! THE COMPONENT's LAW, 11: a net as it stands in the memory -/
set_option maxRecDepth 100000
set_option linter.unusedVariables false
theorem nI_6 (a b : Nat) : (6 : Int32) * nI a + nI b = nI (6 * a + b) := by
  rw [show (6 : Int32) = nI 6 from rfl, nI_mul, nI_add]
def s_dly (N : s_R) (lk : Nat → Option Nat) (i : Nat) : Int32 := match lk i with
  | none => 0
  | some l => nI (n_ld N l)
theorem s_dly0 {N : s_R} {lk : Nat → Option Nat} (hN : n_ok N) (hlk : s_lkok N lk) {i : Nat} (hi : i < 36) : s_dly N lk i ≤ 0 ↔ lk i = none := by
  unfold s_dly
  cases e : lk i with
  | none => exact ⟨fun _ => rfl, fun _ => Int32.le_refl _⟩
  | some l =>
    have hb := n_ln_b hN (hlk i l hi e).1
    exact ⟨fun q => absurd q (nI_nle (by omega) (by omega)), fun q => by cases q⟩
theorem s_dlyE {N : s_R} {lk : Nat → Option Nat} (hN : n_ok N) (hlk : s_lkok N lk) {i : Nat} (hi : i < 36) : s_dly N lk i = 0 ↔ lk i = none := by
  rw [← s_dly0 hN hlk hi]
  constructor
  · intro q; rw [q]; exact Int32.le_refl _
  · intro q
    have := (s_dly0 hN hlk hi).mp q
    unfold s_dly
    rw [this]
/-- a route, a serve -/
def h_rt (o : Nat → Nat) (μ : z_M) (p nd : Nat) (to : Int32) (c w : Nat) : Prop := o p = 0 ∧ ∃ q, μ.1 p = some (.inr (8, [.int (nI nd), .int to, .int (nI c), .ref q])) ∧ h_nm o μ q w
/-- two nodes that are linked -/
def h_pr (o : Nat → Nat) (μ : z_M) (p a b : Nat) : Prop := o p = 0 ∧ ∃ f, μ.1 p = some (.inl (0, 2, .inl f)) ∧ f 0 = nI a ∧ f 1 = nI b
/-- a net: its cell at p, its delays at d, its links ls, routes rs, serves ss -/
def h_nt (g : z_G) (o : Nat → Nat) (μ : z_M) (p d : Nat) (N : s_R) (lk : Nat → Option Nat) (ls rs ss : List Nat) : Prop :=
  o p = 0 ∧ ∃ (rm ll rl sl nl nr ns : Nat) (fr f : Nat → Int32),
  μ.1 p = some (.inr (5, [.int (N 0), .int (N 1), .ref rm, .ref d, .ref ll, .ref rl, .ref sl])) ∧
  (o rm = 0 ∧ μ.1 rm = some (.inl (0, 6, .inl fr)) ∧ ∀ i, i < 6 → fr i = N (5 + i)) ∧
  (o d = 3 ∧ μ.1 d = some (.inl (0, 36, .inl f)) ∧ ∀ i, i < 36 → f i = s_dly N lk i) ∧
  (h_ls g o μ 0 ll nl ls ∧ ls.length = n_links N ∧ ∀ k x, ls[k]? = some x → h_pr o μ x (n_la N k) (n_lb N k)) ∧
  (h_ls g o μ 0 rl nr rs ∧ rs.length = n_routes N ∧ ∀ k x, rs[k]? = some x → h_rt o μ x (n_rn N k) (nI (n_rt N k)) (n_rc N k) (n_rw N k)) ∧
  (h_ls g o μ 0 sl ns ss ∧ ss.length = n_serves N ∧ ∀ k x, ss[k]? = some x → h_rt o μ x (n_sn N k) (-1) (n_sc N k) (n_sw N k))
/-- the address of a row's element -/
def s_adr (ss : List Nat) (o : Option Nat) : Option Nat := match o with
  | none => none
  | some j => ss[j]?
theorem h_at {xs : List Nat} {k n : Nat} (hl : xs.length = n) (hk : k < n) : ∃ x, xs[k]? = some x := ⟨_, List.getElem?_eq_getElem (by omega)⟩
theorem x_isIn (v lo hi : Int32) : D_X0_isIn v lo hi = some (s_i (lo ≤ v ∧ v ≤ hi)) := by
  unfold D_X0_isIn s_i
  by_cases h1 : v < lo
  · rw [if_pos h1, if_neg (fun h => absurd h.1 (Int32.not_le.mpr h1))]
  · rw [if_neg h1]
    by_cases h2 : hi < v
    · rw [if_pos h2, if_neg (fun h => absurd h.2 (Int32.not_le.mpr h2))]
    · rw [if_neg h2, if_pos ⟨Int32.not_lt.mp h1, Int32.not_lt.mp h2⟩]
theorem s_i01 {c : Prop} [Decidable c] : s_i c = 0 ∨ s_i c = 1 := by
  unfold s_i
  split
  · exact Or.inr rfl
  · exact Or.inl rfl
/-- whether a number is below another -/
theorem x_isInN {x : Int32} {n : Nat} (hn : n < 2 ^ 31) : D_X0_isIn x 0 (nI n - (1 : Int32)) = some (if 0 ≤ x ∧ v_ x < n then 1 else 0) := by
  rw [x_isIn]
  unfold s_i
  by_cases c : 0 ≤ x
  · obtain ⟨e1, e2⟩ := v_of c
    generalize v_ x = m at e1 e2
    subst e1
    by_cases h0 : n = 0
    · subst h0
      rw [if_neg (fun q => ?_), if_neg (fun q => by have := q.2; omega)]
      have h1 := q.2
      rw [Int32.le_iff_toInt_le, nI_toInt e2, show (nI 0 - (1 : Int32)).toInt = -1 from by decide] at h1
      omega
    · have e3 : nI n - (1 : Int32) = nI (n - 1) := nI_sub (b := 1) (by omega)
      rw [e3]
      by_cases h1 : m < n
      · rw [if_pos ⟨c, nI_le (by omega) (by omega)⟩, if_pos ⟨c, h1⟩]
      · rw [if_neg (fun q => nI_ge (show n - 1 < m by omega) (by omega) q.2), if_neg (fun q => h1 q.2)]
  · rw [if_neg (fun q => c q.1), if_neg (fun q => c q.1)]
section T93
variable {g : z_G} {o o1 : Nat → Nat} {μ μ1 : z_M} {p d q x i k ci t l n : Nat} {N : s_R} {lk : Nat → Option Nat} {ls rs ss xs : List Nat} {fs : List Value} {S : Nat → Prop}
theorem h_rt.fr {nd c w : Nat} {to : Int32} (h : h_rt o μ p nd to c w) (hf : h_fr g S o μ o1 μ1) (hw : h_wf g μ) (hS : ∀ a, o a = 0 → ¬ S a) : h_rt o1 μ1 p nd to c w := by
  obtain ⟨h0, q, h1, h2⟩ := h
  exact ⟨(hf.2.1 p (hw.lt h1)).trans h0, q, hf.cell hw h1 (hS p h0), h2.fr hf hw hS⟩
theorem h_pr.fr {a b : Nat} (h : h_pr o μ p a b) (hf : h_fr g S o μ o1 μ1) (hw : h_wf g μ) (hS : ∀ a, o a = 0 → ¬ S a) : h_pr o1 μ1 p a b := by
  obtain ⟨h0, f, h1, h2⟩ := h
  exact ⟨(hf.2.1 p (hw.lt h1)).trans h0, f, hf.cell hw h1 (hS p h0), h2⟩
theorem h_nt.fr (h : h_nt g o μ p d N lk ls rs ss) (hf : h_fr g S o μ o1 μ1) (hw : h_wf g μ) (hS : ∀ a, o a = 0 → ¬ S a) (hd : ¬ S d) : h_nt g o1 μ1 p d N lk ls rs ss := by
  obtain ⟨h0, rm, ll, rl, sl, nl, nr, ns, fr, f, hp, ⟨m1, m2, m3⟩, ⟨d1, d2, d3⟩, ⟨l1, l2, l3⟩, ⟨r1, r2, r3⟩, s1, s2, s3⟩ := h
  exact ⟨(hf.2.1 p (hw.lt hp)).trans h0, rm, ll, rl, sl, nl, nr, ns, fr, f, hf.cell hw hp (hS p h0), ⟨(hf.2.1 rm (hw.lt m2)).trans m1, hf.cell hw m2 (hS rm m1), m3⟩,
    ⟨(hf.2.1 d (hw.lt d2)).trans d1, hf.cell hw d2 hd, d3⟩, ⟨l1.fr hf hw hS, l2, fun k x hx => (l3 k x hx).fr hf hw hS⟩, ⟨r1.fr hf hw hS, r2, fun k x hx => (r3 k x hx).fr hf hw hS⟩, s1.fr hf hw hS, s2, fun k x hx => (s3 k x hx).fr hf hw hS⟩
theorem h_rt.isA {nd c w : Nat} {to : Int32} (h : h_rt o μ p nd to c w) : z_isA g μ p "AskedNames$Route" := by
  obtain ⟨h0, q, h1, h2⟩ := h
  exact Or.inl ⟨8, _, _, _, h1, rfl⟩
theorem h_pr.isA {a b : Nat} (h : h_pr o μ p a b) : z_isA g μ p "[I" := by
  obtain ⟨h0, f, h1, h2⟩ := h
  exact Or.inr (Or.inl ⟨0, _, h1, by decide, by decide⟩)
theorem x_lsz {α : Type} {kk : Int32 → Option α} (hp : μ.1 p = some (.inr (ci, fs))) (hk : fs[k]? = some (.ref l)) (hL : h_ls g o μ t l n xs) : (x_gr μ p ci k fun o7 => x_o o7 fun p11 => x_ob μ p11 3 fun _ => x_b (D_J2_size g p11 μ) kk) = kk (nI xs.length) := by
  rw [x_grR hp hk, x_oS, hL.obK, hL.size, x_bS]
theorem x_lgt {α : Type} {nm : String} {kk : Option Nat → Option α} (hp : μ.1 p = some (.inr (ci, fs))) (hk : fs[k]? = some (.ref l)) (hL : h_ls g o μ t l n xs) (hi : xs[i]? = some x) (hA : z_isA g μ x nm) : (x_gr μ p ci k fun o7 => x_o o7 fun p11 => x_ob μ p11 3 fun _ => x_b (D_J2_get g p11 (nI i) μ) fun o25 => x_gp (x_ic g μ o25 nm) (kk o25)) = kk (some x) := by
  rw [x_grR hp hk, x_oS, hL.obK, hL.get hi, x_bS, x_gpI (x_icI hA)]
/-- what a link takes -/
theorem h_nt.delay {a b : Nat} (h : h_nt g o μ p d N lk ls rs ss) (ha : a < 6) (hb : b < 6) : D_X5_delay g p (nI a) (nI b) μ = some (s_dly N lk (6 * a + b)) := by
  obtain ⟨h0, rm, ll, rl, sl, nl, nr, ns, fr, f, hp, ⟨m1, m2, m3⟩, ⟨d1, d2, d3⟩, -⟩ := h
  unfold D_X5_delay
  rw [x_grR hp rfl, x_oS, x_arS d2, nI_6, x_gaT (by omega) (by omega), d3 _ (by omega)]
theorem h_nt.ob {α : Type} {m : Option α} (h : h_nt g o μ p d N lk ls rs ss) : x_ob μ p 5 (fun _ => m) = m := by
  obtain ⟨h0, rm, ll, rl, sl, nl, nr, ns, fr, f, hp, -⟩ := h
  exact x_obS hp
theorem h_nt.isNode (h : h_nt g o μ p d N lk ls rs ss) (hN : n_ok N) (x : Int32) : D_X5_isNode g p x μ = some (if (s_node N x).isSome = true then 1 else 0) := by
  obtain ⟨h0, rm, ll, rl, sl, nl, nr, ns, fr, f, hp, -⟩ := h
  have h6 : n_nodes N ≤ 6 := hN.1.1.2
  have e0 : N 0 = nI (n_nodes N) := hN.1.1.1
  unfold D_X5_isNode
  rw [x_giS hp rfl, e0, x_isInN (by omega), x_bS]
  unfold s_node
  by_cases c : 0 ≤ x ∧ v_ x < n_nodes N
  · rw [if_pos c, if_pos c]
    exact x_gS (Or.inr rfl)
  · rw [if_neg c, if_neg c]
    exact x_gS (Or.inl rfl)
theorem h_nt.isLink {x y : Int32} (h : h_nt g o μ p d N lk ls rs ss) (hN : n_ok N) (hlk : s_lkok N lk) : D_X5_isLink g p x y μ = some (match s_node N x, s_node N y with
    | some a, some b => if (lk (6 * a + b)).isSome = true then 1 else 0
    | _, _ => 0) := by
  unfold D_X5_isLink
  rw [h.ob, h.isNode hN, x_bS]
  cases ex : s_node N x with
  | none => exact if_pos rfl
  | some a =>
    rw [if_pos (show (some a).isSome = true from rfl), if_neg (by decide), h.ob, h.isNode hN, x_bS]
    cases ey : s_node N y with
    | none => exact if_pos rfl
    | some b =>
      obtain ⟨a1, a2, rfl⟩ := s_node_lt hN ex
      obtain ⟨b1, b2, rfl⟩ := s_node_lt hN ey
      rw [if_pos (show (some b).isSome = true from rfl), if_neg (by decide), h.ob, h.delay a1 b1, x_bS]
      show (if s_dly N lk (6 * a + b) ≤ 0 then _ else _) = some (if (lk (6 * a + b)).isSome = true then 1 else 0)
      cases e : lk (6 * a + b) with
      | none => exact if_pos ((s_dly0 hN hlk (by omega)).mpr e)
      | some l => exact if_neg (fun q => by rw [(s_dly0 hN hlk (by omega)).mp q] at e; cases e)
theorem h_nt.longest {node name : Nat} (h : h_nt g o μ p d N lk ls rs ss) (hN : n_ok N) (hq : h_nm o μ q name) (hw : h_wf g μ) (hok : z_ok g) (hn : node < 6) : D_X5_longest g p (nI node) (some q) μ = some (nI (s_longest N node name)) := by
  obtain ⟨h0, rm, ll, rl, sl, nl, nr, ns, fr, f, hp, -, -, -, ⟨r1, r2, r3⟩, -⟩ := h
  have h3 : n_routes N ≤ 12 := hN.2.2.2.1.2
  have hI : z_isA g μ q "java/lang/String" := hq.isA hw
  unfold D_X5_longest s_longest
  refine x_for (fun _ (m : Nat) => m ≤ 7) (fun f m k => D_X5_longest_5 g p (nI node) (some q) μ (fun v => some v) f (nI m) (nI k)) (fun m => some (nI m)) _ (n_routes N) ?_ ?_ ?_ x_F 0 0 (by omega) (by omega) (by rw [x_Fv]; omega)
  · intro f m _
    show D_X5_longest_5 _ _ _ _ _ _ (f + 1) _ _ = _
    unfold D_X5_longest_5
    rw [x_lsz hp rfl r1, r2, if_pos (Int32.le_refl _)]
  · intro f m k hm7 hk
    obtain ⟨x, hx⟩ := h_at r2 hk
    have hr := r3 k x hx
    have hA : z_isA g μ x "AskedNames$Route" := hr.isA
    obtain ⟨b1, -, -, -, -, b6, b7, -⟩ := n_rt_b hN hk
    obtain ⟨x0, w, hc, hwn⟩ := hr
    show D_X5_longest_5 _ _ _ _ _ _ (f + 1) _ _ = _
    conv => lhs; unfold D_X5_longest_5
    rw [x_lsz hp rfl r1, r2, if_neg (nI_ge hk (by omega)), x_lgt hp rfl r1 hx hA, x_oS, x_giS hc rfl]
    by_cases c1 : n_rn N k = node
    · rw [if_pos (by rw [c1]), x_lgt hp rfl r1 hx hA, x_oS, x_grR hc rfl, x_oS, x_gpI hI, hq.starts hwn hw hok, x_bS]
      by_cases c2 : s_pre (n_rw N k) name = true
      · have h4 := s_len_vn hwn.1
        have hIw : z_isA g μ w "java/lang/String" := hwn.isA hw
        rw [if_pos c2, if_neg (by decide), x_lgt hp rfl r1 hx hA, x_oS, x_grR hc rfl, x_oS, x_gpI hIw, hwn.len hw hok, x_bS, x_mxN (by omega) (by omega), x_lS, x_lS, nI_1, if_pos ⟨c1, c2⟩]
      · rw [if_neg c2, if_pos rfl, x_lS, nI_1, if_neg (fun q => c2 q.2)]
    · rw [if_neg (fun q => c1 ((nI_eq (by omega) (by omega)).mp q)), x_lS, nI_1, if_neg (fun q => c1 q.1)]
  · intro m k hm hk
    obtain ⟨x, hx⟩ := h_at r2 hk
    obtain ⟨x0, w, hc, hwn⟩ := r3 k x hx
    have h4 := s_len_vn hwn.1
    show (if _ then _ else _) ≤ 7
    split
    · exact Nat.max_le.mpr ⟨hm, by omega⟩
    · exact hm
/-- who serves a name at a node -/
theorem h_nt.server {node name : Nat} (h : h_nt g o μ p d N lk ls rs ss) (hN : n_ok N) (hq : h_nm o μ q name) (hw : h_wf g μ) (hok : z_ok g) (hn : node < 6) : D_X5_server g p (nI node) (some q) μ = some (s_adr ss (s_serve N node name)) := by
  obtain ⟨h0, rm, ll, rl, sl, nl, nr, ns, fr, f, hp, -, -, -, -, r1, r2, r3⟩ := h
  have h3 : n_serves N ≤ 6 := hN.2.2.2.2.1.2
  have hI : z_isA g μ q "java/lang/String" := hq.isA hw
  unfold D_X5_server s_serve
  refine x_for (fun k (a : Option Nat) => ∀ j, a = some j → j < n_serves N) (fun f a k => D_X5_server_5 g p (nI node) (some q) μ (fun v => some v) f (s_adr ss a) (nI k)) (fun a => some (s_adr ss a)) _ (n_serves N) ?_ ?_ ?_ x_F 0 none (by omega) (fun j hj => by cases hj) (by rw [x_Fv]; omega)
  · intro f m _
    show D_X5_server_5 _ _ _ _ _ _ (f + 1) _ _ = _
    unfold D_X5_server_5
    rw [x_lsz hp rfl r1, r2, if_pos (Int32.le_refl _)]
  · intro f m k hm hk
    obtain ⟨x, hx⟩ := h_at r2 hk
    have hr := r3 k x hx
    have hA : z_isA g μ x "AskedNames$Route" := hr.isA
    obtain ⟨b1, -, -, -, b6, b7, -⟩ := n_sv_b hN hk
    obtain ⟨x0, w, hc, hwn⟩ := hr
    have h4 := s_len_vn hwn.1
    have hIw : z_isA g μ w "java/lang/String" := hwn.isA hw
    show D_X5_server_5 _ _ _ _ _ _ (f + 1) _ _ = _
    conv => lhs; unfold D_X5_server_5
    rw [x_lsz hp rfl r1, r2, if_neg (nI_ge hk (by omega)), x_lgt hp rfl r1 hx hA, x_oS, x_giS hc rfl]
    by_cases c1 : n_sn N k = node
    · rw [if_pos (by rw [c1]), x_grR hc rfl, x_oS, x_gpI hI, hq.starts hwn hw hok, x_bS]
      by_cases c2 : s_pre (n_sw N k) name = true
      · rw [if_pos c2, if_neg (by decide)]
        cases m with
        | none =>
          rw [if_pos ⟨c1, c2, fun j hj => by cases hj⟩]
          show x_nu none _ _ = _
          rw [x_nuN, x_lS, nI_1]
          show _ = D_X5_server_5 g p (nI node) (some q) μ _ f (ss[k]?) _
          rw [hx]
        | some j =>
          have hj := hm j rfl
          obtain ⟨y, hy⟩ := h_at r2 hj
          obtain ⟨y0, v, hcy, hvn⟩ := r3 j y hy
          have h5 := s_len_vn hvn.1
          have hIv : z_isA g μ v "java/lang/String" := hvn.isA hw
          have e1 : s_adr ss (some j) = some y := hy
          rw [e1, x_nuS, x_grR hc rfl, x_oS, x_gpI hIw, hwn.len hw hok, x_bS, x_grR hcy rfl, x_oS, x_gpI hIv, hvn.len hw hok, x_bS]
          by_cases c3 : s_len (n_sw N k) ≤ s_len (n_sw N j)
          · rw [if_pos (nI_le c3 (by omega)), x_lS, nI_1, if_neg (fun q => by have := q.2.2 j rfl; omega), e1]
          · have e2 : s_adr ss (some k) = some x := hx
            rw [if_neg (nI_ge (by omega) (by omega)), x_lS, nI_1, if_pos ⟨c1, c2, fun i hi => by cases hi; omega⟩, e2]
      · rw [if_neg c2, if_pos rfl, x_lS, nI_1, if_neg (fun q => c2 q.2.1)]
    · rw [if_neg (fun q => c1 ((nI_eq (by omega) (by omega)).mp q)), x_lS, nI_1, if_neg (fun q => c1 q.1)]
  · intro m k hm hk j hj
    have hj' : (if n_sn N k = node ∧ s_pre (n_sw N k) name = true ∧ (∀ j, m = some j → s_len (n_sw N j) < s_len (n_sw N k)) then some k else m) = some j := hj
    split at hj'
    · cases hj'; exact hk
    · exact hm j hj'
end T93
