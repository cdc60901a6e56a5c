/-! THE COMPONENT's LAW, 13: a net that runs, as it stands in the memory -/
set_option maxRecDepth 100000
set_option linter.unusedVariables false
/-- addresses and what stands for them, place by place -/
def h_al {α : Type} (R : Nat → α → Prop) (xs : List Nat) (ys : List α) : Prop := xs.length = ys.length ∧ ∀ (i x : Nat) (y : α), xs[i]? = some x → ys[i]? = some y → R x y
section T93a
variable {α : Type} {R R' : Nat → α → Prop} {xs : List Nat} {ys : List α} {x i : Nat} {y : α}
theorem h_al.mono (h : h_al R xs ys) (hR : ∀ x y, y ∈ ys → R x y → R' x y) : h_al R' xs ys := ⟨h.1, fun i x y hx hy => hR x y (List.mem_of_getElem? hy) (h.2 i x y hx hy)⟩
theorem h_al.nil : h_al R [] ([] : List α) := ⟨rfl, fun i x y hx => by cases hx⟩
theorem h_al.snoc (h : h_al R xs ys) (hr : R x y) : h_al R (xs ++ [x]) (ys ++ [y]) := by
  refine ⟨by rw [List.length_append, List.length_append, h.1]; rfl, fun i a b ha hb => ?_⟩
  by_cases e : i < xs.length
  · rw [List.getElem?_append_left e] at ha
    rw [List.getElem?_append_left (by rw [← h.1]; exact e)] at hb
    exact h.2 i a b ha hb
  · have hl : i < (xs ++ [x]).length := (List.getElem?_eq_some_iff.mp ha).1
    rw [List.length_append] at hl
    have hl' : i < xs.length + 1 := hl
    have ei : i = xs.length := by omega
    have e2 : i = ys.length := by rw [← h.1]; exact ei
    rw [ei, List.getElem?_append_right (Nat.le_refl _), Nat.sub_self] at ha
    rw [e2, List.getElem?_append_right (Nat.le_refl _), Nat.sub_self] at hb
    cases ha
    cases hb
    exact hr
theorem h_al.erase (h : h_al R xs ys) (i : Nat) : h_al R (xs.eraseIdx i) (ys.eraseIdx i) := by
  refine ⟨by rw [List.length_eraseIdx, List.length_eraseIdx, h.1], fun j a b ha hb => ?_⟩
  rw [List.getElem?_eraseIdx] at ha hb
  by_cases e : j < i
  · rw [if_pos e] at ha hb
    exact h.2 j a b ha hb
  · rw [if_neg e] at ha hb
    exact h.2 (j + 1) a b ha hb
theorem h_al.get (h : h_al R xs ys) (hy : ys[i]? = some y) : ∃ x, xs[i]? = some x ∧ R x y := by
  have hl : i < ys.length := (List.getElem?_eq_some_iff.mp hy).1
  obtain ⟨x, hx⟩ := h_at h.1 hl
  exact ⟨x, hx, h.2 i x y hx hy⟩
theorem h_al.getL (h : h_al R xs ys) (hx : xs[i]? = some x) : ∃ y, ys[i]? = some y ∧ R x y := by
  have hl : i < xs.length := (List.getElem?_eq_some_iff.mp hx).1
  obtain ⟨y, hy⟩ : ∃ y, ys[i]? = some y := ⟨_, List.getElem?_eq_getElem (by rw [← h.1]; exact hl)⟩
  exact ⟨y, hy, h.2 i x y hx hy⟩
end T93a
/-- data that are stored or under way: name, until, by -/
def h_dt (o : Nat → Nat) (μ : z_M) (p : Nat) (d : s_D) : Prop := o p = 0 ∧ s_wn d.1 ∧ ∃ q, μ.1 p = some (.inr (16, [.ref q, .int d.2.1, .int d.2.2])) ∧ h_nm o μ q (v_ d.1)
/-- why a thing was refused: how deep, a loop (2) or no way (1), where -/
def h_why (o : Nat → Nat) (μ : z_M) : Nat → Nat → Int32 → Int32 → Prop
  | 0, p, x, n => o p = 0 ∧ ∃ fs : List Value, fs[6]? = some (.int n) ∧ (x = 1 ∧ μ.1 p = some (.inr (18, fs)) ∨ x = 2 ∧ μ.1 p = some (.inr (14, fs)))
  | d + 1, p, x, n => o p = 0 ∧ ∃ (q : Nat) (fs : List Value), fs[0]? = some (.ref q) ∧ q ≠ p ∧ μ.1 p = some (.inr (19, fs)) ∧ h_why o μ d q x n
/-- what a message carries by its kind; it comes at x -/
def h_mk (o : Nat → Nat) (μ : z_M) (kind name : Int32) (r : s_Q) (dr wr : Option Nat) (src : Int32) (x : Nat) : Prop :=
  kind = 0 ∧ dr = none ∧ wr = none ∨
  kind = 1 ∧ wr = none ∧ (∃ d, dr = some d ∧ h_dt o μ d (name, r.1, r.2.1)) ∧ (∃ n f, n < 6 ∧ f < 2 ∧ src = nI (10 * n + f) ∧ r.2.2.1 = nI n ∧ r.2.2.2 = nI f) ∨
  kind = 2 ∧ dr = none ∧ ∃ w dep, wr = some w ∧ h_why o μ dep w r.2.1 r.2.2.1 ∧ 1 ≤ dep ∧ dep ≤ x ∧ r.1 = nI dep
/-- a message -/
def h_mg (N : s_R) (o : Nat → Nat) (μ : z_M) (p : Nat) (m : s_M) : Prop :=
  o p = 0 ∧ s_wn m.1.2.2.2.1 ∧ ∃ (a b x q : Nat) (dr wr : Option Nat) (src : Int32), a < n_nodes N ∧ b < n_nodes N ∧ m.1.2.1 = nI a ∧ m.1.2.2.1 = nI b ∧ x ≤ 300 ∧ m.1.2.2.2.2.2.2 = nI x ∧
    μ.1 p = some (.inr (15, [.int (nI a), .int (nI b), .int (nI x), .int m.1.2.2.2.2.1, .int m.1.2.2.2.2.2.1, .int src, .ref q, va_rf dr, va_rf wr])) ∧ h_nm o μ q (v_ m.1.2.2.2.1) ∧ h_mk o μ m.1.1 m.1.2.2.2.1 m.2 dr wr src x
/-- the asks of a set, as they stand in a list -/
def s_setL (x : Int64) : List Nat := (List.range 64).filter (fun k => s_hasL x (nI k))
/-- an entry of node n -/
def h_en (g : z_G) (o : Nat → Nat) (μ : z_M) (n p : Nat) (e : s_E) : Prop :=
  (2000 ≤ o p ∧ o p % 16 = n) ∧ s_wn (e_name e) ∧ (∀ j, j < 64 → s_hasL (e_asks e) (nI j) = true → j < 61) ∧ ∃ q al ca : Nat,
    μ.1 p = some (.inr (17, [.ref q, .int (e_wish e), .int (e_ends e), .int (e_first e), .ref al, .long (e_nonces e), .int (e_in e), .int (e_out e), .int (e_tried e), .int (e_sent e)])) ∧
    h_nm o μ q (v_ (e_name e)) ∧ h_ls g o μ (o p + 8) al ca ((s_setL (e_asks e)).map (h_in g))
/-- the tags of node n's cells -/
def h_tn (n t : Nat) : Prop := t = 1010 + n ∨ t = 1020 + n ∨ t = 1030 + n ∨ 2000 ≤ t ∧ t % 8 = n % 8
theorem h_tn_ge {n t : Nat} (h : h_tn n t) : 1010 ≤ t := by
  rcases h with h | h | h | ⟨h, -⟩ <;> omega
/-- a node: its entries' addresses es, room for ce -/
def h_no (g : z_G) (o : Nat → Nat) (μ : z_M) (n q ce : Nat) (es : List Nat) (nd : s_N) (ms : Nat → Int32) : Prop :=
  o q = 1030 + n ∧ ∃ (sl el ml : Nat) (ds : List Nat) (f : Nat → Int32), μ.1 q = some (.inr (13, [.ref sl, .ref el, .ref ml, .long nd.2.2])) ∧
    (h_ls g o μ (1010 + n) sl 5 ds ∧ h_al (h_dt o μ) ds nd.2.1) ∧
    (h_ls g o μ (1020 + n) el ce es ∧ h_al (h_en g o μ n) es nd.1 ∧ (es.map o).Nodup) ∧
    (o ml = 1030 + n ∧ μ.1 ml = some (.inl (0, 6, .inl f)) ∧ ∀ j, j < 6 → f j = ms (6 * n + j))
/-- what came of an ask -/
def h_ed (o : Nat → Nat) (μ : z_M) (x : Option Nat) (c : Nat → Nat → Int32) (k : Nat) : Prop := match x with
  | none => c 57 k = -1 ∨ c 57 k = 0
  | some r => o r = 0 ∧ ∃ f : Nat → Int32, μ.1 r = some (.inl (0, 7, .inl f)) ∧ f 0 = c 57 k ∧ f 1 = c 58 k ∧
    (c 57 k = 1 ∧ f 2 = c 60 k ∧ f 3 = c 61 k ∧ f 4 = -1 ∧ f 5 = -1 ∧ f 6 = -1 ∨ c 57 k = 2 ∧ f 2 = -1 ∧ f 3 = -1 ∧ f 4 = c 62 k ∧ f 5 = c 63 k ∧ f 6 = c 64 k ∨ c 57 k = 3 ∧ f 2 = -1 ∧ f 3 = -1 ∧ f 4 = -1 ∧ f 5 = -1 ∧ f 6 = -1)
/-- what does not change in a run: addresses (run, net, delays, nodes, ways, down, ends), lists (nodes, links, routes, serves), the net, its links, how many messages and entries there may be -/
abbrev h_C : Type := (Nat × Nat × Nat × Nat × Nat × Nat × Nat) × (List Nat × List Nat × List Nat × List Nat) × s_R × (Nat → Option Nat) × Nat × Nat
def c_a (C : h_C) : Nat := C.1.1
def c_p (C : h_C) : Nat := C.1.2.1
def c_d (C : h_C) : Nat := C.1.2.2.1
def c_nl (C : h_C) : Nat := C.1.2.2.2.1
def c_wl (C : h_C) : Nat := C.1.2.2.2.2.1
def c_dn (C : h_C) : Nat := C.1.2.2.2.2.2.1
def c_en (C : h_C) : Nat := C.1.2.2.2.2.2.2
def c_ns (C : h_C) : List Nat := C.2.1.1
def c_ls (C : h_C) : List Nat := C.2.1.2.1
def c_rs (C : h_C) : List Nat := C.2.1.2.2.1
def c_ss (C : h_C) : List Nat := C.2.1.2.2.2
def c_N (C : h_C) : s_R := C.2.2.1
def c_lk (C : h_C) : Nat → Option Nat := C.2.2.2.1
def c_Mw (C : h_C) : Nat := C.2.2.2.2.1
def c_Me (C : h_C) : Nat := C.2.2.2.2.2
abbrev h_gc (C : h_C) (G : s_G) : z_C := .inr (12, [.ref (c_p C), .ref (c_nl C), .ref (c_wl C), .ref (c_dn C), .ref (c_en C), .int (g_minute G), .int (g_sent G), .int (g_hits G), .int (g_joined G), .int (g_loops G), .int (g_dropped G), .int (g_missed G)])
/-- minutes are small; an entry went before now; what was measured is small -/
def s_tms (G : s_G) : Prop := ∃ tm, tm ≤ 99 ∧ g_minute G = nI tm ∧ (∀ n, n < 6 → ∀ e ∈ g_es G n, ∃ s, s ≤ tm ∧ e_sent e = nI s) ∧ ∀ i, i < 36 → g_meas G i = -1 ∨ ∃ x, x ≤ 99 ∧ g_meas G i = nI x
def h_go (g : z_G) (C : h_C) (o : Nat → Nat) (μ : z_M) (E : Nat → List Nat) (B : Nat) (G : s_G) : Prop :=
  ((z_ok g ∧ h_wf g μ) ∧ (n_ok (c_N C) ∧ s_lkok (c_N C) (c_lk C)) ∧ s_tms G ∧ c_Mw C ≤ 4096 ∧ c_Me C ≤ 64) ∧
  h_nt g o μ (c_p C) (c_d C) (c_N C) (c_lk C) (c_ls C) (c_rs C) (c_ss C) ∧
  (o (c_a C) = 1000 ∧ μ.1 (c_a C) = some (h_gc C G)) ∧
  (h_ls g o μ 1002 (c_nl C) 6 (c_ns C) ∧ (c_ns C).length = n_nodes (c_N C)) ∧
  (∃ fd : Nat → Int32, o (c_dn C) = 1000 ∧ μ.1 (c_dn C) = some (.inl (2, 36, .inl fd)) ∧ ∀ i l, i < 36 → c_lk C i = some l → fd i = if s_bit (g_down G) (nI l) = true then 1 else 0) ∧
  (∃ fe : Nat → Option Nat, o (c_en C) = 1000 ∧ μ.1 (c_en C) = some (.inl (6, 61, .inr (.inr (.inr (.inr fe))))) ∧ ∀ k, k < 61 → h_ed o μ (fe k) (g_came G) k) ∧
  (∃ (cw : Nat) (ce : Nat → Nat) (ws : List Nat), h_u μ ≤ B + 9 * (cw + s_sum6 ce) ∧ (cw ≤ c_Mw C + c_Mw C / 2 + 10 ∧ ∀ n, ce n ≤ c_Me C + c_Me C / 2 + 10) ∧
    (h_ls g o μ 1001 (c_wl C) cw ws ∧ h_al (h_mg (c_N C) o μ) ws (g_ways G)) ∧ ∀ n q, (c_ns C)[n]? = some q → h_no g o μ n q (ce n) (E n) (g_nd G n) (g_meas G))
section T93
variable {g : z_G} {C : h_C} {o o1 : Nat → Nat} {μ μ1 : z_M} {E : Nat → List Nat} {B b p n q : Nat} {G G' : s_G} {S : Nat → Prop} {N : s_R}
theorem h_dt.fr {d : s_D} (h : h_dt o μ p d) (hf : h_fr g S o μ o1 μ1) (hw : h_wf g μ) (hS : ∀ a, o a = 0 → ¬ S a) : h_dt o1 μ1 p d := by
  obtain ⟨h0, h1, q, h2, h3⟩ := h
  exact ⟨(hf.2.1 p (hw.lt h2)).trans h0, h1, q, hf.cell hw h2 (hS p h0), h3.fr hf hw hS⟩
theorem h_why.fr {x y : Int32} (hf : h_fr g S o μ o1 μ1) (hw : h_wf g μ) (hS : ∀ a, o a = 0 → ¬ S a) : ∀ {d p : Nat}, h_why o μ d p x y → h_why o1 μ1 d p x y := by
  intro d
  induction d with
  | zero =>
    intro p h
    obtain ⟨h0, fs, h1, h2⟩ := h
    rcases h2 with ⟨h2, h3⟩ | ⟨h2, h3⟩
    · exact ⟨(hf.2.1 p (hw.lt h3)).trans h0, fs, h1, Or.inl ⟨h2, hf.cell hw h3 (hS p h0)⟩⟩
    · exact ⟨(hf.2.1 p (hw.lt h3)).trans h0, fs, h1, Or.inr ⟨h2, hf.cell hw h3 (hS p h0)⟩⟩
  | succ d ih =>
    intro p h
    obtain ⟨h0, q, fs, h1, h2, h3, h4⟩ := h
    exact ⟨(hf.2.1 p (hw.lt h3)).trans h0, q, fs, h1, h2, hf.cell hw h3 (hS p h0), ih h4⟩
theorem h_mk.fr {kind name src : Int32} {r : s_Q} {dr wr : Option Nat} {x : Nat} (h : h_mk o μ kind name r dr wr src x) (hf : h_fr g S o μ o1 μ1) (hw : h_wf g μ) (hS : ∀ a, o a = 0 → ¬ S a) : h_mk o1 μ1 kind name r dr wr src x := by
  rcases h with h4 | ⟨h4, h5, ⟨d, h6, h7⟩, h8⟩ | ⟨h4, h5, w, dep, h6, h7, h8⟩
  · exact Or.inl h4
  · exact Or.inr (Or.inl ⟨h4, h5, ⟨d, h6, h7.fr hf hw hS⟩, h8⟩)
  · exact Or.inr (Or.inr ⟨h4, h5, w, dep, h6, h_why.fr hf hw hS h7, h8⟩)
theorem h_mg.fr {m : s_M} (h : h_mg N o μ p m) (hf : h_fr g S o μ o1 μ1) (hw : h_wf g μ) (hS : ∀ a, o a = 0 → ¬ S a) : h_mg N o1 μ1 p m := by
  obtain ⟨h0, h1, a, b, x, q, dr, wr, src, a1, a2, a3, a4, a5, a6, h2, h3, h4⟩ := h
  exact ⟨(hf.2.1 p (hw.lt h2)).trans h0, h1, a, b, x, q, dr, wr, src, a1, a2, a3, a4, a5, a6, hf.cell hw h2 (hS p h0), h3.fr hf hw hS, h4.fr hf hw hS⟩
theorem h_en.fr {e : s_E} (h : h_en g o μ n p e) (hf : h_fr g S o μ o1 μ1) (hw : h_wf g μ) (hS : ∀ a, o a = 0 → ¬ S a) (hS2 : ∀ a, o a = o p ∨ o a = o p + 8 → ¬ S a) : h_en g o1 μ1 n p e := by
  obtain ⟨h0, h1, h2, q, al, ca, h3, h4, h5⟩ := h
  have e1 : o1 p = o p := hf.2.1 p (hw.lt h3)
  exact ⟨by rw [e1]; exact h0, h1, h2, q, al, ca, hf.cell hw h3 (hS2 p (Or.inl rfl)), h4.fr hf hw hS, by rw [e1]; exact h5.fr hf hw (fun a ha => hS2 a (Or.inr ha))⟩
theorem h_en.tag {e : s_E} {a : Nat} (h : h_en g o μ n p e) (ha : o a = o p ∨ o a = o p + 8) : h_tn n (o a) ∧ 2000 ≤ o a := by
  have := h.1
  refine ⟨Or.inr (Or.inr (Or.inr ⟨by omega, by omega⟩)), by omega⟩
theorem h_en.lt {e : s_E} (h : h_en g o μ n p e) (hw : h_wf g μ) : p < μ.2.1 := by
  obtain ⟨h0, h1, h2, q, al, ca, h3, h4, h5⟩ := h
  exact hw.lt h3
theorem h_no.fr {ce : Nat} {es : List Nat} {nd : s_N} {ms : Nat → Int32} (h : h_no g o μ n q ce es nd ms) (hf : h_fr g S o μ o1 μ1) (hw : h_wf g μ) (hS : ∀ a, o a = 0 → ¬ S a) (hS2 : ∀ a, h_tn n (o a) → ¬ S a) : h_no g o1 μ1 n q ce es nd ms := by
  obtain ⟨h0, sl, el, ml, ds, f, h1, ⟨h2, h3⟩, ⟨h4, h5, h6⟩, h7, h8, h9⟩ := h
  have em : es.map o1 = es.map o := List.map_congr_left (fun x hx => by
    obtain ⟨i, hi⟩ := List.getElem?_of_mem hx
    obtain ⟨y, -, hr⟩ := h5.getL hi
    exact hf.2.1 x (hr.lt hw))
  exact ⟨(hf.2.1 q (hw.lt h1)).trans h0, sl, el, ml, ds, f, hf.cell hw h1 (hS2 q (Or.inr (Or.inr (Or.inl h0)))), ⟨h2.fr hf hw (fun a ha => hS2 a (Or.inl ha)), h3.mono (fun x y _ hr => hr.fr hf hw hS)⟩,
    ⟨h4.fr hf hw (fun a ha => hS2 a (Or.inr (Or.inl ha))), h5.mono (fun x y _ hr => hr.fr hf hw hS (fun a ha => hS2 a (hr.tag ha).1)), by rw [em]; exact h6⟩,
    (hf.2.1 ml (hw.lt h8)).trans h7, hf.cell hw h8 (hS2 ml (Or.inr (Or.inr (Or.inl h7)))), h9⟩
theorem h_ndm {es : List Nat} (h : (es.map o).Nodup) : es.Nodup := by
  have h1 := List.pairwise_map.mp h
  exact h1.imp (fun h e => h (by rw [e]))
theorem h_ed.fr {x : Option Nat} {c : Nat → Nat → Int32} {k : Nat} (h : h_ed o μ x c k) (hf : h_fr g S o μ o1 μ1) (hw : h_wf g μ) (hS : ∀ a, o a = 0 → ¬ S a) : h_ed o1 μ1 x c k := by
  cases x with
  | none => exact h
  | some r =>
    obtain ⟨h0, f, h1, h2⟩ := h
    exact ⟨(hf.2.1 r (hw.lt h1)).trans h0, f, hf.cell hw h1 (hS r h0), h2⟩
theorem h_go.wf (h : h_go g C o μ E B G) : h_wf g μ := h.1.1.2
theorem h_go.ok (h : h_go g C o μ E B G) : z_ok g := h.1.1.1
theorem h_go.hN (h : h_go g C o μ E B G) : n_ok (c_N C) := h.1.2.1.1
theorem h_go.hlk (h : h_go g C o μ E B G) : s_lkok (c_N C) (c_lk C) := h.1.2.1.2
theorem h_go.nt (h : h_go g C o μ E B G) : h_nt g o μ (c_p C) (c_d C) (c_N C) (c_lk C) (c_ls C) (c_rs C) (c_ss C) := h.2.1
theorem h_go.oa (h : h_go g C o μ E B G) : o (c_a C) = 1000 := h.2.2.1.1
theorem h_go.ca (h : h_go g C o μ E B G) : μ.1 (c_a C) = some (h_gc C G) := h.2.2.1.2
theorem h_go.nodes (h : h_go g C o μ E B G) : h_ls g o μ 1002 (c_nl C) 6 (c_ns C) ∧ (c_ns C).length = n_nodes (c_N C) := h.2.2.2.1
theorem h_go.ob {α : Type} {m : Option α} (h : h_go g C o μ E B G) : x_ob μ (c_a C) 12 (fun _ => m) = m := x_obS h.ca
theorem h_go.more (h : h_go g C o μ E B G) : h_go g C o μ E (B + b) G := by
  obtain ⟨h1, h2, h3, h4, h5, h6, cw, ce, ws, h7, h8⟩ := h
  exact ⟨h1, h2, h3, h4, h5, h6, cw, ce, ws, by omega, h8⟩
theorem h_go.le {B' : Nat} (h : h_go g C o μ E B G) (hb : B ≤ B') : h_go g C o μ E B' G := by
  obtain ⟨h1, h2, h3, h4, h5, h6, cw, ce, ws, h7, h8⟩ := h
  exact ⟨h1, h2, h3, h4, h5, h6, cw, ce, ws, by omega, h8⟩
/-- the run stands when its cells stand -/
theorem h_go.fr (h : h_go g C o μ E B G) (hf : h_fr g S o μ o1 μ1) (hS : ∀ a, S a → o a ≠ 0 ∧ o a ≠ 3 ∧ o a < 1000) (hu : h_u μ1 ≤ h_u μ + b) : h_go g C o1 μ1 E (B + b) G := by
  obtain ⟨⟨⟨h1, hw⟩, h2⟩, h3, ⟨h4, h5⟩, ⟨h6, h7⟩, ⟨fd, d1, d2, d3⟩, ⟨fe, e1, e2, e3⟩, cw, ce, ws, b1, b2, ⟨w1, w2⟩, n1⟩ := h
  have S0 : ∀ a, o a = 0 → ¬ S a := fun a ha q => (hS a q).1 ha
  have S1 : ∀ a, 1000 ≤ o a → ¬ S a := fun a ha q => by have := (hS a q).2.2; omega
  have hd : o (c_d C) = 3 := by obtain ⟨-, _, _, _, _, _, _, _, _, _, _, _, ⟨q, -⟩, _⟩ := h3; exact q
  refine ⟨⟨⟨h1, hf.wf⟩, h2⟩, h3.fr hf hw S0 (fun q => (hS _ q).2.1 hd), ⟨(hf.2.1 _ (hw.lt h5)).trans h4, hf.cell hw h5 (S1 _ (by omega))⟩, ⟨h6.fr hf hw (fun a ha => S1 a (by omega)), h7⟩, ⟨fd, (hf.2.1 _ (hw.lt d2)).trans d1, hf.cell hw d2 (S1 _ (by omega)), d3⟩,
    ⟨fe, (hf.2.1 _ (hw.lt e2)).trans e1, hf.cell hw e2 (S1 _ (by omega)), fun k hk => (e3 k hk).fr hf hw S0⟩, cw, ce, ws, by omega, b2, ⟨w1.fr hf hw (fun a ha => S1 a (by omega)), w2.mono (fun x y _ hr => hr.fr hf hw S0)⟩, fun n q hq => (n1 n q hq).fr hf hw S0 (fun a ha => S1 a ?_)⟩
  have := h_tn_ge ha
  omega
end T93
