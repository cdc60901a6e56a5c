/-! THE HEAP'S ROWS of the memory logic -/
set_option maxRecDepth 100000
def z_clP (r : vw_C) : Prop := (∀ w ∈ u_ws r.1 r.2.1 r.2.2, w ∈ lw_all) ∧ (∃ ty : Nat → FieldType, ∀ k, k < r.2.2 → parseFieldDescriptor (r.2.1 k).2.2.1 = some (ty k)) ∧ ∀ a, a < r.2.2 → ∀ b, b < r.2.2 → a ≠ b → (r.2.1 a).2.1 ≠ (r.2.1 b).2.1
theorem z_clA : ∀ r ∈ vwCl, z_clP r := by
  unfold vwCl
  refine List.forall_mem_cons.mpr ⟨⟨in_X0, ⟨tyX0, tyX0_ok⟩, nmX0⟩, ?_⟩
  refine List.forall_mem_cons.mpr ⟨⟨in_X1, ⟨tyX1, tyX1_ok⟩, nmX1⟩, ?_⟩
  refine List.forall_mem_cons.mpr ⟨⟨in_X2, ⟨tyX2, tyX2_ok⟩, nmX2⟩, ?_⟩
  refine List.forall_mem_cons.mpr ⟨⟨in_J2, ⟨tyJ2, tyJ2_ok⟩, nmJ2⟩, ?_⟩
  refine List.forall_mem_cons.mpr ⟨⟨in_X4, ⟨tyX4, tyX4_ok⟩, nmX4⟩, ?_⟩
  refine List.forall_mem_cons.mpr ⟨⟨in_X5, ⟨tyX5, tyX5_ok⟩, nmX5⟩, ?_⟩
  refine List.forall_mem_cons.mpr ⟨⟨in_X6, ⟨tyX6, tyX6_ok⟩, nmX6⟩, ?_⟩
  refine List.forall_mem_cons.mpr ⟨⟨in_X7, ⟨tyX7, tyX7_ok⟩, nmX7⟩, ?_⟩
  refine List.forall_mem_cons.mpr ⟨⟨in_X8, ⟨tyX8, tyX8_ok⟩, nmX8⟩, ?_⟩
  refine List.forall_mem_cons.mpr ⟨⟨in_X9, ⟨tyX9, tyX9_ok⟩, nmX9⟩, ?_⟩
  refine List.forall_mem_cons.mpr ⟨⟨in_X10, ⟨tyX10, tyX10_ok⟩, nmX10⟩, ?_⟩
  refine List.forall_mem_cons.mpr ⟨⟨in_X11, ⟨tyX11, tyX11_ok⟩, nmX11⟩, ?_⟩
  refine List.forall_mem_cons.mpr ⟨⟨in_X12, ⟨tyX12, tyX12_ok⟩, nmX12⟩, ?_⟩
  refine List.forall_mem_cons.mpr ⟨⟨in_X13, ⟨tyX13, tyX13_ok⟩, nmX13⟩, ?_⟩
  refine List.forall_mem_cons.mpr ⟨⟨in_X14, ⟨tyX14, tyX14_ok⟩, nmX14⟩, ?_⟩
  refine List.forall_mem_cons.mpr ⟨⟨in_X15, ⟨tyX15, tyX15_ok⟩, nmX15⟩, ?_⟩
  refine List.forall_mem_cons.mpr ⟨⟨in_X16, ⟨tyX16, tyX16_ok⟩, nmX16⟩, ?_⟩
  refine List.forall_mem_cons.mpr ⟨⟨in_X17, ⟨tyX17, tyX17_ok⟩, nmX17⟩, ?_⟩
  refine List.forall_mem_cons.mpr ⟨⟨in_X18, ⟨tyX18, tyX18_ok⟩, nmX18⟩, ?_⟩
  refine List.forall_mem_cons.mpr ⟨⟨in_X19, ⟨tyX19, tyX19_ok⟩, nmX19⟩, ?_⟩
  refine List.forall_mem_cons.mpr ⟨⟨in_X20, ⟨tyX20, tyX20_ok⟩, nmX20⟩, ?_⟩
  refine List.forall_mem_cons.mpr ⟨⟨in_X21, ⟨tyX21, tyX21_ok⟩, nmX21⟩, ?_⟩
  refine List.forall_mem_cons.mpr ⟨⟨in_J5, ⟨tyJ5, tyJ5_ok⟩, nmJ5⟩, ?_⟩
  refine List.forall_mem_cons.mpr ⟨⟨in_J6, ⟨tyJ6, tyJ6_ok⟩, nmJ6⟩, ?_⟩
  refine List.forall_mem_cons.mpr ⟨⟨in_J19, ⟨tyJ19, tyJ19_ok⟩, nmJ19⟩, ?_⟩
  refine List.forall_mem_cons.mpr ⟨⟨in_J20, ⟨tyJ20, tyJ20_ok⟩, nmJ20⟩, ?_⟩
  exact fun _ h => absurd h List.not_mem_nil
theorem z_cl {ci : Nat} {r : vw_C} (h : vwCl[ci]? = some r) : z_clP r := z_clA r (List.mem_of_getElem? h)
theorem z_P1 {D : va_G} {q : Nat × va_E} {H : Heap} (h : va_at D vwCl q H) : va_P D vwCl [q] H := by
  intro k x hx
  have hk : k < 1 := (List.getElem?_eq_some_iff.mp hx).1
  rw [show k = 0 by omega] at hx
  cases hx
  exact h
/-- one cell is written -/
def z_set (μ : z_M) (a : Nat) (x : z_C) : z_M := (fun b => if b = a then some x else μ.1 b, μ.2)
theorem z_set_self {μ : z_M} {a : Nat} {x : z_C} : (z_set μ a x).1 a = some x := if_pos rfl
theorem z_set_ne {μ : z_M} {a b : Nat} {x : z_C} (h : b ≠ a) : (z_set μ a x).1 b = μ.1 b := if_neg h
/-- one cell is made, of k slots -/
def z_new (μ : z_M) (k : Nat) (x : z_C) : z_M := (fun b => if b = μ.2.1 then some x else μ.1 b, μ.2.1 + 1, μ.2.2 + k)
theorem z_new_self {μ : z_M} {k : Nat} {x : z_C} : (z_new μ k x).1 μ.2.1 = some x := if_pos rfl
theorem z_new_ne {μ : z_M} {k b : Nat} {x : z_C} (h : b ≠ μ.2.1) : (z_new μ k x).1 b = μ.1 b := if_neg h
theorem z_MH.lt {g : z_G} {μ : z_M} {H : Heap} (h : z_MH g μ H) {a : Nat} {x : z_C} (hm : μ.1 a = some x) : a < H.size := (h.2.2.2 a x hm).2.2.lt
theorem z_MH.set {g : z_G} {μ : z_M} {H H1 : Heap} {a : Nat} {x x0 : z_C} (h : z_MH g μ H) (hm : μ.1 a = some x0) (ht : ∀ q, x = .inl q → q.1 < 7) (he : va_at g.2.2.1 vwCl (a, z_e g x) H1) (hz : H1.size = H.size) (oq : ∀ q : Nat, q ≠ a → H1[q]? = H[q]?) (hmo : (∃ o, x = .inr o) → ∀ c, H1[a]? = some c → c.monitor = {} := by intro h; obtain ⟨o, h⟩ := h; cases h) : z_MH g (z_set μ a x) H1 := by
  refine ⟨hz.trans h.1, ⟨h.2.1.1, fun b c hb hc => ?_⟩, fun q hq => ?_, fun b y hb => ?_⟩
  · by_cases hba : b = a
    · subst hba
      cases x with
      | inl q =>
        have he' : H1[b]? = some (vp_cell (z_aC g q.1) q.2) := he
        rw [he'] at hc
        cases hc
        obtain ⟨t, n, f | f | f | f | f⟩ := q <;> rfl
      | inr o => exact hmo ⟨o, rfl⟩ c hc
    · rw [oq b hba] at hc
      exact h.2.1.2 b c hb hc
  · have hne : q ≠ a := fun e => by
      have := (h.2.2.2 a _ hm).1
      omega
    rw [oq q hne]
    exact h.2.2.1 q hq
  · by_cases hba : b = a
    · subst hba
      rw [z_set_self] at hb
      cases hb
      exact ⟨(h.2.2.2 b _ hm).1, ht, he⟩
    · rw [z_set_ne hba] at hb
      obtain ⟨h1, h2, h3⟩ := h.2.2.2 b y hb
      exact ⟨h1, h2, h3.kept (oq b hba)⟩
theorem z_MH.new {g : z_G} {μ : z_M} {H H1 : Heap} {k : Nat} {x : z_C} (h : z_MH g μ H) (ht : ∀ q, x = .inl q → q.1 < 7) (he : va_at g.2.2.1 vwCl (H.size, z_e g x) H1) (hz : H1.size = H.size + 1) (oq : ∀ q : Nat, q < H.size → H1[q]? = H[q]?) (hmo : (∃ o, x = .inr o) → ∀ c, H1[H.size]? = some c → c.monitor = {} := by intro h; obtain ⟨o, h⟩ := h; cases h) : z_MH g (z_new μ k x) H1 := by
  have hs := h.1
  refine ⟨by rw [hz, hs]; rfl, ⟨by show z_b g ≤ μ.2.1 + 1; have := h.2.1.1; omega, fun b c hb hc => ?_⟩, fun q hq => ?_, fun b y hb => ?_⟩
  · have hlt : b < H1.size := (Array.getElem?_eq_some_iff.mp hc).1
    by_cases hba : b = H.size
    · subst hba
      cases x with
      | inl q =>
        have he' : H1[H.size]? = some (vp_cell (z_aC g q.1) q.2) := he
        rw [he'] at hc
        cases hc
        obtain ⟨t, n, f | f | f | f | f⟩ := q <;> rfl
      | inr o => exact hmo ⟨o, rfl⟩ c hc
    · rw [oq b (by omega)] at hc
      exact h.2.1.2 b c hb hc
  · rw [oq q (by have := h.2.1.1; omega)]
    exact h.2.2.1 q hq
  · by_cases hba : b = μ.2.1
    · subst hba
      rw [z_new_self] at hb
      cases hb
      exact ⟨h.2.1.1, ht, by rw [← hs]; exact he⟩
    · rw [z_new_ne hba] at hb
      obtain ⟨h1, h2, h3⟩ := h.2.2.2 b y hb
      exact ⟨h1, h2, h3.kept (oq b h3.lt)⟩
/-- an index within -/
def z_ix (i : Int32) (j n : Nat) : Prop := ¬ i < 0 ∧ i.toNatClampNeg = j ∧ j < n
theorem z_ix.in {i : Int32} {j n : Nat} (h : z_ix i j n) : vp_in i n := fun q => by
  rcases q with q | q
  · exact h.1 q
  · have := h.2.1
    have := h.2.2
    omega
theorem z_ixN {j n : Nat} (h : j < n) (hn : n ≤ 2 ^ 31) : z_ix (nI j) j n := ⟨nI_pos (by omega), nI_clamp (by omega), h⟩
section ZW
variable {g : z_G} {d : Nat} {Y : z_Y} {Q : z_O → z_M → Prop} {μ μ1 : z_M} {pc pc1 : Nat} {lc lc1 : List (Nat × Value)} {st st1 : List Value}
/-- a row that writes a cell that was made before -/
theorem z_wr (k : z_V g d Y pc1 lc st1 μ1 Q) (hn : μ1.2 = μ.2)
    (h : ∀ (p : Program) (e : Env) (R : Room) (s : State) (m : MethodId) (args : Array Value) (below : List Frame) (meth : Method) (c : Code) (H : Heap) (locs : List Loc) (cells slots : Nat) (Qs : State → Prop) (ls : Array Slot),
      z_Cx g d Y p R s m args meth c → lv_has ls Y.2.2.1 lc → z_MH g μ H →
      (∀ (H1 : Heap) (x : Loc), z_MH g μ1 H1 → z_b g ≤ x.base → W p g.1 e R s m args below meth c H1 (locs ++ [x]) cells slots Qs (F0 m pc1 ls st1)) → W p g.1 e R s m args below meth c H locs cells slots Qs (F0 m pc ls st)) : z_V g d Y pc lc st μ Q := by
  refine z_heap (by rw [hn]; exact Nat.le_refl _) (by rw [hn]; exact Nat.le_refl _) k fun p e R s m args below meth c H locs cells slots Qs ls C hl hM hL _ _ k9 => ?_
  rw [hn, Nat.sub_self, Nat.sub_self, Nat.add_zero, Nat.add_zero] at k9
  exact h p e R s m args below meth c H locs cells slots Qs ls C hl hM fun H1 x hM1 hx => k9 H1 _ hM1 fun q hq => by
    rcases List.mem_append.mp hq with q1 | q1
    · exact hL q q1
    · cases List.mem_singleton.mp q1
      exact hx
end ZW
section ZF
variable {g : z_G} {d : Nat} {Y : z_Y} {Q : z_O → z_M → Prop} {μ : z_M} {pc index ci N a : Nat} {lc : List (Nat × Value)} {rest : List Value} {C : String} {T : u_T} {fs : List Value} {v : Value} {ty : FieldType}
theorem zi_getf (k : Nat) (hm : μ.1 a = some (.inr (ci, fs))) (hc : vwCl[ci]? = some (C, T, N)) (hk : k < N) (hq : Cond.fieldLink Y.1.cls index (T k).1 (T k).2.1 (T k).2.2.1 ∈ lw_all) (hv : fs[k]? = some v) (hd : decode Y.2.1 pc = .ok (.getfield index, 3)) (kk : z_V g d Y (pc + 3) lc (v :: rest) μ Q) : z_V g d Y pc lc (.ref a :: rest) μ Q :=
  z_pure kk fun _ _ _ _ _ _ _ _ _ _ _ _ _ _ _ C0 hl hM k9 => va_get (ws := [(a, .inr (ci, fs))]) C0.2.2.1 C0.2.2.2.1 C0.2.2.2.2.2.2.2.2.2.1 (z_cl hc).1 C0.2.2.2.2.2.2.2.1 (z_kK C0.1 C0.2.1) (z_P1 (hM.2.2.2 a _ hm).2.2) 0 rfl hc k hk (C0.2.2.2.2.2.2.2.2.2.1 _ hq) (fun _ h => h) hv hd (k9 _ hl)
theorem zi_getN {host : String} (k : Nat) (hm : μ.1 a = some (.inr (ci, fs))) (hc : vwCl[ci]? = some (C, T, N)) (hk : k < N) (hq : Cond.fieldLinkNest Y.1.cls index (T k).1 (T k).2.1 (T k).2.2.1 host ∈ lw_tbl) (hv : fs[k]? = some v) (hd : decode Y.2.1 pc = .ok (.getfield index, 3)) (kk : z_V g d Y (pc + 3) lc (v :: rest) μ Q) : z_V g d Y pc lc (.ref a :: rest) μ Q :=
  z_pure kk fun _ _ _ _ _ _ _ _ _ _ _ _ _ _ _ C0 hl hM k9 => va_getN (ws := [(a, .inr (ci, fs))]) C0.2.2.1 C0.2.2.2.1 C0.2.2.2.2.2.2.2.2.2.1 (z_cl hc).1 C0.2.2.2.2.2.2.2.1 (z_kK C0.1 C0.2.1) (z_P1 (hM.2.2.2 a _ hm).2.2) 0 rfl hc k hk (va_Nw.use rfl (C0.2.1.1 _ hq rfl)) (fun _ h => h) hv hd (k9 _ hl)
/-- a field's value, of an object made or of a constant -/
def z_fld (g : z_G) (μ : z_M) (a : Nat) (o n ds : String) (v : Value) : Prop := (∃ (ci : Nat) (fs : List Value) (C : String) (T : u_T) (N k : Nat), μ.1 a = some (.inr (ci, fs)) ∧ vwCl[ci]? = some (C, T, N) ∧ k < N ∧ ((T k).1, (T k).2.1, (T k).2.2.1) = (o, n, ds) ∧ fs[k]? = some v) ∨ z_OF g o n ds v a
theorem zi_getX {o n ds : String} (h : z_ok g → z_fld g μ a o n ds v) (hq : Cond.fieldLink Y.1.cls index o n ds ∈ lw_all) (hd : decode Y.2.1 pc = .ok (.getfield index, 3)) (kk : z_V g d Y (pc + 3) lc (v :: rest) μ Q) : z_V g d Y pc lc (.ref a :: rest) μ Q := by
  refine z_pure kk fun p e R s m args below meth c H locs cells slots Qs ls C0 hl hM k9 => ?_
  rcases h C0.1 with ⟨ci, fs, C, T, N, k, hm, hc, hk, ht, hv⟩ | ⟨cf, k, fi, f, cell, h1, h2, h3, h4, h5, h6⟩
  · cases ht
    exact va_get (ws := [(a, .inr (ci, fs))]) C0.2.2.1 C0.2.2.2.1 C0.2.2.2.2.2.2.2.2.2.1 (z_cl hc).1 C0.2.2.2.2.2.2.2.1 (z_kK C0.1 C0.2.1) (z_P1 (hM.2.2.2 a _ hm).2.2) 0 rfl hc k hk (C0.2.2.2.2.2.2.2.2.2.1 _ hq) (fun _ h => h) hv hd (k9 _ hl)
  · obtain ⟨k', hi', -⟩ := State.fieldFound?_setVm C0.2.1.2 h1
    exact W.getf C0.2.2.1 C0.2.2.2.1 C0.2.2.2.2.2.2.2.1 (C0.2.2.2.2.2.2.2.2.2.1 _ hq) hi' h2 (by rw [hM.2.2.1 a (Nat.lt_of_not_le h6)]; exact h3) h4 h5 rfl rfl hd (k9 _ hl)
theorem zi_putf (k : Nat) (hm : μ.1 a = some (.inr (ci, fs))) (hc : vwCl[ci]? = some (C, T, N)) (hk : k < N) (hq : Cond.fieldLink Y.1.cls index (T k).1 (T k).2.1 (T k).2.2.1 ∈ lw_all) (hfin : (T k).2.2.2 = false) (hp : parseFieldDescriptor (T k).2.2.1 = some ty) (hn : narrow ty v = v) (hf : fits ty v = true) (hlen : k < fs.length) (hd : decode Y.2.1 pc = .ok (.putfield index, 3)) (kk : z_V g d Y (pc + 3) lc rest (z_set μ a (.inr (ci, fs.set k v))) Q) : z_V g d Y pc lc (v :: .ref a :: rest) μ Q := by
  refine z_wr kk rfl fun p e R s m args below meth c H locs cells slots Qs ls C0 hl hM k9 => ?_
  obtain ⟨hin, ⟨ty0, hty⟩, hnm⟩ := z_cl hc
  have hts := C0.2.2.2.2.2.2.2.2.2.1
  have hK := z_kK C0.1 C0.2.1
  have hap := va_apart (own := C) hts hin ty0 hty hnm hK hc
  obtain ⟨hb0, -, r, h1, cell, q1, q2, q3, q4⟩ := hM.2.2.2 a _ hm
  cases h1.symm.trans hc
  obtain ⟨hS, hfc, kC, hkC, hkind⟩ := hK.1 ci _ hc
  obtain ⟨cf, kf, fi, f, hi, hsl⟩ := hS k hk
  have hlay := hts _ (hin _ (u_in_lay hk))
  unfold u_lay at hlay
  rw [if_neg (by rw [hfin]; decide)] at hlay
  have hst := (u_facts hfc hkC (u_lays hts hin hk) hi).1
  have h6 := u_store hfc hkC hkind hlay hi hp hn hf
  refine W.putK C0.2.2.1 C0.2.2.2.1 (f := f) ⟨C0.2.2.2.2.2.2.2.1, hts _ hq, ⟨_, _, _, hi⟩, hst⟩ (by rw [q2]; exact h6) q1 q3 (by rw [hsl]; exact k2_hasslot (q4 k hk)) rfl rfl hd fun H' e1 e2 e3 => ?_
  rw [hsl] at e1
  exact k9 H' _ (hM.set hm (fun _ h => by cases h) ⟨_, hc, t_OB.to (V := updV (vp_V fs) k v) ⟨_, e1, q2, q3, t_set q4 hap hk v⟩ (fun j _ => vp_updV_set hlen v j)⟩ e2 e3 (fun _ c hc => by rw [e1] at hc; cases hc; exact hM.2.1.2 a cell hb0 q1)) hb0
theorem zi_putN {host : String} (k : Nat) (hm : μ.1 a = some (.inr (ci, fs))) (hc : vwCl[ci]? = some (C, T, N)) (hk : k < N) (hq : Cond.fieldLinkNest Y.1.cls index (T k).1 (T k).2.1 (T k).2.2.1 host ∈ lw_tbl) (hfin : (T k).2.2.2 = false) (hp : parseFieldDescriptor (T k).2.2.1 = some ty) (hn : narrow ty v = v) (hf : fits ty v = true) (hlen : k < fs.length) (hd : decode Y.2.1 pc = .ok (.putfield index, 3)) (kk : z_V g d Y (pc + 3) lc rest (z_set μ a (.inr (ci, fs.set k v))) Q) : z_V g d Y pc lc (v :: .ref a :: rest) μ Q := by
  refine z_wr kk rfl fun p e R s m args below meth c H locs cells slots Qs ls C0 hl hM k9 => ?_
  obtain ⟨hin, ⟨ty0, hty⟩, hnm⟩ := z_cl hc
  have hts := C0.2.2.2.2.2.2.2.2.2.1
  have hK := z_kK C0.1 C0.2.1
  have hap := va_apart (own := C) hts hin ty0 hty hnm hK hc
  obtain ⟨hb0, -, r, h1, cell, q1, q2, q3, q4⟩ := hM.2.2.2 a _ hm
  cases h1.symm.trans hc
  obtain ⟨hS, hfc, kC, hkC, hkind⟩ := hK.1 ci _ hc
  obtain ⟨cf, kf, fi, f, hi, hsl⟩ := hS k hk
  have hlay := hts _ (hin _ (u_in_lay hk))
  unfold u_lay at hlay
  rw [if_neg (by rw [hfin]; decide)] at hlay
  have hst := (u_facts hfc hkC (u_lays hts hin hk) hi).1
  have h6 := u_store hfc hkC hkind hlay hi hp hn hf
  refine va_WputK C0.2.2.1 C0.2.2.2.1 (f := f) C0.2.2.2.2.2.2.2.1 (va_Nw.use rfl (C0.2.1.1 _ hq rfl)) hi hst (by rw [q2]; exact h6) q1 q3 (by rw [hsl]; exact k2_hasslot (q4 k hk)) rfl rfl hd fun H' e1 e2 e3 => ?_
  rw [hsl] at e1
  exact k9 H' _ (hM.set hm (fun _ h => by cases h) ⟨_, hc, t_OB.to (V := updV (vp_V fs) k v) ⟨_, e1, q2, q3, t_set q4 hap hk v⟩ (fun j _ => vp_updV_set hlen v j)⟩ e2 e3 (fun _ c hc => by rw [e1] at hc; cases hc; exact hM.2.1.2 a cell hb0 q1)) hb0
theorem zi_putF (k : Nat) (hm : μ.1 a = some (.inr (ci, fs))) (hc : vwCl[ci]? = some (C, T, N)) (hk : k < N) (hq : Cond.fieldLink Y.1.cls index (T k).1 (T k).2.1 (T k).2.2.1 ∈ lw_all) (hfin : (T k).2.2.2 = true) (hin2 : Y.1.name = "<init>") (hdecl : (T k).1 = Y.1.cls) (hp : parseFieldDescriptor (T k).2.2.1 = some ty) (hn : narrow ty v = v) (hf : fits ty v = true) (hlen : k < fs.length) (hd : decode Y.2.1 pc = .ok (.putfield index, 3)) (kk : z_V g d Y (pc + 3) lc rest (z_set μ a (.inr (ci, fs.set k v))) Q) : z_V g d Y pc lc (v :: .ref a :: rest) μ Q := by
  refine z_wr kk rfl fun p e R s m args below meth c H locs cells slots Qs ls C0 hl hM k9 => ?_
  obtain ⟨hin, ⟨ty0, hty⟩, hnm⟩ := z_cl hc
  have hts := C0.2.2.2.2.2.2.2.2.2.1
  have hK := z_kK C0.1 C0.2.1
  have hap := va_apart (own := C) hts hin ty0 hty hnm hK hc
  obtain ⟨hb0, -, r, h1, cell, q1, q2, q3, q4⟩ := hM.2.2.2 a _ hm
  cases h1.symm.trans hc
  obtain ⟨hS, hfc, kC, hkC, hkind⟩ := hK.1 ci _ hc
  obtain ⟨cf, kf, fi, f, hi, hsl⟩ := hS k hk
  have hlay := hts _ (hin _ (u_in_lay hk))
  unfold u_lay at hlay
  rw [if_pos hfin] at hlay
  have hst := (u_facts hfc hkC (u_lays hts hin hk) hi).1
  have hown := C0.2.2.2.2.2.2.2.1
  have hcf : m.cls = cf := by
    obtain ⟨_, _, c', _, _, _, -, -, hf', -, -, -, hown2, -⟩ := Cond.laysFinal_spec hlay
    have e1 : c' = cf := by have := hi.symm.trans hf'; simp at this; exact this.1.symm
    rw [hdecl] at hown2
    rw [← e1]; exact Option.some.inj (hown.symm.trans hown2)
  have h6 := u_fits hfc hkC hkind (Or.inr hlay) hi hp hn hf
  refine W.putFinK C0.2.2.1 C0.2.2.2.1 hown (hts _ hq) hi hst hcf (C0.2.2.2.2.2.2.2.2.1.trans hin2) (by rw [q2]; exact h6) q1 q3 (by rw [hsl]; exact k2_hasslot (q4 k hk)) rfl rfl hd fun H' e1 e2 e3 => ?_
  rw [hsl] at e1
  exact k9 H' _ (hM.set hm (fun _ h => by cases h) ⟨_, hc, t_OB.to (V := updV (vp_V fs) k v) ⟨_, e1, q2, q3, t_set q4 hap hk v⟩ (fun j _ => vp_updV_set hlen v j)⟩ e2 e3 (fun _ c hc => by rw [e1] at hc; cases hc; exact hM.2.1.2 a cell hb0 q1)) hb0
end ZF
section ZA
variable {g : z_G} {d : Nat} {Y : z_Y} {Q : z_O → z_M → Prop} {μ : z_M} {pc index a n j : Nat} {lc : List (Nat × Value)} {rest : List Value} {i : Int32}
theorem z_upd_fun {α : Type} {f : Nat → α} {mk : α → Value} {j : Nat} {x : α} : updV (fun k => mk (f k)) j (mk x) = fun k => mk (if k = j then x else f k) := by
  funext k
  by_cases h : k = j
  · simp [updV, h]
  · simp [updV, h]
theorem zi_iald {f : Nat → Int32} (j : Nat) (hm : μ.1 a = some (.inl (0, n, .inl f))) (hi : z_ix i j n) (hd : decode Y.2.1 pc = .ok (.iaload, 1)) (kk : z_V g d Y (pc + 1) lc (.int (f j) :: rest) μ Q) : z_V g d Y pc lc (.int i :: .ref a :: rest) μ Q :=
  z_pure kk fun _ _ _ _ _ _ _ _ _ _ _ _ _ _ _ C0 hl hM k9 => W.iald (v := .int (f j)) C0.2.2.1 C0.2.2.2.1 (hM.2.2.2 a _ hm).2.2 ((z_kT (z_kK C0.1 C0.2.1) (t := 0) (by decide)).1 n (fun q => .int (f q))) (fun q => by cases q) (by show ¬ (i < 0 ∨ (arrV _ _ _).slots.size ≤ _); rw [arrV_size]; exact hi.in) (by show (arrV _ _ _).slots[_]? = _; rw [hi.2.1, arrV_read _ _ hi.2.2]) rfl rfl hd (k9 _ hl)
theorem zi_bald {f : Nat → Int32} (j : Nat) (hm : μ.1 a = some (.inl (1, n, .inl f))) (hi : z_ix i j n) (hd : decode Y.2.1 pc = .ok (.baload, 1)) (kk : z_V g d Y (pc + 1) lc (.int (f j) :: rest) μ Q) : z_V g d Y pc lc (.int i :: .ref a :: rest) μ Q :=
  z_pure kk fun _ _ _ _ _ _ _ _ _ _ _ _ _ _ _ C0 hl hM k9 => W.bald (v := .int (f j)) C0.2.2.1 C0.2.2.2.1 (hM.2.2.2 a _ hm).2.2 ((z_kT (z_kK C0.1 C0.2.1) (t := 1) (by decide)).1 n (fun q => .int (f q))) (fun q => by cases q) (by show ¬ (i < 0 ∨ (arrV _ _ _).slots.size ≤ _); rw [arrV_size]; exact hi.in) (by show (arrV _ _ _).slots[_]? = _; rw [hi.2.1, arrV_read _ _ hi.2.2]) rfl rfl hd (k9 _ hl)
theorem zi_zald {f : Nat → Int32} (j : Nat) (hm : μ.1 a = some (.inl (2, n, .inl f))) (hi : z_ix i j n) (hd : decode Y.2.1 pc = .ok (.baload, 1)) (kk : z_V g d Y (pc + 1) lc (.int (f j) :: rest) μ Q) : z_V g d Y pc lc (.int i :: .ref a :: rest) μ Q :=
  z_pure kk fun _ _ _ _ _ _ _ _ _ _ _ _ _ _ _ C0 hl hM k9 => W.zald (v := .int (f j)) C0.2.2.1 C0.2.2.2.1 (hM.2.2.2 a _ hm).2.2 ((z_kT (z_kK C0.1 C0.2.1) (t := 2) (by decide)).1 n (fun q => .int (f q))) (fun q => by cases q) (by show ¬ (i < 0 ∨ (arrV _ _ _).slots.size ≤ _); rw [arrV_size]; exact hi.in) (by show (arrV _ _ _).slots[_]? = _; rw [hi.2.1, arrV_read _ _ hi.2.2]) rfl rfl hd (k9 _ hl)
theorem zi_lald {f : Nat → Int64} (j : Nat) (hm : μ.1 a = some (.inl (3, n, .inr (.inl f)))) (hi : z_ix i j n) (hd : decode Y.2.1 pc = .ok (.laload, 1)) (kk : z_V g d Y (pc + 1) lc (.long (f j) :: rest) μ Q) : z_V g d Y pc lc (.int i :: .ref a :: rest) μ Q :=
  z_pure kk fun _ _ _ _ _ _ _ _ _ _ _ _ _ _ _ C0 hl hM k9 => W.lald (v := .long (f j)) C0.2.2.1 C0.2.2.2.1 (hM.2.2.2 a _ hm).2.2 ((z_kT (z_kK C0.1 C0.2.1) (t := 3) (by decide)).1 n (fun q => .long (f q))) (fun q => by cases q) (by show ¬ (i < 0 ∨ (arrV _ _ _).slots.size ≤ _); rw [arrV_size]; exact hi.in) (by show (arrV _ _ _).slots[_]? = _; rw [hi.2.1, arrV_read _ _ hi.2.2]) rfl rfl hd (k9 _ hl)
theorem zi_aald {t : Nat} {f : Nat → Option Nat} {v : Value} (j : Nat) (ht : 4 ≤ t ∧ t < 7) (hm : μ.1 a = some (.inl (t, n, .inr (.inr (.inr (.inr f)))))) (hi : z_ix i j n) (hv : va_rf (f j) = v) (hd : decode Y.2.1 pc = .ok (.aaload, 1)) (kk : z_V g d Y (pc + 1) lc (v :: rest) μ Q) : z_V g d Y pc lc (.int i :: .ref a :: rest) μ Q :=
  z_pure kk fun _ _ _ _ _ _ _ _ _ _ _ _ _ _ _ C0 hl hM k9 => W.aald (ty := z_ty t) C0.2.2.1 C0.2.2.2.1 (hM.2.2.2 a _ hm).2.2 ((z_kT (z_kK C0.1 C0.2.1) ht.2).1 n (fun q => va_rf (f q))) (by rcases (show t = 4 ∨ t = 5 ∨ t = 6 by omega) with rfl | rfl | rfl <;> rfl) (fun q => by cases q) (by show ¬ (i < 0 ∨ (arrV _ _ _).slots.size ≤ _); rw [arrV_size]; exact hi.in) (by show (arrV _ _ _).slots[_]? = _; rw [hi.2.1, arrV_read _ _ hi.2.2, hv]) rfl rfl hd (k9 _ hl)
/-- an array as it is read: made, or a constant -/
def z_arr (g : z_G) (μ : z_M) (a t n : Nat) (f : Nat → Value) : Prop := (∃ x : vp_A, μ.1 a = some (.inl (t, x)) ∧ x.1 = n ∧ vp_cell 0 x = arrV 0 n f) ∨ z_T g (z_ty t) a n f
theorem z_arrV {cA : ClassId} {k n : Nat} {f1 f2 : Nat → Value} (h : arrV 0 k f1 = arrV 0 n f2) : arrV cA k f1 = arrV cA n f2 := by
  have h2 : (arrV 0 k f1).slots = (arrV 0 n f2).slots := congrArg Cell.slots h
  unfold arrV at h2 ⊢
  simp only at h2
  rw [h2]
theorem z_cellV {cA : ClassId} {x : vp_A} {n : Nat} {f : Nat → Value} (h : vp_cell 0 x = arrV 0 n f) : vp_cell cA x = arrV cA n f := by
  obtain ⟨k, q | q | q | q | q⟩ := x
  · rw [vp_cell_i] at h ⊢; exact z_arrV h
  · rw [vp_cell_l] at h ⊢; exact z_arrV h
  · rw [vp_cell_f] at h ⊢; exact z_arrV h
  · rw [vp_cell_d] at h ⊢; exact z_arrV h
  · rw [vp_cell_q] at h ⊢; exact z_arrV h
theorem zi_alen {t : Nat} {f : Nat → Value} (h : z_ok g → z_arr g μ a t n f) (ht : t < 7) (hd : decode Y.2.1 pc = .ok (.arraylength, 1)) (kk : z_V g d Y (pc + 1) lc (.int (nI n) :: rest) μ Q) : z_V g d Y pc lc (.ref a :: rest) μ Q := by
  refine z_pure kk fun p e R s m args below meth c H locs cells slots Qs ls C0 hl hM k9 => ?_
  rcases h C0.1 with ⟨x, hm, hx, hv⟩ | ⟨cell, h1, h2, h3, h4, h5, h6, h7⟩
  · have q1 : H[a]? = some (vp_cell (z_aC g t) x) := (hM.2.2.2 a _ hm).2.2
    rw [z_cellV hv] at q1
    exact W.alen (n := nI n) C0.2.2.1 C0.2.2.2.1 q1 ((z_kT (z_kK C0.1 C0.2.1) ht).1 n f) (by rw [arrV_size]; rfl) rfl rfl hd (k9 _ hl)
  · exact W.alen (n := nI n) C0.2.2.1 C0.2.2.2.1 (by rw [hM.2.2.1 a (Nat.lt_of_not_le h7)]; exact h1) (State.isArrayOf_alike C0.2.1.2 h2) (by rw [h5]; rfl) rfl rfl hd (k9 _ hl)
theorem zi_baldX {f : Nat → Value} {v : Value} (j : Nat) (h : z_ok g → z_arr g μ a 1 n f) (hi : z_ix i j n) (hv : f j = v) (hd : decode Y.2.1 pc = .ok (.baload, 1)) (kk : z_V g d Y (pc + 1) lc (v :: rest) μ Q) : z_V g d Y pc lc (.int i :: .ref a :: rest) μ Q := by
  refine z_pure kk fun p e R s m args below meth c H locs cells slots Qs ls C0 hl hM k9 => ?_
  rcases h C0.1 with ⟨x, hm, hx, hv9⟩ | ⟨cell, h1, h2, h3, h4, h5, h6, h7⟩
  · have q1 : H[a]? = some (vp_cell (z_aC g 1) x) := (hM.2.2.2 a _ hm).2.2
    rw [z_cellV hv9] at q1
    exact W.bald (v := v) C0.2.2.1 C0.2.2.2.1 q1 ((z_kT (z_kK C0.1 C0.2.1) (t := 1) (by decide)).1 n f) (fun q => by cases q) (by rw [arrV_size]; exact hi.in) (by rw [hi.2.1, arrV_read _ _ hi.2.2, hv]) rfl rfl hd (k9 _ hl)
  · exact W.bald (v := v) C0.2.2.1 C0.2.2.2.1 (by rw [hM.2.2.1 a (Nat.lt_of_not_le h7)]; exact h1) (State.isArrayOf_alike C0.2.1.2 h2) h3 (fun q => by
      rcases q with q | q
      · exact hi.1 q
      · have := hi.2.1
        have := hi.2.2
        omega) (by rw [hi.2.1, h6 _ hi.2.2, hv]) rfl rfl hd (k9 _ hl)
theorem zi_aaldC {ty : FieldType} {f : Nat → Value} {v : Value} (j : Nat) (h : z_ok g → z_T g ty a n f) (hty : ty.isReference = true) (hi : z_ix i j n) (hv : f j = v) (hd : decode Y.2.1 pc = .ok (.aaload, 1)) (kk : z_V g d Y (pc + 1) lc (v :: rest) μ Q) : z_V g d Y pc lc (.int i :: .ref a :: rest) μ Q := by
  refine z_pure kk fun p e R s m args below meth c H locs cells slots Qs ls C0 hl hM k9 => ?_
  obtain ⟨cell, h1, h2, h3, h4, h5, h6, h7⟩ := h C0.1
  exact W.aald (v := v) (ty := ty) C0.2.2.1 C0.2.2.2.1 (by rw [hM.2.2.1 a (Nat.lt_of_not_le h7)]; exact h1) (State.isArrayOf_alike C0.2.1.2 h2) hty h3 (fun q => by
      rcases q with q | q
      · exact hi.1 q
      · have := hi.2.1
        have := hi.2.2
        omega) (by rw [hi.2.1, h6 _ hi.2.2, hv]) rfl rfl hd (k9 _ hl)
theorem zi_alenC {ty : FieldType} {f : Nat → Value} (h : z_ok g → z_T g ty a n f) (hd : decode Y.2.1 pc = .ok (.arraylength, 1)) (kk : z_V g d Y (pc + 1) lc (.int (nI n) :: rest) μ Q) : z_V g d Y pc lc (.ref a :: rest) μ Q := by
  refine z_pure kk fun p e R s m args below meth c H locs cells slots Qs ls C0 hl hM k9 => ?_
  obtain ⟨cell, h1, h2, h3, h4, h5, h6, h7⟩ := h C0.1
  exact W.alen (n := nI n) C0.2.2.1 C0.2.2.2.1 (by rw [hM.2.2.1 a (Nat.lt_of_not_le h7)]; exact h1) (State.isArrayOf_alike C0.2.1.2 h2) (by rw [h5]; rfl) rfl rfl hd (k9 _ hl)
theorem zi_iast {f : Nat → Int32} {x : Int32} (j : Nat) (hm : μ.1 a = some (.inl (0, n, .inl f))) (hi : z_ix i j n) (hd : decode Y.2.1 pc = .ok (.iastore, 1)) (kk : z_V g d Y (pc + 1) lc rest (z_set μ a (.inl (0, n, .inl (fun k => if k = j then x else f k)))) Q) : z_V g d Y pc lc (.int x :: .int i :: .ref a :: rest) μ Q := by
  refine z_wr kk rfl fun p e R s m args below meth c H locs cells slots Qs ls C0 hl hM k9 => ?_
  obtain ⟨hb0, -, hat⟩ := hM.2.2.2 a _ hm
  refine W.iast C0.2.2.1 C0.2.2.2.1 hat ((z_kT (z_kK C0.1 C0.2.1) (t := 0) (by decide)).1 n (fun q => .int (f q))) (fun q => by cases q) (by show ¬ (i < 0 ∨ (arrV _ _ _).slots.size ≤ _); rw [arrV_size]; exact hi.in) rfl rfl hd fun H1 e z oq => ?_
  refine k9 H1 _ (hM.set hm (fun q h => by cases h; exact Nat.le_of_ble_eq_true rfl) ?_ z oq) hb0
  show H1[a]? = some (vp_cell _ _)
  rw [e, hi.2.1]
  show some ((vp_cell _ _).setSlot _ _) = _
  rw [vp_cell_i, vp_cell_i, arrV_store, z_upd_fun (mk := Value.int)]
theorem zi_bast {f : Nat → Int32} {x y : Int32} (j : Nat) (hm : μ.1 a = some (.inl (1, n, .inl f))) (hi : z_ix i j n) (hy : narrow .byte (.int x) = .int y) (hd : decode Y.2.1 pc = .ok (.bastore, 1)) (kk : z_V g d Y (pc + 1) lc rest (z_set μ a (.inl (1, n, .inl (fun k => if k = j then y else f k)))) Q) : z_V g d Y pc lc (.int x :: .int i :: .ref a :: rest) μ Q := by
  refine z_wr kk rfl fun p e R s m args below meth c H locs cells slots Qs ls C0 hl hM k9 => ?_
  obtain ⟨hb0, -, hat⟩ := hM.2.2.2 a _ hm
  refine W.bast C0.2.2.1 C0.2.2.2.1 hat ((z_kT (z_kK C0.1 C0.2.1) (t := 1) (by decide)).1 n (fun q => .int (f q))) (fun q => by cases q) (by show ¬ (i < 0 ∨ (arrV _ _ _).slots.size ≤ _); rw [arrV_size]; exact hi.in) rfl rfl hd fun H1 e z oq => ?_
  refine k9 H1 _ (hM.set hm (fun q h => by cases h; exact Nat.le_of_ble_eq_true rfl) ?_ z oq) hb0
  show H1[a]? = some (vp_cell _ _)
  rw [e, hi.2.1, hy]
  show some ((vp_cell _ _).setSlot _ _) = _
  rw [vp_cell_i, vp_cell_i, arrV_store, z_upd_fun (mk := Value.int)]
theorem zi_zast {f : Nat → Int32} {x y : Int32} (j : Nat) (hm : μ.1 a = some (.inl (2, n, .inl f))) (hi : z_ix i j n) (hy : narrow .boolean (.int x) = .int y) (hd : decode Y.2.1 pc = .ok (.bastore, 1)) (kk : z_V g d Y (pc + 1) lc rest (z_set μ a (.inl (2, n, .inl (fun k => if k = j then y else f k)))) Q) : z_V g d Y pc lc (.int x :: .int i :: .ref a :: rest) μ Q := by
  refine z_wr kk rfl fun p e R s m args below meth c H locs cells slots Qs ls C0 hl hM k9 => ?_
  obtain ⟨hb0, -, hat⟩ := hM.2.2.2 a _ hm
  refine W.zast C0.2.2.1 C0.2.2.2.1 hat ((z_kT (z_kK C0.1 C0.2.1) (t := 2) (by decide)).1 n (fun q => .int (f q))) (fun q => by cases q) (by show ¬ (i < 0 ∨ (arrV _ _ _).slots.size ≤ _); rw [arrV_size]; exact hi.in) rfl rfl hd fun H1 e z oq => ?_
  refine k9 H1 _ (hM.set hm (fun q h => by cases h; exact Nat.le_of_ble_eq_true rfl) ?_ z oq) hb0
  show H1[a]? = some (vp_cell _ _)
  rw [e, hi.2.1, hy]
  show some ((vp_cell _ _).setSlot _ _) = _
  rw [vp_cell_i, vp_cell_i, arrV_store, z_upd_fun (mk := Value.int)]
theorem zi_last {f : Nat → Int64} {x : Int64} (j : Nat) (hm : μ.1 a = some (.inl (3, n, .inr (.inl f)))) (hi : z_ix i j n) (hd : decode Y.2.1 pc = .ok (.lastore, 1)) (kk : z_V g d Y (pc + 1) lc rest (z_set μ a (.inl (3, n, .inr (.inl (fun k => if k = j then x else f k))))) Q) : z_V g d Y pc lc (.long x :: .int i :: .ref a :: rest) μ Q := by
  refine z_wr kk rfl fun p e R s m args below meth c H locs cells slots Qs ls C0 hl hM k9 => ?_
  obtain ⟨hb0, -, hat⟩ := hM.2.2.2 a _ hm
  refine W.last C0.2.2.1 C0.2.2.2.1 hat ((z_kT (z_kK C0.1 C0.2.1) (t := 3) (by decide)).1 n (fun q => .long (f q))) (fun q => by cases q) (by show ¬ (i < 0 ∨ (arrV _ _ _).slots.size ≤ _); rw [arrV_size]; exact hi.in) rfl rfl hd fun H1 e z oq => ?_
  refine k9 H1 _ (hM.set hm (fun q h => by cases h; exact Nat.le_of_ble_eq_true rfl) ?_ z oq) hb0
  show H1[a]? = some (vp_cell _ _)
  rw [e, hi.2.1]
  show some ((vp_cell _ _).setSlot _ _) = _
  rw [vp_cell_l, vp_cell_l, arrV_store, z_upd_fun (mk := Value.long)]
end ZA
