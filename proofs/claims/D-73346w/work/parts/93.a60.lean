/-! THE COMPONENT's LAW, 60: the whole object in the memory -/
set_option maxRecDepth 100000
set_option maxHeartbeats 400000
set_option linter.unusedVariables false
/-- two ints -/
def h_p2 (o : Nat → Nat) (μ : z_M) (p : Nat) (x y : Int32) : Prop := o p = 0 ∧ ∃ f, μ.1 p = some (.inl (0, 2, .inl f)) ∧ f 0 = x ∧ f 1 = y
/-- a net, a run, a log in their lists -/
def h_ne (g : z_G) (o : Nat → Nat) (μ : z_M) (x : Nat) (N : s_R) : Prop := ∃ d ls rs ss, h_nt g o μ x d N (s_lk0 N none) ls rs ss
def h_ru (g : z_G) (o : Nat → Nat) (μ : z_M) (x : Nat) (R : s_R) : Prop := ∃ cap xs, h_dl g o μ 0 x cap xs (r_dd R) (r_cnt R)
def h_lo (g : z_G) (o : Nat → Nat) (μ : z_M) (x : Nat) (L : s_R) : Prop := ∃ cap xs, h_ls g o μ 0 x cap xs ∧ xs.length = l_cnt L ∧ ∀ j y, xs[j]? = some y → h_p2 o μ y (L (1 + 2 * j)) (L (1 + 2 * j + 1))
/-- what is told, at s; its tags tb .. tb + 4 -/
def h_si (g : z_G) (o : Nat → Nat) (μ : z_M) (tb s : Nat) (p : s_P) : Prop := u_ok p ∧ o s = tb ∧ ∃ (tp nl rl ll cn cr cl : Nat) (f : Nat → Int32) (ns rs ls : List Nat),
  μ.1 s = some (.inr (1, [.ref tp, .int (nI (u_size p)), .int (u_kind p), .int (u_place p), .ref nl, .ref rl, .ref ll])) ∧
  (o tp = tb + 1 ∧ μ.1 tp = some (.inl (1, 600, .inl f)) ∧ ∀ j, j < 600 → f j = u_tape p j) ∧
  (2 ≤ cn ∧ cn < 4000 ∧ h_ls g o μ (tb + 2) nl cn ns ∧ h_al (h_ne g o μ) ns (u_nets p)) ∧
  (2 ≤ cr ∧ cr < 4000 ∧ h_ls g o μ (tb + 3) rl cr rs ∧ h_al (h_ru g o μ) rs (u_runs p)) ∧
  (2 ≤ cl ∧ cl < 4000 ∧ h_ls g o μ (tb + 4) ll cl ls ∧ h_al (h_lo g o μ) ls (u_logs p))
/-- the object at a: what is told now (tags 10 ..), three images (tags 20 .., 30 .., 40 ..) -/
def h_wo (g : z_G) (o : Nat → Nat) (μ : z_M) (a : Nat) (T : s_T) : Prop := ∃ (s im : Nat) (fi : Nat → Option Nat),
  (o a = 5 ∧ μ.1 a = some (.inr (0, [.ref s, .ref im]))) ∧ (o im = 6 ∧ μ.1 im = some (.inl (5, 3, .inr (.inr (.inr (.inr fi)))))) ∧ h_si g o μ 10 s T.1 ∧
  ∀ k, k < 3 → match fi k, T.2 k with
    | none, none => True
    | some x, some p => h_si g o μ (20 + 10 * k) x p
    | _, _ => False
/-- between two calls: no tag of a run -/
def h_iv (g : z_G) (o : Nat → Nat) (μ : z_M) (a : Nat) (T : s_T) : Prop := z_ok g ∧ h_wf g μ ∧ (∀ b, b < μ.2.1 → o b < 879) ∧ h_wo g o μ a T
section T93
variable {g : z_G} {o o1 : Nat → Nat} {μ μ1 : z_M} {a s x tb k : Nat} {S : Nat → Prop} {N R L : s_R} {p : s_P} {T : s_T} {u v : Int32}
theorem h_p2.fr (h : h_p2 o μ x u v) (hf : h_fr g S o μ o1 μ1) (hw : h_wf g μ) (hS : ∀ a, o a = 0 → ¬ S a) : h_p2 o1 μ1 x u v := by
  obtain ⟨h0, f, h1, h2⟩ := h
  exact ⟨(hf.2.1 x (hw.lt h1)).trans h0, f, hf.cell hw h1 (hS x h0), h2⟩
theorem h_ne.fr (h : h_ne g o μ x N) (hf : h_fr g S o μ o1 μ1) (hw : h_wf g μ) (hS : ∀ a, o a = 0 ∨ o a = 3 → ¬ S a) : h_ne g o1 μ1 x N := by
  obtain ⟨d, ls, rs, ss, h⟩ := h
  have hd : o d = 3 := by obtain ⟨-, _, _, _, _, _, _, _, _, _, _, _, ⟨q, -⟩, _⟩ := h; exact q
  exact ⟨d, ls, rs, ss, h.fr hf hw (fun a ha => hS a (Or.inl ha)) (hS d (Or.inr hd))⟩
theorem h_ru.fr (h : h_ru g o μ x R) (hf : h_fr g S o μ o1 μ1) (hw : h_wf g μ) (hS : ∀ a, o a = 0 → ¬ S a) : h_ru g o1 μ1 x R := by
  obtain ⟨cap, xs, h⟩ := h
  exact ⟨cap, xs, h.fr hf hw (fun a ha => hS a (by omega))⟩
theorem h_lo.fr (h : h_lo g o μ x L) (hf : h_fr g S o μ o1 μ1) (hw : h_wf g μ) (hS : ∀ a, o a = 0 → ¬ S a) : h_lo g o1 μ1 x L := by
  obtain ⟨cap, xs, h1, h2, h3⟩ := h
  exact ⟨cap, xs, h1.fr hf hw hS, h2, fun j y hy => (h3 j y hy).fr hf hw hS⟩
theorem h_si.fr (h : h_si g o μ tb s p) (hf : h_fr g S o μ o1 μ1) (hw : h_wf g μ) (hS : ∀ a, o a = 0 ∨ o a = 3 ∨ tb ≤ o a ∧ o a ≤ tb + 4 → ¬ S a) : h_si g o1 μ1 tb s p := by
  obtain ⟨h0, h1, tp, nl, rl, ll, cn, cr, cl, f, ns, rs, ls, c1, ⟨t1, t2, t3⟩, ⟨n1, n1', n2, n3⟩, ⟨r1, r1', r2, r3⟩, ⟨l1, l1', l2, l3⟩⟩ := h
  exact ⟨h0, (hf.2.1 s (hw.lt c1)).trans h1, tp, nl, rl, ll, cn, cr, cl, f, ns, rs, ls, hf.cell hw c1 (hS s (by omega)), ⟨(hf.2.1 tp (hw.lt t2)).trans t1, hf.cell hw t2 (hS tp (by omega)), t3⟩,
    ⟨n1, n1', n2.fr hf hw (fun a ha => hS a (by omega)), n3.mono (fun x y _ h => h.fr hf hw (fun a ha => hS a (by omega)))⟩,
    ⟨r1, r1', r2.fr hf hw (fun a ha => hS a (by omega)), r3.mono (fun x y _ h => h.fr hf hw (fun a ha => hS a (by omega)))⟩,
    ⟨l1, l1', l2.fr hf hw (fun a ha => hS a (by omega)), l3.mono (fun x y _ h => h.fr hf hw (fun a ha => hS a (by omega)))⟩⟩
theorem h_wo.fr (h : h_wo g o μ a T) (hf : h_fr g S o μ o1 μ1) (hw : h_wf g μ) (hS : ∀ a, o a < 50 → ¬ S a) : h_wo g o1 μ1 a T := by
  obtain ⟨s, im, fi, ⟨a1, a2⟩, ⟨i1, i2⟩, s1, s2⟩ := h
  refine ⟨s, im, fi, ⟨(hf.2.1 a (hw.lt a2)).trans a1, hf.cell hw a2 (hS a (by omega))⟩, ⟨(hf.2.1 im (hw.lt i2)).trans i1, hf.cell hw i2 (hS im (by omega))⟩, s1.fr hf hw (fun a ha => hS a (by omega)), fun k hk => ?_⟩
  have h2 := s2 k hk
  revert h2
  cases fi k with
  | none =>
    cases T.2 k with
    | none => intro _; exact trivial
    | some p => intro q; exact q
  | some x =>
    cases T.2 k with
    | none => intro q; exact q
    | some p =>
      intro q
      have q' : h_si g o μ (20 + 10 * k) x p := q
      exact q'.fr hf hw (fun a ha => hS a (by omega))
/-- new tags behind a call -/
def h_o9 (o : Nat → Nat) (μ : z_M) : Nat → Nat := fun a => if a < μ.2.1 then o a else 0
theorem h_fr.re (hf : h_fr g S o μ o1 μ1) : h_fr g S o μ (h_o9 o μ) μ1 := ⟨hf.1, fun a ha => if_pos ha, hf.2.2.1, hf.2.2.2.1, hf.2.2.2.2⟩
/-- a call that leaves the old as it is -/
theorem h_iv.next (h : h_iv g o μ a T) (hf : h_fr g (fun a => 879 ≤ o a) o μ o1 μ1) : h_iv g (h_o9 o μ) μ1 a T := by
  obtain ⟨h1, h2, h3, h4⟩ := h
  refine ⟨h1, hf.wf, fun b hb => ?_, h4.fr hf.re h2 (fun a ha q => by omega)⟩
  unfold h_o9
  by_cases c : b < μ.2.1
  · rw [if_pos c]; exact h3 b c
  · rw [if_neg c]; omega
end T93
