/-! DENOTATIONS: the pure functions that the bytecode computes are written with these -/
set_option maxRecDepth 100000
theorem t_o1 : 1 < 87 ∧ 2 ≤ t_k 1 ∧ t_off 1 = 1 := by decide +kernel
theorem t_o2 : 2 < 87 ∧ 2 ≤ t_k 2 ∧ t_off 2 = 2 := by decide +kernel
theorem t_o3 : 3 < 87 ∧ 2 ≤ t_k 3 ∧ t_off 3 = 3 := by decide +kernel
theorem t_o4 : 4 < 87 ∧ 2 ≤ t_k 4 ∧ t_off 4 = 4 := by decide +kernel
theorem t_o5 : 5 < 87 ∧ 2 ≤ t_k 5 ∧ t_off 5 = 5 := by decide +kernel
theorem t_o6 : 6 < 87 ∧ 2 ≤ t_k 6 ∧ t_off 6 = 6 := by decide +kernel
theorem t_o7 : 7 < 87 ∧ 2 ≤ t_k 7 ∧ t_off 7 = 7 := by decide +kernel
theorem t_o8 : 8 < 87 ∧ 2 ≤ t_k 8 ∧ t_off 8 = 8 := by decide +kernel
theorem t_o18 : 18 < 87 ∧ 2 ≤ t_k 18 ∧ t_off 18 = 9 := by decide +kernel
theorem t_o19 : 19 < 87 ∧ 2 ≤ t_k 19 ∧ t_off 19 = 10 := by decide +kernel
theorem t_o25 : 25 < 87 ∧ 2 ≤ t_k 25 ∧ t_off 25 = 11 := by decide +kernel
theorem t_o28 : 28 < 87 ∧ 2 ≤ t_k 28 ∧ t_off 28 = 12 := by decide +kernel
theorem t_o29 : 29 < 87 ∧ 2 ≤ t_k 29 ∧ t_off 29 = 13 := by decide +kernel
theorem t_o30 : 30 < 87 ∧ 2 ≤ t_k 30 ∧ t_off 30 = 14 := by decide +kernel
theorem t_o31 : 31 < 87 ∧ 2 ≤ t_k 31 ∧ t_off 31 = 15 := by decide +kernel
theorem t_o32 : 32 < 87 ∧ 2 ≤ t_k 32 ∧ t_off 32 = 16 := by decide +kernel
theorem t_o33 : 33 < 87 ∧ 2 ≤ t_k 33 ∧ t_off 33 = 17 := by decide +kernel
theorem t_o34 : 34 < 87 ∧ 2 ≤ t_k 34 ∧ t_off 34 = 18 := by decide +kernel
theorem t_o35 : 35 < 87 ∧ 2 ≤ t_k 35 ∧ t_off 35 = 19 := by decide +kernel
theorem t_o36 : 36 < 87 ∧ 2 ≤ t_k 36 ∧ t_off 36 = 20 := by decide +kernel
theorem t_o37 : 37 < 87 ∧ 2 ≤ t_k 37 ∧ t_off 37 = 21 := by decide +kernel
theorem t_o38 : 38 < 87 ∧ 2 ≤ t_k 38 ∧ t_off 38 = 22 := by decide +kernel
theorem t_o39 : 39 < 87 ∧ 2 ≤ t_k 39 ∧ t_off 39 = 23 := by decide +kernel
theorem t_o40 : 40 < 87 ∧ 2 ≤ t_k 40 ∧ t_off 40 = 24 := by decide +kernel
theorem t_o41 : 41 < 87 ∧ 2 ≤ t_k 41 ∧ t_off 41 = 25 := by decide +kernel
theorem t_o42 : 42 < 87 ∧ 2 ≤ t_k 42 ∧ t_off 42 = 26 := by decide +kernel
theorem t_o43 : 43 < 87 ∧ 2 ≤ t_k 43 ∧ t_off 43 = 27 := by decide +kernel
theorem t_o44 : 44 < 87 ∧ 2 ≤ t_k 44 ∧ t_off 44 = 28 := by decide +kernel
theorem t_o46 : 46 < 87 ∧ 2 ≤ t_k 46 ∧ t_off 46 = 29 := by decide +kernel
theorem t_o47 : 47 < 87 ∧ 2 ≤ t_k 47 ∧ t_off 47 = 30 := by decide +kernel
theorem t_o48 : 48 < 87 ∧ 2 ≤ t_k 48 ∧ t_off 48 = 31 := by decide +kernel
theorem t_o49 : 49 < 87 ∧ 2 ≤ t_k 49 ∧ t_off 49 = 32 := by decide +kernel
theorem t_o50 : 50 < 87 ∧ 2 ≤ t_k 50 ∧ t_off 50 = 33 := by decide +kernel
theorem t_o51 : 51 < 87 ∧ 2 ≤ t_k 51 ∧ t_off 51 = 34 := by decide +kernel
theorem t_o52 : 52 < 87 ∧ 2 ≤ t_k 52 ∧ t_off 52 = 35 := by decide +kernel
theorem t_o53 : 53 < 87 ∧ 2 ≤ t_k 53 ∧ t_off 53 = 36 := by decide +kernel
theorem t_o54 : 54 < 87 ∧ 2 ≤ t_k 54 ∧ t_off 54 = 37 := by decide +kernel
theorem t_o55 : 55 < 87 ∧ 2 ≤ t_k 55 ∧ t_off 55 = 38 := by decide +kernel
theorem t_o56 : 56 < 87 ∧ 2 ≤ t_k 56 ∧ t_off 56 = 39 := by decide +kernel
theorem t_o57 : 57 < 87 ∧ 2 ≤ t_k 57 ∧ t_off 57 = 40 := by decide +kernel
theorem t_o58 : 58 < 87 ∧ 2 ≤ t_k 58 ∧ t_off 58 = 41 := by decide +kernel
theorem t_o59 : 59 < 87 ∧ 2 ≤ t_k 59 ∧ t_off 59 = 42 := by decide +kernel
theorem t_o60 : 60 < 87 ∧ 2 ≤ t_k 60 ∧ t_off 60 = 43 := by decide +kernel
theorem t_o61 : 61 < 87 ∧ 2 ≤ t_k 61 ∧ t_off 61 = 44 := by decide +kernel
theorem t_o62 : 62 < 87 ∧ 2 ≤ t_k 62 ∧ t_off 62 = 45 := by decide +kernel
theorem t_o63 : 63 < 87 ∧ 2 ≤ t_k 63 ∧ t_off 63 = 46 := by decide +kernel
theorem t_o64 : 64 < 87 ∧ 2 ≤ t_k 64 ∧ t_off 64 = 47 := by decide +kernel
theorem t_o77 : 77 < 87 ∧ 2 ≤ t_k 77 ∧ t_off 77 = 48 := by decide +kernel
theorem t_o78 : 78 < 87 ∧ 2 ≤ t_k 78 ∧ t_off 78 = 49 := by decide +kernel
theorem t_o80 : 80 < 87 ∧ 2 ≤ t_k 80 ∧ t_off 80 = 50 := by decide +kernel
theorem t_o84 : 84 < 87 ∧ 2 ≤ t_k 84 ∧ t_off 84 = 51 := by decide +kernel
theorem t_o86 : 86 < 87 ∧ 2 ≤ t_k 86 ∧ t_off 86 = 52 := by decide +kernel
def x_l {α β : Type} (a : α) (k : α → β) : β := k a
def x_g {α : Type} (c : Prop) [Decidable c] (m : Option α) : Option α := if c then m else none
def x_ga {α : Type} (i : Int32) (n : Nat) (k : Nat → Option α) : Option α := if ¬ i < 0 ∧ i.toNatClampNeg < n then k i.toNatClampNeg else none
def x_b {α β : Type} (m : Option α) (k : α → Option β) : Option β := match m with
  | some a => k a
  | none => none
def x_b2 {α γ β : Type} (m : Option (α × γ)) (k : α → γ → Option β) : Option β := match m with
  | some a => k a.1 a.2
  | none => none
/-- the rounds that a loop may go -/
def x_F : Nat := 10000
theorem x_lI {α β : Type} {a : α} {k : α → β} {r : β} (P : α → Prop) (h : x_l a k = r) (hk : ∀ v, k v = r → P v) : P a := hk a h
theorem x_jI {α β : Type} {a : α} {k : α → β} {r : β} {G : Prop} (P : α → Prop) (h : x_l a k = r) (hT : P a) (hk : ∀ J, P J → k J = r → G) : G := hk a hT h
theorem x_iT {α : Type} {c : Prop} [Decidable c] {a b r : α} (h : ite c a b = r) (hc : c) : a = r := (if_pos hc).symm.trans h
theorem x_iF {α : Type} {c : Prop} [Decidable c] {a b r : α} (h : ite c a b = r) (hc : ¬ c) : b = r := (if_neg hc).symm.trans h
theorem x_n {α : Type} (r : α) : ¬ (none : Option α) = some r := fun h => nomatch h
theorem x_gE {α : Type} {c : Prop} [Decidable c] {m : Option α} {r : α} (h : x_g c m = some r) : c ∧ m = some r := by
  unfold x_g at h
  by_cases hc : c
  · exact ⟨hc, (if_pos hc).symm.trans h⟩
  · exact absurd ((if_neg hc).symm.trans h) (x_n r)
theorem x_gaE {α : Type} {i : Int32} {n : Nat} {k : Nat → Option α} {r : α} (h : x_ga i n k = some r) : ∃ j, z_ix i j n ∧ k j = some r := by
  unfold x_ga at h
  by_cases hc : ¬ i < 0 ∧ i.toNatClampNeg < n
  · exact ⟨_, ⟨hc.1, rfl, hc.2⟩, (if_pos hc).symm.trans h⟩
  · exact absurd ((if_neg hc).symm.trans h) (x_n r)
theorem x_bE {α β : Type} {m : Option α} {k : α → Option β} {r : β} (h : x_b m k = some r) : ∃ a, m = some a ∧ k a = some r := by
  cases m with
  | none => exact absurd h (x_n r)
  | some a => exact ⟨a, rfl, h⟩
theorem x_b2E {α γ β : Type} {m : Option (α × γ)} {k : α → γ → Option β} {r : β} (h : x_b2 m k = some r) : ∃ a c, m = some (a, c) ∧ k a c = some r := by
  cases m with
  | none => exact absurd h (x_n r)
  | some a => exact ⟨a.1, a.2, rfl, h⟩
theorem x_nz {x : Int32} (h : x = 0 ∨ x = 1) : narrow .boolean (.int x) = .int x := by
  rcases h with rfl | rfl <;> rfl
theorem x_r0 {Q : z_O → z_M → Prop} {μ : z_M} {b : Nat} {s s' : t_S} (h : some s = some s') (hQ : Q (.inl none) (t_m b s' μ)) : Q (.inl none) (t_m b s μ) := by
  cases h; exact hQ
theorem x_r1i {Q : z_O → z_M → Prop} {μ : z_M} {a r : Int32} (h : some a = some r) (hQ : Q (.inl (some (.int r))) μ) : Q (.inl (some (.int a))) μ := by
  cases h; exact hQ
theorem x_r1l {Q : z_O → z_M → Prop} {μ : z_M} {a r : Int64} (h : some a = some r) (hQ : Q (.inl (some (.long r))) μ) : Q (.inl (some (.long a))) μ := by
  cases h; exact hQ
theorem x_r2i {Q : z_O → z_M → Prop} {μ : z_M} {b : Nat} {a r : Int32} {s s' : t_S} (h : some (a, s) = some (r, s')) (hQ : Q (.inl (some (.int r))) (t_m b s' μ)) : Q (.inl (some (.int a))) (t_m b s μ) := by
  cases h; exact hQ
theorem x_r2l {Q : z_O → z_M → Prop} {μ : z_M} {b : Nat} {a r : Int64} {s s' : t_S} (h : some (a, s) = some (r, s')) (hQ : Q (.inl (some (.long r))) (t_m b s' μ)) : Q (.inl (some (.long a))) (t_m b s μ) := by
  cases h; exact hQ
theorem x_swO {v : Int32} (lo hi : Int) (h : ∀ i : Int, lo ≤ i → i ≤ hi → ¬ v = Int32.ofInt i) : v.toInt < lo ∨ hi < v.toInt := by
  by_cases h1 : v.toInt < lo
  · exact Or.inl h1
  · by_cases h2 : hi < v.toInt
    · exact Or.inr h2
    · exact absurd (Int32.ofInt_toInt v).symm (h v.toInt (by omega) (by omega))
theorem x_swN {v w : Int32} {i : Int} (h : ¬ v = w) (e : w.toInt = i) : ¬ v.toInt = i := fun q => h (Int32.toInt_inj.mp (q.trans e.symm))
theorem x_swL {v : Int32} (ps : List (Int × Int)) (dflt : Int) (h : ∀ q ∈ ps, ¬ v.toInt = q.1) : Op.lookupswitch.offset ps dflt v.toInt = dflt := by
  induction ps with
  | nil => rfl
  | cons p ps ih =>
    have h1 := h p (List.mem_cons_self ..)
    have h2 := ih (fun q hq => h q (List.mem_cons_of_mem _ hq))
    show (if p.1 = v.toInt then p.2 else Op.lookupswitch.offset ps dflt v.toInt) = dflt
    rw [if_neg (fun e => h1 e.symm), h2]
