/-! THE COMPONENT's LAW, 69: what came of an ask -/
set_option maxRecDepth 100000
set_option maxHeartbeats 400000
set_option linter.unusedVariables false
section T93
variable {g : z_G} {C : h_C} {o o1 : Nat → Nat} {μ μ1 : z_M} {E : Nat → List Nat} {a s x tb v i B j w : Nat} {S : Nat → Prop} {N R L : s_R} {p : s_P} {T : s_T} {n r m k what : Int32} {cc : Nat → Nat → Int32} {G : s_G}
/-- what came of an ask, out of the row of the run -/
theorem h_go.ofAsk (h : h_go g C o μ E B G) (hj : j < 61) (hw : w < 7) (hne : g_came G 57 j ≠ -1) : (x_gr μ (c_a C) 12 4 fun o59 => x_o o59 fun p63 => x_aa μ p63 6 fun n64 f65 => x_ga (nI j) n64 fun j67 => x_l (f65 j67) fun o68 =>
    x_nu o68 (if nI w = 0 then (some ((0 : Int32), μ)) else some ((-1 : Int32), μ)) fun p69 => x_ar μ p69 0 fun n71 f72 => x_ga (nI w) n71 fun j74 => some ((f72 j74), μ)) = some (q_ofAsk G j (nI w), μ) := by
  obtain ⟨fe, f1, f2, f3⟩ := h.2.2.2.2.2.1
  have hE := f3 j hj
  have hc : w = 0 ∨ w = 1 ∨ w = 2 ∨ w = 3 ∨ w = 4 ∨ w = 5 ∨ w = 6 := by omega
  rw [x_grR h.ca rfl, x_oS, x_aaS f2, x_gaT (by omega) (by omega), x_lS]
  cases hf : fe j with
  | none =>
    rw [hf] at hE
    have h0 : g_came G 57 j = 0 := hE.resolve_left hne
    rw [x_nuN]
    unfold q_ofAsk
    rw [h0]
    rcases hc with rfl | rfl | rfl | rfl | rfl | rfl | rfl <;> rfl
  | some y =>
    rw [hf] at hE
    obtain ⟨-, f, yc, y0, y1, hy⟩ := hE
    rw [x_nuS, x_arS yc, x_gaT (by omega) (by omega)]
    unfold q_ofAsk
    rw [← y0, ← y1]
    rcases hy with ⟨c1, c2, c3, c4, c5, c6⟩ | ⟨c1, c2, c3, c4, c5, c6⟩ | ⟨c1, c2, c3, c4, c5, c6⟩ <;> rw [← y0] at c1 <;> rw [c1] <;> rcases hc with rfl | rfl | rfl | rfl | rfl | rfl | rfl <;> first | (rw [c1]; rfl) | (rw [c2]; rfl) | (rw [c3]; rfl) | (rw [c4]; rfl) | (rw [c5]; rfl) | (rw [c6]; rfl) | rfl
end T93
