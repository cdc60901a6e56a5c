/-! THE TWIN's LAW, 16: data come -/
set_option maxRecDepth 100000
/-- which entry wants data of a name -/
def s_ff (name : Int32) (fresh : Bool) (es : List s_E) : Option Nat := s_find (fun i => match es[i]? with
  | none => false
  | some e => decide (e.1 = name) && (decide (e.2.1 = 0) || fresh)) 0 es.length
section T46
variable {σ σ' : t_S} {N : s_R} {lk : Nat → Option Nat} {G : s_G}
theorem p_firstFor {n : Nat} {name : Int32} {fresh : Bool} {es : List s_E} (h : t_es σ n es) (hn : n < 6) : D_firstFor (nI n) name (if fresh = true then 1 else 0) σ = some (match s_ff name fresh es with
    | some i => nI (64 * n + i)
    | none => -1) := by
  obtain ⟨h1, h2, h3⟩ := h
  unfold D_firstFor s_ff
  rw [← nI_0, x_find (fun f k => D_firstFor_3 (nI n) name (if fresh = true then 1 else nI 0) σ (some (-1)) f (nI k)) (some (-1)) (fun k => some (nI (64 * n + k))) (fun i => match es[i]? with
  | none => false
  | some e => decide (e.1 = name) && (decide (e.2.1 = nI 0) || fresh)) es.length ?_ ?_ x_F 0 (by omega) (by rw [x_Fv]; omega)]
  · rw [Nat.sub_zero]
    cases s_find (fun i => match es[i]? with
      | none => false
      | some e => decide (e.1 = name) && (decide (e.2.1 = nI 0) || fresh)) 0 es.length <;> rfl
  · intro f
    show x_ga (nI n) 6 _ = _
    rw [x_gaS hn (by omega), h1, if_pos (Int32.le_refl _)]
  · intro f k hk
    have e1 : t_a σ 35 (64 * n + k) = es[k].1 := congrArg (fun d : s_E => d.1) (h3 k hk)
    have e2 : t_a σ 36 (64 * n + k) = es[k].2.1 := congrArg (fun d : s_E => d.2.1) (h3 k hk)
    show x_ga (nI n) 6 _ = _
    rw [x_gaS hn (by omega), h1, if_neg (nI_ge hk (by omega)), show (64 : Int32) = nI 64 from rfl, nI_mul, nI_add, x_gaS (by omega) (by omega), e1]
    simp only [x_lS, nI_1]
    rw [x_gaS (by omega) (by omega), e2]
    simp only [List.getElem?_eq_getElem hk, nI_0]
    by_cases c : es[k].1 = name <;> by_cases c2 : es[k].2.1 = 0 <;> cases fresh <;> simp [c, c2]
end T46
