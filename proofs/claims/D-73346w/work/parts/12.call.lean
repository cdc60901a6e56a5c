/-! NEW CELLS, CASTS, STATICS, CALLS, THROWS: rows of the memory logic -/
set_option maxRecDepth 100000
section ZN
variable {g : z_G} {d : Nat} {Y : z_Y} {Q : z_O → z_M → Prop} {μ : z_M} {pc index : Nat} {lc : List (Nat × Value)} {rest : List Value}
/-- an object is made; its fields as a new object has them -/
def z_def (ty : FieldType) : Value := defaultValue ty
theorem zi_new {ci N : Nat} {C : String} {T : u_T} (ty : Nat → FieldType) (hty : ∀ k, k < N → parseFieldDescriptor (T k).2.2.1 = some (ty k)) (hc : vwCl[ci]? = some (C, T, N)) (hq1 : Cond.classLink Y.1.cls index C ∈ lw_all) (hq2 : Cond.instantiable C N ∈ lw_all) (hq3 : Cond.initialized C ∈ lw_all) (hd : decode Y.2.1 pc = .ok (.new index, 3))
    (kk : z_V g d Y (pc + 3) lc (.ref μ.2.1 :: rest) (z_new μ N (.inr (ci, (List.range N).map (fun k => defaultValue (ty k))))) Q) : z_V g d Y pc lc rest μ Q := by
  refine z_heap (by show μ.2.1 ≤ μ.2.1 + 1; omega) (by show μ.2.2 ≤ μ.2.2 + N; omega) kk fun p e R s m args below meth c H locs cells slots Qs ls C0 hl hM hL i3 i4 k9 => ?_
  have e1 : (z_new μ N (.inr (ci, (List.range N).map (fun k => defaultValue (ty k))))).2.1 - μ.2.1 = 1 := by show μ.2.1 + 1 - μ.2.1 = 1; omega
  have e2 : (z_new μ N (.inr (ci, (List.range N).map (fun k => defaultValue (ty k))))).2.2 - μ.2.2 = N := by show μ.2.2 + N - μ.2.2 = N; omega
  rw [e1, e2] at k9
  rw [e1] at i3
  rw [e2] at i4
  obtain ⟨hin, -, -⟩ := z_cl hc
  have hts := C0.2.2.2.2.2.2.2.2.2.1
  have hKn := (z_kK C0.1 C0.2.1).1 ci _ hc
  refine W.newcK C0.2.2.1 C0.2.2.2.1 C0.2.2.2.2.2.2.2.1 (hts _ hq1) (hts _ hq2) (hts _ hq3) rfl hd i3 i4 hKn.2.1 hM.1 fun H1 kC hkC f1 z1 o1 => ?_
  refine k9 H1 locs (hM.new (fun _ h => by cases h) ⟨_, hc, (u_born ty hts hin hKn hkC (by rw [hM.1]; exact f1) hty).to (fun k hk => ?_)⟩ (by rw [hM.1]; exact z1) (by rw [hM.1]; exact o1) (fun _ c hc => by rw [hM.1, f1] at hc; cases hc; rfl)) hL
  simp [vp_V, List.getD, hk]
theorem zi_newa {atype : ArrayType} {t n : Nat} {i : Int32} (x : vp_A) (hat : newarray.typeOf atype = z_ty t) (ht : t < 4) (hq : Cond.arrayClass (newarray.typeOf atype) ∈ lw_all) (hx : x.1 = n ∧ ∀ cA : ClassId, vp_cell cA x = arrV cA n (fun _ => defaultValue (z_ty t))) (hi : ¬ i < 0 ∧ i.toNatClampNeg = n) (hb : n ≤ 60000000) (hd : decode Y.2.1 pc = .ok (.newarray atype, 2))
    (kk : z_V g d Y (pc + 2) lc (.ref μ.2.1 :: rest) (z_new μ n (.inl (t, x))) Q) : z_V g d Y pc lc (.int i :: rest) μ Q := by
  refine z_heap (by show μ.2.1 ≤ μ.2.1 + 1; omega) (by show μ.2.2 ≤ μ.2.2 + n; omega) kk fun p e R s m args below meth c H locs cells slots Qs ls C0 hl hM hL i3 i4 k9 => ?_
  have e1 : (z_new μ n (.inl (t, x))).2.1 - μ.2.1 = 1 := by show μ.2.1 + 1 - μ.2.1 = 1; omega
  have e2 : (z_new μ n (.inl (t, x))).2.2 - μ.2.2 = n := by show μ.2.2 + n - μ.2.2 = n; omega
  rw [e1, e2] at k9
  rw [e1] at i3
  rw [e2] at i4
  have hts := C0.2.2.2.2.2.2.2.2.2.1
  have hRA := (z_kT (z_kK C0.1 C0.2.1) (show t < 7 by omega)).2
  refine va_newaK C0.2.2.1 C0.2.2.2.1 (hts _ hq) rfl hd rfl hi.1 hi.2 ?_ i3 i4 hM.1 fun H1 cA f1 z1 o1 hAr hNm => ?_
  · rw [hat]
    rcases (show t = 0 ∨ t = 1 ∨ t = 2 ∨ t = 3 by omega) with rfl | rfl | rfl | rfl <;> simp only [z_ty, componentBytes] <;> omega
  rw [hat] at f1 hNm
  have hcA : cA = z_aC g t := by
    have h2 : s.vm.findClass ("[" ++ (z_ty t).toString) = some (z_aC g t) := by
      rcases (show t = 0 ∨ t = 1 ∨ t = 2 ∨ t = 3 by omega) with rfl | rfl | rfl | rfl <;> exact hRA
    exact Option.some.inj (hNm.symm.trans h2)
  subst hcA
  refine k9 H1 locs (hM.new (fun q h => by cases h; show t < 7; omega) ?_ (by rw [hM.1]; exact z1) (by rw [hM.1]; exact o1)) hL
  show H1[H.size]? = some (vp_cell _ _)
  rw [hM.1, hx.2]
  exact f1
theorem z_newI (n : Nat) : ((n, .inl (fun _ => (0 : Int32))) : vp_A).1 = n ∧ ∀ cA : ClassId, vp_cell cA (n, .inl (fun _ => (0 : Int32))) = arrV cA n (fun _ => defaultValue (z_ty 0)) := ⟨rfl, fun _ => rfl⟩
theorem z_newB (n : Nat) : ((n, .inl (fun _ => (0 : Int32))) : vp_A).1 = n ∧ ∀ cA : ClassId, vp_cell cA (n, .inl (fun _ => (0 : Int32))) = arrV cA n (fun _ => defaultValue (z_ty 1)) := ⟨rfl, fun _ => rfl⟩
theorem z_newZ (n : Nat) : ((n, .inl (fun _ => (0 : Int32))) : vp_A).1 = n ∧ ∀ cA : ClassId, vp_cell cA (n, .inl (fun _ => (0 : Int32))) = arrV cA n (fun _ => defaultValue (z_ty 2)) := ⟨rfl, fun _ => rfl⟩
theorem z_newL (n : Nat) : ((n, .inr (.inl (fun _ => (0 : Int64)))) : vp_A).1 = n ∧ ∀ cA : ClassId, vp_cell cA (n, .inr (.inl (fun _ => (0 : Int64)))) = arrV cA n (fun _ => defaultValue (z_ty 3)) := ⟨rfl, fun _ => rfl⟩
/-- an array of references of nulls -/
abbrev z_nul (n : Nat) : vp_A := (n, .inr (.inr (.inr (.inr (fun _ => none)))))
theorem zi_anew {C : String} {t n : Nat} {i : Int32} (hat : z_ty t = .object C) (ht : t < 7) (hq : Cond.classLink Y.1.cls index C ∈ lw_all) (hq2 : Cond.arrayOver (.object C) ∈ lw_tbl) (hi : ¬ i < 0 ∧ i.toNatClampNeg = n) (hb : n ≤ 60000000) (hd : decode Y.2.1 pc = .ok (.anewarray index, 3))
    (kk : z_V g d Y (pc + 3) lc (.ref μ.2.1 :: rest) (z_new μ n (.inl (t, z_nul n))) Q) : z_V g d Y pc lc (.int i :: rest) μ Q := by
  refine z_heap (by show μ.2.1 ≤ μ.2.1 + 1; omega) (by show μ.2.2 ≤ μ.2.2 + n; omega) kk fun p e R s m args below meth c H locs cells slots Qs ls C0 hl hM hL i3 i4 k9 => ?_
  have e1 : (z_new μ n (.inl (t, z_nul n))).2.1 - μ.2.1 = 1 := by show μ.2.1 + 1 - μ.2.1 = 1; omega
  have e2 : (z_new μ n (.inl (t, z_nul n))).2.2 - μ.2.2 = n := by show μ.2.2 + n - μ.2.2 = n; omega
  rw [e1, e2] at k9
  rw [e1] at i3
  rw [e2] at i4
  obtain ⟨hi0, rfl⟩ := hi
  have hts := C0.2.2.2.2.2.2.2.2.2.1
  have hRA := (z_kT (z_kK C0.1 C0.2.1) ht).2
  rw [hat] at hRA
  obtain ⟨kA0, comp0, -, -, -, hRA⟩ := hRA
  refine W.anew C0.2.2.1 C0.2.2.2.1 C0.2.2.2.2.2.2.2.1 (hts _ hq) (va_AO.use (C0.2.1.1 _ hq2 rfl)) rfl hd rfl hi0 (by omega) i3 i4 fun cA kA comp f1 f2 f3 f4 => ?_
  cases f1.symm.trans hRA
  have hsz := hM.1
  rw [hsz]
  refine k9 _ locs (hM.new (fun q h => by cases h; exact ht) ?_ (by simp) (fun q hq => by rw [Array.getElem?_push, if_neg (Nat.ne_of_lt hq)])) hL
  show (H.push _)[H.size]? = some (vp_cell _ _)
  rw [Array.getElem?_push_size, vp_cell_q, arrV_new]
  rfl
theorem zi_anewA {n : Nat} {i : Int32} (hq : Cond.classLink Y.1.cls index "[I" ∈ lw_all) (hq2 : Cond.arrayOver (.array .int) ∈ lw_tbl) (hi : ¬ i < 0 ∧ i.toNatClampNeg = n) (hb : n ≤ 60000000) (hd : decode Y.2.1 pc = .ok (.anewarray index, 3))
    (kk : z_V g d Y (pc + 3) lc (.ref μ.2.1 :: rest) (z_new μ n (.inl (6, z_nul n))) Q) : z_V g d Y pc lc (.int i :: rest) μ Q := by
  refine z_heap (by show μ.2.1 ≤ μ.2.1 + 1; omega) (by show μ.2.2 ≤ μ.2.2 + n; omega) kk fun p e R s m args below meth c H locs cells slots Qs ls C0 hl hM hL i3 i4 k9 => ?_
  have e1 : (z_new μ n (.inl (6, z_nul n))).2.1 - μ.2.1 = 1 := by show μ.2.1 + 1 - μ.2.1 = 1; omega
  have e2 : (z_new μ n (.inl (6, z_nul n))).2.2 - μ.2.2 = n := by show μ.2.2 + n - μ.2.2 = n; omega
  rw [e1, e2] at k9
  rw [e1] at i3
  rw [e2] at i4
  obtain ⟨hi0, rfl⟩ := hi
  have hts := C0.2.2.2.2.2.2.2.2.2.1
  have hRA : s.vm.findClass ("[" ++ (FieldType.array .int).toString) = some (z_aC g 6) := (z_kT (z_kK C0.1 C0.2.1) (t := 6) (by decide)).2
  refine W.anewA (t := .int) C0.2.2.1 C0.2.2.2.1 C0.2.2.2.2.2.2.2.1 (hts _ hq) (C0.2.1.1 _ hq2 rfl) rfl hd rfl hi0 (by omega) i3 i4 fun cA kA comp f1 f2 f3 f4 => ?_
  cases f1.symm.trans hRA
  have hsz := hM.1
  rw [hsz]
  refine k9 _ locs (hM.new (fun q h => by cases h; show (6 : Nat) < 7; omega) ?_ (by simp) (fun q hq => by rw [Array.getElem?_push, if_neg (Nat.ne_of_lt hq)])) hL
  show (H.push _)[H.size]? = some (vp_cell _ _)
  rw [Array.getElem?_push_size, vp_cell_q, arrV_new]
  rfl
end ZN
section ZAS
variable {g : z_G} {d : Nat} {Y : z_Y} {Q : z_O → z_M → Prop} {μ : z_M} {pc index a n j : Nat} {lc : List (Nat × Value)} {rest : List Value} {i : Int32}
theorem z_upd_q {f : Nat → Option Nat} {j : Nat} {x : Option Nat} : updV (fun k => va_rf (f k)) j (va_rf x) = fun k => va_rf (if k = j then x else f k) := by
  funext k
  by_cases h : k = j
  · simp [updV, h]
  · simp [updV, h]
/-- a reference of class C may be stored in an array of kind t -/
theorem zi_aast {t v : Nat} {C E : String} {f : Nat → Option Nat} (j : Nat) (hm : μ.1 a = some (.inl (t, n, .inr (.inr (.inr (.inr f)))))) (ht : t < 7) (hty : z_ty t = .object E) (hi : z_ix i j n) (hv : z_isA g μ v C) (hca : C = E ∨ Cond.castable C E ∈ lw_tbl) (hd : decode Y.2.1 pc = .ok (.aastore, 1))
    (kk : z_V g d Y (pc + 1) lc rest (z_set μ a (.inl (t, n, .inr (.inr (.inr (.inr (fun k => if k = j then some v else f k))))))) Q) : z_V g d Y pc lc (.ref v :: .int i :: .ref a :: rest) μ Q := by
  refine z_wr kk rfl fun p e R s m args below meth c H locs cells slots Qs ls C0 hl hM k9 => ?_
  obtain ⟨hb0, -, hat⟩ := hM.2.2.2 a _ hm
  have hK := z_kT (z_kK C0.1 C0.2.1) ht
  rw [hty] at hK
  obtain ⟨kA, comp, k1, k2, k3, -⟩ := hK.2
  obtain ⟨cellV, g1, g2, g3⟩ := hv.recv C0.1 C0.2.1 hM
  obtain ⟨kE, hkE, -⟩ := Vm.findClass_spec k3
  obtain ⟨kC, hkC, -⟩ := Vm.findClass_spec g3
  have hasg : s.vm.assignable cellV.cls comp = true := by
    rcases hca with rfl | hca
    · exact vb_asgS comp cellV.cls k3 g3
    · exact vb_asgC (C0.2.1.1 _ hca rfl) comp cellV.cls k3 g3
  refine W.aast C0.2.2.1 C0.2.2.2.1 hat (fun q h => by cases h) (fun h => by cases h) k1 k2 rfl hkE ⟨hi.1, by show _ < (arrV _ _ _).slots.size; rw [arrV_size, hi.2.1]; exact hi.2.2⟩ g1 (fun q h => by rw [h] at g2; cases g2) hkC hasg rfl rfl hd fun H1 e z oq => ?_
  refine k9 H1 _ (hM.set hm (fun q h => by cases h; exact ht) ?_ z oq) hb0
  show H1[a]? = some (vp_cell _ _)
  rw [e, hi.2.1]
  show some ((vp_cell _ _).setSlot _ (va_rf (some v))) = _
  rw [vp_cell_q, vp_cell_q, arrV_store, z_upd_q]
theorem zi_aastN {t : Nat} {E : String} {f : Nat → Option Nat} (j : Nat) (hm : μ.1 a = some (.inl (t, n, .inr (.inr (.inr (.inr f)))))) (ht : t < 7) (hty : z_ty t = .object E) (hi : z_ix i j n) (hd : decode Y.2.1 pc = .ok (.aastore, 1))
    (kk : z_V g d Y (pc + 1) lc rest (z_set μ a (.inl (t, n, .inr (.inr (.inr (.inr (fun k => if k = j then none else f k))))))) Q) : z_V g d Y pc lc (.null :: .int i :: .ref a :: rest) μ Q := by
  refine z_wr kk rfl fun p e R s m args below meth c H locs cells slots Qs ls C0 hl hM k9 => ?_
  obtain ⟨hb0, -, hat⟩ := hM.2.2.2 a _ hm
  have hK := z_kT (z_kK C0.1 C0.2.1) ht
  rw [hty] at hK
  refine va_WaastN (C := E) C0.2.2.1 C0.2.2.2.1 hat (hK.1 n (fun q => va_rf (f q))) (fun h => by cases h) (by show ¬ (i < 0 ∨ (arrV _ _ _).slots.size ≤ _); rw [arrV_size]; exact hi.in) rfl rfl hd fun H1 e z oq => ?_
  refine k9 H1 _ (hM.set hm (fun q h => by cases h; exact ht) ?_ z oq) hb0
  show H1[a]? = some (vp_cell _ _)
  rw [e, hi.2.1]
  show some ((vp_cell _ _).setSlot _ (va_rf none)) = _
  rw [vp_cell_q, vp_cell_q, arrV_store, z_upd_q]
/-- an int array goes into an array of int arrays -/
theorem zi_aastA {v : Nat} {x : vp_A} {f : Nat → Option Nat} (j : Nat) (hm : μ.1 a = some (.inl (6, n, .inr (.inr (.inr (.inr f)))))) (hi : z_ix i j n) (hv : μ.1 v = some (.inl (0, x))) (hd : decode Y.2.1 pc = .ok (.aastore, 1))
    (kk : z_V g d Y (pc + 1) lc rest (z_set μ a (.inl (6, n, .inr (.inr (.inr (.inr (fun k => if k = j then some v else f k))))))) Q) : z_V g d Y pc lc (.ref v :: .int i :: .ref a :: rest) μ Q := by
  refine z_wr kk rfl fun p e R s m args below meth c H locs cells slots Qs ls C0 hl hM k9 => ?_
  obtain ⟨hb0, -, hat⟩ := hM.2.2.2 a _ hm
  obtain ⟨kA0, comp, k10, k20, k30⟩ := C0.1.2.2.1.2.2.2.2.2.2.2.2.2.2.2.2.2.1
  obtain ⟨kA, k1, he⟩ := C0.2.1.2.2.2 _ _ k10
  have k2 : kA.kind = .array comp (.array .int) := by rw [he]; exact k20
  have k3 : s.vm.findClass "[I" = some comp := by rw [C0.2.1.2.findClass]; exact k30
  obtain ⟨cellV, g1, g2, g3⟩ := z_isA.recv (C := "[I") C0.1 C0.2.1 hM (Or.inr (Or.inl ⟨0, x, hv, by decide, rfl⟩))
  obtain ⟨kE, hkE, -⟩ := Vm.findClass_spec k3
  obtain ⟨kC, hkC, -⟩ := Vm.findClass_spec g3
  refine W.aast C0.2.2.1 C0.2.2.2.1 hat (fun q h => by cases h) (fun h => by cases h) k1 k2 rfl hkE ⟨hi.1, by show _ < (arrV _ _ _).slots.size; rw [arrV_size, hi.2.1]; exact hi.2.2⟩ g1 (fun q h => by rw [h] at g2; cases g2) hkC (vb_asgS comp cellV.cls k3 g3) rfl rfl hd fun H1 e z oq => ?_
  refine k9 H1 _ (hM.set hm (fun q h => by cases h; show (6 : Nat) < 7; omega) ?_ z oq) hb0
  show H1[a]? = some (vp_cell _ _)
  rw [e, hi.2.1]
  show some ((vp_cell _ _).setSlot _ (va_rf (some v))) = _
  rw [vp_cell_q, vp_cell_q, arrV_store, z_upd_q]
/-- casts: of the class itself, of a class above; null -/
theorem zi_cast {nm : String} (hq : Cond.classLink Y.1.cls index nm ∈ lw_all) (hr : z_isA g μ a nm) (hd : decode Y.2.1 pc = .ok (.checkcast index, 3)) (kk : z_V g d Y (pc + 3) lc (.ref a :: rest) μ Q) : z_V g d Y pc lc (.ref a :: rest) μ Q :=
  z_pure kk fun _ _ _ _ _ _ _ _ _ _ _ _ _ _ _ C0 hl hM k9 => va_castE C0.2.2.1 C0.2.2.2.1 C0.2.2.2.2.2.2.2.1 (C0.2.2.2.2.2.2.2.2.2.1 _ hq) (hr.recv C0.1 C0.2.1 hM) hd (k9 _ hl)
theorem zi_castY {nm C : String} (hq : Cond.classLink Y.1.cls index nm ∈ lw_all) (hc : Cond.castable C nm ∈ lw_tbl) (hr : z_isA g μ a C) (hd : decode Y.2.1 pc = .ok (.checkcast index, 3)) (kk : z_V g d Y (pc + 3) lc (.ref a :: rest) μ Q) : z_V g d Y pc lc (.ref a :: rest) μ Q :=
  z_pure kk fun _ _ _ _ _ _ _ _ _ _ _ _ _ _ _ C0 hl hM k9 => va_castY C0.2.2.1 C0.2.2.2.1 C0.2.2.2.2.2.2.2.1 (C0.2.2.2.2.2.2.2.2.2.1 _ hq) (C0.2.1.1 _ hc rfl) (hr.recv C0.1 C0.2.1 hM) hd (k9 _ hl)
theorem zi_castN (hd : decode Y.2.1 pc = .ok (.checkcast index, 3)) (kk : z_V g d Y (pc + 3) lc (.null :: rest) μ Q) : z_V g d Y pc lc (.null :: rest) μ Q :=
  z_pure kk fun _ _ _ _ _ _ _ _ _ _ _ _ _ _ _ C0 hl _ k9 => lv_castN C0.2.2.1 C0.2.2.2.1 hd (k9 _ hl)
theorem zi_inst {nm : String} (hq : Cond.classLink Y.1.cls index nm ∈ lw_all) (hr : z_isA g μ a nm) (hd : decode Y.2.1 pc = .ok (.instanceof index, 3)) (kk : z_V g d Y (pc + 3) lc (.int 1 :: rest) μ Q) : z_V g d Y pc lc (.ref a :: rest) μ Q :=
  z_pure kk fun _ _ _ _ _ _ _ _ _ _ _ _ _ _ _ C0 hl hM k9 => va_instE C0.2.2.1 C0.2.2.2.1 C0.2.2.2.2.2.2.2.1 (C0.2.2.2.2.2.2.2.2.2.1 _ hq) (hr.recv C0.1 C0.2.1 hM) hd (k9 _ hl)
theorem zi_instNo {nm C : String} (hq : Cond.classLink Y.1.cls index nm ∈ lw_all) (hc : z_ok g → va_Nc C nm g.2.1) (hr : z_isA g μ a C) (hd : decode Y.2.1 pc = .ok (.instanceof index, 3)) (kk : z_V g d Y (pc + 3) lc (.int 0 :: rest) μ Q) : z_V g d Y pc lc (.ref a :: rest) μ Q :=
  z_pure kk fun _ _ _ _ _ _ _ _ _ _ _ _ _ _ _ C0 hl hM k9 => va_instNo C0.2.2.1 C0.2.2.2.1 C0.2.2.2.2.2.2.2.1 (C0.2.2.2.2.2.2.2.2.2.1 _ hq) (va_Nc.moved C0.2.1.2 (hc C0.1)) (hr.recv C0.1 C0.2.1 hM) hd (k9 _ hl)
/-- a static -/
theorem zi_gets {C n ds : String} {v : Value} (hz : z_ok g → z_Z g C n ds v) (hq : Cond.fieldLink Y.1.cls index C n ds ∈ lw_all) (hd : decode Y.2.1 pc = .ok (.getstatic index, 3)) (kk : z_V g d Y (pc + 3) lc (v :: rest) μ Q) : z_V g d Y pc lc rest μ Q :=
  z_pure kk fun _ _ _ _ _ _ _ _ _ _ _ _ _ _ _ C0 hl hM k9 => by
    obtain ⟨cf, kf, fi, f, a, cell, h1, h2, h3, h4, h5, h6, h7, h8⟩ := va_Z.moved C0.2.1.2 (hz C0.1)
    exact W.gets C0.2.2.1 C0.2.2.2.1 C0.2.2.2.2.2.2.2.1 (C0.2.2.2.2.2.2.2.2.2.1 _ hq) h1 h2 h3 h4 (by rw [hM.2.2.1 a (Nat.lt_of_not_le h8)]; exact h5) (fun e => by rw [e] at h6; cases h6) h7 rfl hd (k9 _ hl)
theorem zi_getsN {C n ds host : String} {v : Value} (hz : z_ok g → z_Z g C n ds v) (hq : Cond.fieldLinkNest Y.1.cls index C n ds host ∈ lw_tbl) (hd : decode Y.2.1 pc = .ok (.getstatic index, 3)) (kk : z_V g d Y (pc + 3) lc (v :: rest) μ Q) : z_V g d Y pc lc rest μ Q :=
  z_pure kk fun _ _ _ _ _ _ _ _ _ _ _ _ _ _ _ C0 hl hM k9 => by
    obtain ⟨cf, kf, fi, f, a, cell, h1, h2, h3, h4, h5, h6, h7, h8⟩ := va_Z.moved C0.2.1.2 (hz C0.1)
    exact va_WgetsN C0.2.2.1 C0.2.2.2.1 C0.2.2.2.2.2.2.2.1 (va_Nw.use rfl (C0.2.1.1 _ hq rfl)) h1 h2 h3 h4 (by rw [hM.2.2.1 a (Nat.lt_of_not_le h8)]; exact h5) (fun e => by rw [e] at h6; cases h6) h7 rfl hd (k9 _ hl)
theorem zi_objInit (hq : Cond.methodLink Y.1.cls index Lib.objectInit ∈ lw_all) (hq2 : Cond.instanceMethod Lib.objectInit ∈ lw_all) (hq3 : Cond.code Lib.objectInit ⟨#[0xb1]⟩ 1 none ∈ lw_all) (hW : (rest.map fun v => v.category).sum ≤ 8) (hd : decode Y.2.1 pc = .ok (.invokespecial index, 3)) (kk : z_V g (d + 1) Y (pc + 3) lc rest μ Q) : z_V g (d + 1) Y pc lc (.ref a :: rest) μ Q :=
  z_pure kk fun _ _ _ _ _ _ _ _ _ _ _ _ _ _ _ C0 hl hM k9 => by
    have hf := C0.2.2.2.2.2.2.2.2.2.2.2.1
    have hlo := C0.2.2.2.2.2.2.2.2.2.2.2.2
    exact W.objInit C0.2.2.1 C0.2.2.2.1 C0.2.2.2.2.2.2.2.1 (C0.2.2.2.2.2.2.2.2.2.1 _ hq) (C0.2.2.2.2.2.2.2.2.2.1 _ hq2) (C0.2.2.2.2.2.2.2.2.2.1 _ hq3) rfl (by rw [C0.2.2.2.2.1]; exact hl.1) rfl hd (by omega) (by show 2 * 0 + _ + 12 ≤ _; omega) (k9 _ hl)
end ZAS
