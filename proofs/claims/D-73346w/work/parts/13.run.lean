/-! CALLS, THROWS, BODIES: rows of the memory logic -/
set_option maxRecDepth 100000
section ZC
variable {g : z_G} {d : Nat} {Y Yc : z_Y} {Q : z_O → z_M → Prop} {μ μ1 : z_M} {o : z_O} {pc pc1 index : Nat} {lc : List (Nat × Value)} {st rest : List Value}
/-- behind a call (len: 3 bytes, or 5) -/
theorem z_goes {aa : Array Value} (hr : z_ret g (d + 1) Y (pc + 3) pc lc rest Q o μ1) (hn : μ.2.1 ≤ μ1.2.1) (hk : μ.2.2 ≤ μ1.2.2)
    (hrun : ∀ (p : Program) (e : Env) (R : Room) (s : State) (m : MethodId) (args : Array Value) (below : List Frame) (meth : Method) (c : Code) (H : Heap) (locs : List Loc) (cells slots : Nat) (ls : Array Slot),
      z_Cx g (d + 1) Y p R s m args meth c → lv_has ls Y.2.2.1 lc → z_MH g μ H → cells + (μ1.2.1 - μ.2.1) ≤ R.cells → slots + (μ1.2.2 - μ.2.2) ≤ R.slots →
      vx_Run p g.1 e R s m args below meth c H locs cells slots (μ1.2.1 - μ.2.1) (μ1.2.2 - μ.2.2) (F0 m pc ls st) rest (z_Qc g o μ1 aa) (z_XC g o μ1) (fun q => z_b g ≤ q)) : z_V g (d + 1) Y pc lc st μ Q := by
  cases o with
  | inl v =>
    obtain ⟨o', μ', hQ, h1, h2, hD⟩ : z_V g (d + 1) Y (pc + 3) lc (v.toList ++ rest) μ1 Q := by cases v <;> exact hr
    refine ⟨o', μ', hQ, Nat.le_trans hn h1, Nat.le_trans hk h2, ?_⟩
    intro n0 k0 p e R s m args below meth c H locs ls C i1 i2 i3 i4 hl hM hL T hT X
    have e1 : (μ.2.1 - n0) + (μ1.2.1 - μ.2.1) = μ1.2.1 - n0 := by omega
    have e2 : (μ.2.2 - k0) + (μ1.2.2 - μ.2.2) = μ1.2.2 - k0 := by omega
    rcases hrun p e R s m args below meth c H locs _ _ ls C hl hM (by rw [e1]; omega) (by rw [e2]; omega) T hT X with ⟨v', st0, t, T', L, h0, X', hL2, f1, f2, ⟨⟨v2, f3, f4⟩, hM1⟩, sg⟩ | ⟨q, st0, t, T', L, E, ce, h0, X', hL2, f1, f2, ⟨f3, f4, hM1⟩, hce, hcv, hcl, sg⟩
    · cases f3
      cases f4
      rw [e1, e2] at X'
      have hW := hD n0 k0 p e R s m args below meth c T'.heap (locs ++ L) ls C (by omega) (by omega) i3 i4 hl (by rw [f1]; exact hM1) (fun q hq => by
        rcases List.mem_append.mp hq with q1 | q1
        · exact hL q q1
        · exact hL2 q q1)
      obtain ⟨t2, a1, b1⟩ := hW T' rfl X'
      exact ⟨t2, sg t2 a1, b1⟩
    · cases f3
  | inr q0 =>
    obtain ⟨o', μ', hQ, h1, h2, hD⟩ : z_X g (d + 1) Y pc lc q0 μ1 Q := hr
    refine ⟨o', μ', hQ, Nat.le_trans hn h1, Nat.le_trans hk h2, ?_⟩
    intro n0 k0 p e R s m args below meth c H locs ls C i1 i2 i3 i4 hl hM hL T hT X
    have e1 : (μ.2.1 - n0) + (μ1.2.1 - μ.2.1) = μ1.2.1 - n0 := by omega
    have e2 : (μ.2.2 - k0) + (μ1.2.2 - μ.2.2) = μ1.2.2 - k0 := by omega
    rcases hrun p e R s m args below meth c H locs _ _ ls C hl hM (by rw [e1]; omega) (by rw [e2]; omega) T hT X with ⟨v', st0, t, T', L, h0, X', hL2, f1, f2, ⟨⟨v2, f3, f4⟩, hM1⟩, sg⟩ | ⟨q, st0, t, T', L, E, ce, h0, X', hL2, f1, f2, ⟨f3, f4, hM1⟩, hce, hcv, hcl, sg⟩
    · cases f3
    · cases f3
      rw [e1, e2] at X'
      have hW := hD rest n0 k0 p e R s m args below meth c T'.heap (locs ++ L) ls E ce C (by omega) (by omega) i3 i4 hl (by rw [f1]; exact hM1) (fun q hq => by
        rcases List.mem_append.mp hq with q1 | q1
        · exact hL q q1
        · exact hL2 q q1) f4 (by rw [f1]; exact hce) hcv hcl
      obtain ⟨t2, a1, b1⟩ := hW T' rfl X'
      exact ⟨t2, sg.trans a1, b1⟩
/-- .. of an interface's method -/
theorem z_goes5 {aa : Array Value} (hr : z_ret g (d + 1) Y (pc + 5) pc lc rest Q o μ1) (hn : μ.2.1 ≤ μ1.2.1) (hk : μ.2.2 ≤ μ1.2.2)
    (hrun : ∀ (p : Program) (e : Env) (R : Room) (s : State) (m : MethodId) (args : Array Value) (below : List Frame) (meth : Method) (c : Code) (H : Heap) (locs : List Loc) (cells slots : Nat) (ls : Array Slot),
      z_Cx g (d + 1) Y p R s m args meth c → lv_has ls Y.2.2.1 lc → z_MH g μ H → cells + (μ1.2.1 - μ.2.1) ≤ R.cells → slots + (μ1.2.2 - μ.2.2) ≤ R.slots →
      vx_Run5 p g.1 e R s m args below meth c H locs cells slots (μ1.2.1 - μ.2.1) (μ1.2.2 - μ.2.2) (F0 m pc ls st) rest (z_Qc g o μ1 aa) (z_XC g o μ1) (fun q => z_b g ≤ q)) : z_V g (d + 1) Y pc lc st μ Q := by
  cases o with
  | inl v =>
    obtain ⟨o', μ', hQ, h1, h2, hD⟩ : z_V g (d + 1) Y (pc + 5) lc (v.toList ++ rest) μ1 Q := by cases v <;> exact hr
    refine ⟨o', μ', hQ, Nat.le_trans hn h1, Nat.le_trans hk h2, ?_⟩
    intro n0 k0 p e R s m args below meth c H locs ls C i1 i2 i3 i4 hl hM hL T hT X
    have e1 : (μ.2.1 - n0) + (μ1.2.1 - μ.2.1) = μ1.2.1 - n0 := by omega
    have e2 : (μ.2.2 - k0) + (μ1.2.2 - μ.2.2) = μ1.2.2 - k0 := by omega
    rcases hrun p e R s m args below meth c H locs _ _ ls C hl hM (by rw [e1]; omega) (by rw [e2]; omega) T hT X with ⟨v', st0, t, T', L, h0, X', hL2, f1, f2, ⟨⟨v2, f3, f4⟩, hM1⟩, sg⟩ | ⟨q, st0, t, T', L, E, ce, h0, X', hL2, f1, f2, ⟨f3, f4, hM1⟩, hce, hcv, hcl, sg⟩
    · cases f3
      cases f4
      rw [e1, e2] at X'
      have hW := hD n0 k0 p e R s m args below meth c T'.heap (locs ++ L) ls C (by omega) (by omega) i3 i4 hl (by rw [f1]; exact hM1) (fun q hq => by
        rcases List.mem_append.mp hq with q1 | q1
        · exact hL q q1
        · exact hL2 q q1)
      obtain ⟨t2, a1, b1⟩ := hW T' rfl X'
      exact ⟨t2, sg t2 a1, b1⟩
    · cases f3
  | inr q0 =>
    obtain ⟨o', μ', hQ, h1, h2, hD⟩ : z_X g (d + 1) Y pc lc q0 μ1 Q := hr
    refine ⟨o', μ', hQ, Nat.le_trans hn h1, Nat.le_trans hk h2, ?_⟩
    intro n0 k0 p e R s m args below meth c H locs ls C i1 i2 i3 i4 hl hM hL T hT X
    have e1 : (μ.2.1 - n0) + (μ1.2.1 - μ.2.1) = μ1.2.1 - n0 := by omega
    have e2 : (μ.2.2 - k0) + (μ1.2.2 - μ.2.2) = μ1.2.2 - k0 := by omega
    rcases hrun p e R s m args below meth c H locs _ _ ls C hl hM (by rw [e1]; omega) (by rw [e2]; omega) T hT X with ⟨v', st0, t, T', L, h0, X', hL2, f1, f2, ⟨⟨v2, f3, f4⟩, hM1⟩, sg⟩ | ⟨q, st0, t, T', L, E, ce, h0, X', hL2, f1, f2, ⟨f3, f4, hM1⟩, hce, hcv, hcl, sg⟩
    · cases f3
    · cases f3
      rw [e1, e2] at X'
      have hW := hD rest n0 k0 p e R s m args below meth c T'.heap (locs ++ L) ls E ce C (by omega) (by omega) i3 i4 hl (by rw [f1]; exact hM1) (fun q hq => by
        rcases List.mem_append.mp hq with q1 | q1
        · exact hL q q1
        · exact hL2 q q1) f4 (by rw [f1]; exact hce) hcv hcl
      obtain ⟨t2, a1, b1⟩ := hW T' rfl X'
      exact ⟨t2, sg.trans a1, b1⟩
/-- what is the same at every call of a method -/
abbrev z_okN (y : MethodName) (n : Nat) : Prop := y.cls ≠ "java/lang/invoke/MethodHandle" ∧ y.cls ≠ "java/lang/invoke/VarHandle" ∧ (parseMethodDescriptor y.desc).map (fun d => d.parameters.length) = some n
def z_mV (Y : z_Y) (n : Nat) : Prop := Cond.instanceMethod Y.1 ∈ lw_all ∧ Cond.selects Y.1.cls Y.1 Y.1 ∈ lw_all ∧ Cond.initialized Y.1.cls ∈ lw_all ∧ z_cw Y ∈ lw_all ∧ z_okN Y.1 n ∧ Y.2.2.1 ≤ 60
def z_mS (Y : z_Y) (n : Nat) : Prop := Cond.static Y.1 ∈ lw_all ∧ Cond.initialized Y.1.cls ∈ lw_all ∧ z_cw Y ∈ lw_all ∧ z_okN Y.1 n ∧ Y.2.2.1 ≤ 60
def z_mI (Y : z_Y) (n : Nat) : Prop := Cond.instanceMethod Y.1 ∈ lw_all ∧ Cond.initialized Y.1.cls ∈ lw_all ∧ z_cw Y ∈ lw_all ∧ z_okN Y.1 n ∧ Y.2.2.1 ≤ 60 ∧ Y.1.name = "<init>" ∧ Y.2.2.2.1 = none
/-- inherited or overriding: x is what the reference names -/
def z_mU (Y : z_Y) (C owner : String) (x : MethodName) (n : Nat) : Prop := Cond.sameMethod x.cls owner x.name x.desc ∈ lw_all ∧ Cond.selects C x Y.1 ∈ lw_all ∧ Cond.instanceMethod Y.1 ∈ lw_all ∧ Cond.initialized Y.1.cls ∈ lw_all ∧ z_cw Y ∈ lw_all ∧ (owner ≠ "java/lang/invoke/MethodHandle" ∧ owner ≠ "java/lang/invoke/VarHandle" ∧ (parseMethodDescriptor x.desc).map (fun d => d.parameters.length) = some n) ∧ Y.2.2.1 ≤ 60 ∧ (Y.1 = ⟨owner, x.name, x.desc⟩ ∨ Cond.declares ⟨owner, x.name, x.desc⟩ ∈ lw_tbl ∨ ∃ b0 m0 r0, Cond.instanceMethod ⟨owner, x.name, x.desc⟩ ∈ lw_all ∧ Cond.code ⟨owner, x.name, x.desc⟩ b0 m0 r0 ∈ lw_all)
theorem z_preV {b : Nat} {C : String} {As : List Value} {p : Program} {R : Room} {s : State} {m : MethodId} {args : Array Value} {meth : Method} {c : Code} {H : Heap} (C0 : z_Cx g d Y p R s m args meth c) (hM : z_MH g μ H) (hb : z_isA g μ b C) : PreV s H C b (z_Pc g (.ref b :: As) μ) As :=
  ⟨z_Pc.blind, hb.recv C0.1 C0.2.1 hM, fun U hU hW => ⟨rfl, C0.2.1.warm hW, by rw [hU]; exact hM⟩⟩
theorem z_preS {As : List Value} {p : Program} {R : Room} {s : State} {m : MethodId} {args : Array Value} {meth : Method} {c : Code} {H : Heap} (C0 : z_Cx g d Y p R s m args meth c) (hM : z_MH g μ H) : PreS s H (z_Pc g As μ) As :=
  ⟨z_Pc.blind, fun U hU hW => ⟨rfl, C0.2.1.warm hW, by rw [hU]; exact hM⟩⟩
theorem z_fix {p : Program} {R : Room} {s : State} {m : MethodId} {args : Array Value} {meth : Method} {c : Code} (C0 : z_Cx g d Y p R s m args meth c) : CallFix p m c Y.2.1 Y.2.2.1 s args lw_all Y.1.cls := ⟨C0.2.2.1, C0.2.2.2.1, C0.2.2.2.2.1, C0.2.2.2.2.2.2.2.1, C0.2.2.2.2.2.2.2.2.2.1⟩
theorem z_room {L n k : Nat} {p : Program} {R : Room} {s : State} {m : MethodId} {args : Array Value} {meth : Method} {c : Code} (C0 : z_Cx g (d + 1) Y p R s m args meth c) (h : L ≤ 60) : (z_rm d n k).frames + 1 ≤ R.frames ∧ 8 + (L + 11) + (z_rm d n k).locals ≤ R.locals := by
  have h1 := C0.2.2.2.2.2.2.2.2.2.2.2.1
  have h2 := C0.2.2.2.2.2.2.2.2.2.2.2.2
  exact ⟨h1, by show 8 + (L + 11) + 100 * d ≤ R.locals; omega⟩
theorem z_lroom {m : MethodId} {ls : Array Slot} (h : (rest.map fun v => v.category).sum ≤ 8) : 2 * (F0 m pc ls st).monitorRoom + (rest.map fun v => v.category).sum ≤ 8 := lv_room h
theorem zi_callV {b n : Nat} (As : List Value) (hm : z_mV Yc n) (hh : Yc.2.2.2.2 = []) (hq : Cond.methodLink Y.1.cls index Yc.1 ∈ lw_all) (hb : z_isA g μ b Yc.1.cls) (hn : As.length = n) (hst : st = As.reverse ++ .ref b :: rest) (hW : (rest.map fun v => v.category).sum ≤ 8) (hd : decode Y.2.1 pc = .ok (.invokevirtual index, 3))
    (hK : z_K g d Yc (.ref b :: As) μ (z_ret g (d + 1) Y (pc + 3) pc lc rest Q)) : z_V g (d + 1) Y pc lc st μ Q := by
  obtain ⟨o, μ1, hr, h1, h2, hMet⟩ := hK
  obtain ⟨y, bts, L, rt, hh0⟩ := Yc
  cases hh
  obtain ⟨m1, m2, m3, m4, m5, m6⟩ := hm
  refine z_goes (aa := (Value.ref b :: As).toArray) hr h1 h2 fun p e R s m args below meth c H locs cells slots ls C0 hl hM j1 j2 => ?_
  exact vx_runV (z_fix C0) (hMet C0.1) (cwV n C0.2.2.2.2.2.2.2.2.2.1 (lw_V hq m1 m2 m3 m4) rfl rfl rfl ⟨rfl, m5⟩ (z_room C0 m6)) (z_preV C0 hM hb) rfl hn hl.1 hst (z_lroom hW) hd ⟨j1, j2⟩
theorem zi_callVW {b n : Nat} (As : List Value) (hm : z_mV Yc n) (hh : Yc.2.2.2.2 ≠ []) (hq : Cond.methodLink Y.1.cls index Yc.1 ∈ lw_all) (hb : z_isA g μ b Yc.1.cls) (hn : As.length = n) (hst : st = As.reverse ++ .ref b :: rest) (hW : (rest.map fun v => v.category).sum ≤ 8) (hd : decode Y.2.1 pc = .ok (.invokevirtual index, 3))
    (hK : z_K g d Yc (.ref b :: As) μ (z_ret g (d + 1) Y (pc + 3) pc lc rest Q)) : z_V g (d + 1) Y pc lc st μ Q := by
  obtain ⟨o, μ1, hr, h1, h2, hMet⟩ := hK
  obtain ⟨y, bts, L, rt, _ | ⟨h9, hh0⟩⟩ := Yc
  · exact absurd rfl hh
  obtain ⟨m1, m2, m3, m4, m5, m6⟩ := hm
  refine z_goes (aa := (Value.ref b :: As).toArray) hr h1 h2 fun p e R s m args below meth c H locs cells slots ls C0 hl hM j1 j2 => ?_
  exact vx_runVX (z_fix C0) (hMet C0.1) (vx_cwVW n C0.2.2.2.2.2.2.2.2.2.1 (lw_VW hq m1 m2 m3 m4) rfl rfl rfl ⟨rfl, m5⟩ (z_room C0 m6)) (z_preV C0 hM hb) rfl hn hl.1 hst (z_lroom hW) hd ⟨j1, j2⟩
theorem zi_callS {n : Nat} (As : List Value) (hm : z_mS Yc n) (hh : Yc.2.2.2.2 = []) (hq : Cond.methodLink Y.1.cls index Yc.1 ∈ lw_all) (hn : As.length = n) (hst : st = As.reverse ++ rest) (hW : (rest.map fun v => v.category).sum ≤ 8) (hd : decode Y.2.1 pc = .ok (.invokestatic index, 3))
    (hK : z_K g d Yc As μ (z_ret g (d + 1) Y (pc + 3) pc lc rest Q)) : z_V g (d + 1) Y pc lc st μ Q := by
  obtain ⟨o, μ1, hr, h1, h2, hMet⟩ := hK
  obtain ⟨y, bts, L, rt, hh0⟩ := Yc
  cases hh
  obtain ⟨m1, m3, m4, m5, m6⟩ := hm
  refine z_goes (aa := As.toArray) hr h1 h2 fun p e R s m args below meth c H locs cells slots ls C0 hl hM j1 j2 => ?_
  exact vx_runS (z_fix C0) (hMet C0.1) (va_cwS n C0.2.2.2.2.2.2.2.2.2.1 (lw_S hq m1 m3 m4) rfl rfl rfl m5 (z_room C0 m6)) (z_preS C0 hM) rfl hn hl.1 hst (z_lroom hW) hd ⟨j1, j2⟩
theorem zi_callSN {n : Nat} {host : String} (As : List Value) (hm : z_mS Yc n) (hh : Yc.2.2.2.2 = []) (hq : Cond.methodLinkNest Y.1.cls index Yc.1 host ∈ lw_tbl) (hn : As.length = n) (hst : st = As.reverse ++ rest) (hW : (rest.map fun v => v.category).sum ≤ 8) (hd : decode Y.2.1 pc = .ok (.invokestatic index, 3))
    (hK : z_K g d Yc As μ (z_ret g (d + 1) Y (pc + 3) pc lc rest Q)) : z_V g (d + 1) Y pc lc st μ Q := by
  obtain ⟨o, μ1, hr, h1, h2, hMet⟩ := hK
  obtain ⟨y, bts, L, rt, hh0⟩ := Yc
  cases hh
  obtain ⟨m1, m3, m4, m5, m6⟩ := hm
  refine z_goes (aa := As.toArray) hr h1 h2 fun p e R s m args below meth c H locs cells slots ls C0 hl hM j1 j2 => ?_
  exact vx_runSN (z_fix C0) (hMet C0.1) ⟨va_cnB n C0.2.2.2.2.2.2.2.2.2.1 (lw_meth m4) rfl rfl rfl (C0.2.1.1 _ hq rfl) (C0.2.2.2.2.2.2.2.2.2.1 _ m3) m5 (z_room C0 m6), C0.2.2.2.2.2.2.2.2.2.1 _ m1, trivial⟩ (z_preS C0 hM) rfl hn hl.1 hst (z_lroom hW) hd ⟨j1, j2⟩
theorem zi_callI {b n : Nat} (As : List Value) (hm : z_mI Yc n) (hh : Yc.2.2.2.2 = []) (hq : Cond.methodLink Y.1.cls index Yc.1 ∈ lw_all) (hn : As.length = n) (hst : st = As.reverse ++ .ref b :: rest) (hW : (rest.map fun v => v.category).sum ≤ 8) (hd : decode Y.2.1 pc = .ok (.invokespecial index, 3))
    (hK : z_K g d Yc (.ref b :: As) μ (z_ret g (d + 1) Y (pc + 3) pc lc rest Q)) : z_V g (d + 1) Y pc lc st μ Q := by
  obtain ⟨o, μ1, hr, h1, h2, hMet⟩ := hK
  obtain ⟨y, bts, L, rt, hh0⟩ := Yc
  cases hh
  obtain ⟨m1, m3, m4, m5, m6, m7, m8⟩ := hm
  cases m8
  refine z_goes (aa := (Value.ref b :: As).toArray) hr h1 h2 fun p e R s m args below meth c H locs cells slots ls C0 hl hM j1 j2 => ?_
  have hts := C0.2.2.2.2.2.2.2.2.2.1
  exact vx_runI (z_fix C0) (hMet C0.1) (cwI n hts (lw_meth m4) rfl rfl rfl (hts _ m3) (hts _ hq) (hts _ m1) m7 m5 (z_room C0 m6)) (z_preS C0 hM) rfl hn hl.1 hst (z_lroom hW) hd ⟨j1, j2⟩
theorem zi_callIN {b n : Nat} {host : String} (As : List Value) (hm : z_mI Yc n) (hh : Yc.2.2.2.2 = []) (hq : Cond.methodLinkNest Y.1.cls index Yc.1 host ∈ lw_tbl) (hn : As.length = n) (hst : st = As.reverse ++ .ref b :: rest) (hW : (rest.map fun v => v.category).sum ≤ 8) (hd : decode Y.2.1 pc = .ok (.invokespecial index, 3))
    (hK : z_K g d Yc (.ref b :: As) μ (z_ret g (d + 1) Y (pc + 3) pc lc rest Q)) : z_V g (d + 1) Y pc lc st μ Q := by
  obtain ⟨o, μ1, hr, h1, h2, hMet⟩ := hK
  obtain ⟨y, bts, L, rt, hh0⟩ := Yc
  cases hh
  obtain ⟨m1, m3, m4, m5, m6, m7, m8⟩ := hm
  cases m8
  refine z_goes (aa := (Value.ref b :: As).toArray) hr h1 h2 fun p e R s m args below meth c H locs cells slots ls C0 hl hM j1 j2 => ?_
  have hts := C0.2.2.2.2.2.2.2.2.2.1
  exact vx_runIN (z_fix C0) (hMet C0.1) ⟨va_cnB n hts (lw_meth m4) rfl rfl rfl (C0.2.1.1 _ hq rfl) (hts _ m3) m5 (z_room C0 m6), m7, hts _ m1⟩ (z_preS C0 hM) rfl hn hl.1 hst (z_lroom hW) hd ⟨j1, j2⟩
theorem z_cwU {b n nn kk : Nat} {C owner : String} {x : MethodName} {y : MethodName} {bts : ByteArray} {L : Nat} {rt : Option FieldType} {p : Program} {R : Room} {s : State} {m : MethodId} {args : Array Value} {meth : Method} {c : Code} (C0 : z_Cx g (d + 1) Y p R s m args meth c) (hm : z_mU (y, bts, L, rt, []) C owner x n) (hq : Cond.methodLink Y.1.cls index x ∈ lw_all) :
    va_CU R s args Y.1.cls C owner index x y bts L rt (z_ws (y, bts, L, rt, [])) (z_rm d nn kk) nn kk n := by
  obtain ⟨m1, m2, m3, m4, m5, m6, m7, m8⟩ := hm
  have hts := C0.2.2.2.2.2.2.2.2.2.1
  rcases m8 with e | e | ⟨b0, m0, r0, e1, e2⟩
  · exact va_cwU n hts (lw_app (List.forall_mem_cons.mpr ⟨hq, List.forall_mem_cons.mpr ⟨m1, List.forall_mem_cons.mpr ⟨m2, List.forall_mem_cons.mpr ⟨m3, List.forall_mem_cons.mpr ⟨m4, fun _ h => absurd h List.not_mem_nil⟩⟩⟩⟩⟩) (lw_meth m5)) rfl rfl rfl e m6 (z_room C0 m7)
  · exact va_cwA n hts (lw_app (List.forall_mem_cons.mpr ⟨hq, List.forall_mem_cons.mpr ⟨m1, List.forall_mem_cons.mpr ⟨m2, List.forall_mem_cons.mpr ⟨m3, List.forall_mem_cons.mpr ⟨m4, fun _ h => absurd h List.not_mem_nil⟩⟩⟩⟩⟩) (lw_meth m5)) rfl rfl rfl (C0.2.1.1 _ e rfl) m6 (z_room C0 m7)
  · exact va_cwO n hts (lw_app (List.forall_mem_cons.mpr ⟨hq, List.forall_mem_cons.mpr ⟨m1, List.forall_mem_cons.mpr ⟨e1, List.forall_mem_cons.mpr ⟨m2, List.forall_mem_cons.mpr ⟨m3, List.forall_mem_cons.mpr ⟨m4, fun _ h => absurd h List.not_mem_nil⟩⟩⟩⟩⟩⟩) (lw_meth m5)) rfl rfl rfl e2 m6 (z_room C0 m7)
theorem zi_callU {b n : Nat} {C owner : String} {x : MethodName} (As : List Value) (hm : z_mU Yc C owner x n) (hh : Yc.2.2.2.2 = []) (hq : Cond.methodLink Y.1.cls index x ∈ lw_all) (hb : z_isA g μ b C) (hn : As.length = n) (hst : st = As.reverse ++ .ref b :: rest) (hW : (rest.map fun v => v.category).sum ≤ 8) (hd : decode Y.2.1 pc = .ok (.invokevirtual index, 3))
    (hK : z_K g d Yc (.ref b :: As) μ (z_ret g (d + 1) Y (pc + 3) pc lc rest Q)) : z_V g (d + 1) Y pc lc st μ Q := by
  obtain ⟨o, μ1, hr, h1, h2, hMet⟩ := hK
  obtain ⟨y, bts, L, rt, hh0⟩ := Yc
  cases hh
  refine z_goes (aa := (Value.ref b :: As).toArray) hr h1 h2 fun p e R s m args below meth c H locs cells slots ls C0 hl hM j1 j2 => ?_
  exact vx_runU (z_fix C0) (hMet C0.1) (z_cwU (b := b) C0 hm hq) (z_preV C0 hM hb) rfl hn hl.1 hst (z_lroom hW) hd ⟨j1, j2⟩
/-- super.m(..) -/
theorem zi_callSU {b n ci N : Nat} {fs : List Value} {C : String} {T : u_T} (As : List Value) (hm : Cond.sameMethod Yc.1.cls Yc.1.cls Yc.1.name Yc.1.desc ∈ lw_all ∧ Cond.superclass Y.1.cls Yc.1.cls ∈ lw_all ∧ Cond.instanceMethod Yc.1 ∈ lw_all ∧ Cond.initialized Yc.1.cls ∈ lw_all ∧ z_cw Yc ∈ lw_all ∧ (Yc.1.name ≠ "<init>" ∧ (parseMethodDescriptor Yc.1.desc).map (fun d => d.parameters.length) = some n) ∧ Yc.2.2.1 ≤ 60) (hh : Yc.2.2.2.2 = []) (hq : Cond.methodLink Y.1.cls index Yc.1 ∈ lw_all) (hb : μ.1 b = some (.inr (ci, fs))) (hc : vwCl[ci]? = some (C, T, N)) (hn : As.length = n) (hst : st = As.reverse ++ .ref b :: rest) (hW : (rest.map fun v => v.category).sum ≤ 8) (hd : decode Y.2.1 pc = .ok (.invokespecial index, 3))
    (hK : z_K g d Yc (.ref b :: As) μ (z_ret g (d + 1) Y (pc + 3) pc lc rest Q)) : z_V g (d + 1) Y pc lc st μ Q := by
  obtain ⟨o, μ1, hr, h1, h2, hMet⟩ := hK
  obtain ⟨y, bts, L, rt, hh0⟩ := Yc
  cases hh
  obtain ⟨m1, m2, m3, m4, m5, m6, m7⟩ := hm
  refine z_goes (aa := (Value.ref b :: As).toArray) hr h1 h2 fun p e R s m args below meth c H locs cells slots ls C0 hl hM j1 j2 => ?_
  exact vx_runSU ((z_kK C0.1 C0.2.1).1 ci _ hc).2 (z_fix C0) (hMet C0.1) (va_cwSU n C0.2.2.2.2.2.2.2.2.2.1 (lw_app (List.forall_mem_cons.mpr ⟨hq, List.forall_mem_cons.mpr ⟨m1, List.forall_mem_cons.mpr ⟨m2, List.forall_mem_cons.mpr ⟨m3, List.forall_mem_cons.mpr ⟨m4, fun _ h => absurd h List.not_mem_nil⟩⟩⟩⟩⟩) (lw_meth m5)) rfl rfl rfl m6 (z_room C0 m7)) (z_preV C0 hM (Or.inl ⟨ci, fs, T, N, hb, hc⟩)) rfl hn hl.1 hst (z_lroom hW) hd ⟨j1, j2⟩
/-- by an interface -/
def z_mF (Y : z_Y) (C : String) (x : MethodName) (n : Nat) : Prop := Cond.selects C x Y.1 ∈ lw_all ∧ Cond.instanceMethod Y.1 ∈ lw_all ∧ Cond.initialized Y.1.cls ∈ lw_all ∧ z_cw Y ∈ lw_all ∧ z_okN x n ∧ Y.2.2.1 ≤ 60 ∧ (Cond.declares x ∈ lw_tbl ∧ Cond.interfaceMethod x.cls x.cls x.name x.desc ∈ lw_tbl ∧ Cond.publicMethod Y.1 ∈ lw_tbl ∧ Cond.unhidden C x.name x.desc ∈ lw_tbl ∧ Cond.castable C x.cls ∈ lw_tbl)
theorem zi_callF {b n ci N cnt : Nat} {fs : List Value} {C : String} {T : u_T} {x : MethodName} (As : List Value) (hm : z_mF Yc C x n) (hh : Yc.2.2.2.2 = []) (hq : Cond.methodLink Y.1.cls index x ∈ lw_all) (hb : μ.1 b = some (.inr (ci, fs))) (hc : vwCl[ci]? = some (C, T, N)) (hn : As.length = n) (hst : st = As.reverse ++ .ref b :: rest) (hW : (rest.map fun v => v.category).sum ≤ 8) (hd : decode Y.2.1 pc = .ok (.invokeinterface index cnt, 5))
    (hK : z_K g d Yc (.ref b :: As) μ (z_ret g (d + 1) Y (pc + 5) pc lc rest Q)) : z_V g (d + 1) Y pc lc st μ Q := by
  obtain ⟨o, μ1, hr, h1, h2, hMet⟩ := hK
  obtain ⟨y, bts, L, rt, hh0⟩ := Yc
  cases hh
  obtain ⟨m1, m2, m3, m4, m5, m6, w1, w2, w3, w4, w5⟩ := hm
  refine z_goes5 (aa := (Value.ref b :: As).toArray) hr h1 h2 fun p e R s m args below meth c H locs cells slots ls C0 hl hM j1 j2 => ?_
  have hF : va_Fw C x y s := va_Fw.moved ⟨m5.1, m5.2.1⟩ C0.2.1.2 ⟨C0.1.2.2.2 _ w1 rfl, C0.1.2.2.2 _ w2 rfl, C0.1.2.2.2 _ w3 rfl, C0.1.2.2.2 _ w4 rfl, C0.1.2.2.2 _ w5 rfl⟩
  exact vx_runF ((z_kK C0.1 C0.2.1).1 ci _ hc).2 (z_fix C0) (hMet C0.1) (va_cwF n C0.2.2.2.2.2.2.2.2.2.1 (lw_app (List.forall_mem_cons.mpr ⟨hq, List.forall_mem_cons.mpr ⟨m1, List.forall_mem_cons.mpr ⟨m2, List.forall_mem_cons.mpr ⟨m3, fun _ h => absurd h List.not_mem_nil⟩⟩⟩⟩) (lw_meth m4)) rfl rfl rfl hF m5 (z_room C0 m6)) (z_preV C0 hM (Or.inl ⟨ci, fs, T, N, hb, hc⟩)) rfl hn hl.1 hst (z_lroom hW) hd ⟨j1, j2⟩
/-- 'throw' -/
theorem zi_athrow {q9 : Nat} {C : String} (hq : z_isA g μ q9 C) (hn : ∃ (ci : Nat) (fs : List Value), μ.1 q9 = some (.inr (ci, fs))) (hd : decode Y.2.1 pc = .ok (.athrow, 1)) (k : z_X g d Y pc lc q9 μ Q) : z_V g d Y pc lc (.ref q9 :: rest) μ Q := by
  obtain ⟨o', μ', hQ, h1, h2, hD⟩ := k
  refine ⟨o', μ', hQ, h1, h2, ?_⟩
  intro n0 k0 p e R s m args below meth c H locs ls C0 i1 i2 i3 i4 hl hM hL
  obtain ⟨cell, g1, g2, g3⟩ := hq.recv C0.1 C0.2.1 hM
  obtain ⟨ci, fs, hm⟩ := hn
  obtain ⟨-, -, r, h5, cell2, q1, q2, q3, -⟩ := hM.2.2.2 q9 _ hm
  cases g1.symm.trans q1
  exact vx_athrow C0.2.2.1 C0.2.2.2.1 hd (hD rest n0 k0 p e R s m args below meth c H locs ls C _ C0 i1 i2 i3 i4 hl hM hL hq g1 q3 g3)
/-- not caught: a method without handlers -/
theorem zx_out {q9 : Nat} (hh : Y.2.2.2.2 = []) (hQ : Q (.inr q9) μ) : z_X g d Y pc lc q9 μ Q :=
  ⟨.inr q9, μ, hQ, Nat.le_refl _, Nat.le_refl _, fun rest n0 k0 p e R s m args below meth c H locs ls E ce C0 i1 i2 i3 i4 hl hM hL hq hce hcv hcl =>
    vx_out (fun x hx => by rw [C0.2.2.2.2.2.2.2.2.2.2.1, hh] at hx; cases hx) C0.2.2.2.2.2.2.1 hce hcv hcl (fun t ht _ => ⟨rfl, hq, by rw [ht]; exact hM⟩) hL (Nat.le_refl _) (Nat.le_refl _)⟩
/-- caught by the row number i, past rows that name other classes -/
theorem zx_catch {q9 : Nat} {C name : String} (pre : List (Nat × Nat × Nat × Nat)) (x : Nat × Nat × Nat × Nat) (suf : List (Nat × Nat × Nat × Nat)) (hsp : Y.2.2.2.2 = pre ++ x :: suf) (hp : ∀ z ∈ pre, z.2.2.2 ≠ 0 ∧ ∃ nm : String, Cond.classLink Y.1.cls z.2.2.2 nm ∈ lw_all ∧ (z_ok g → va_Nc C nm g.2.1)) (hx : x.1 ≤ pc ∧ pc < x.2.1) (h0 : x.2.2.2 ≠ 0) (hq : Cond.classLink Y.1.cls x.2.2.2 name ∈ lw_all) (hc : C = name) (hr : ∃ (ci : Nat) (fs : List Value) (T : u_T) (N : Nat), μ.1 q9 = some (.inr (ci, fs)) ∧ vwCl[ci]? = some (C, T, N)) (hca : Cond.castable C name ∈ lw_tbl)
    (k : z_V g d Y x.2.2.1 lc [.ref q9] μ Q) : z_X g d Y pc lc q9 μ Q := by
  obtain ⟨o', μ', hQ, h1, h2, hD⟩ := k
  refine ⟨o', μ', hQ, h1, h2, ?_⟩
  intro rest n0 k0 p e R s m args below meth c H locs ls E ce C0 i1 i2 i3 i4 hl hM hL hq9 hce hcv hcl
  have hts := C0.2.2.2.2.2.2.2.2.2.1
  obtain ⟨ci, fs, T, N, hm, hcl0⟩ := hr
  obtain ⟨cell, g1, g2, g3⟩ := z_isA.recv C0.1 C0.2.1 hM (Or.inl ⟨ci, fs, T, N, hm, hcl0⟩ : z_isA g μ q9 C)
  cases g1.symm.trans hce
  have hcov : covers (⟨x.1, x.2.1, x.2.2.1, x.2.2.2⟩ : ExceptionTableEntry) pc = true := by
    simp [covers, hx.1, hx.2]
  exact vx_catch (name := name) C0.2.2.2.2.2.2.2.1 (tableOf pre) ⟨x.1, x.2.1, x.2.2.1, x.2.2.2⟩ (tableOf suf) (by rw [C0.2.2.2.2.2.2.2.2.2.2.1, hsp]; simp [tableOf]) (fun z hz => by
    obtain ⟨z0, hz0, rfl⟩ := List.mem_map.mp hz
    obtain ⟨e1, nm, e2, e3⟩ := hp z0 hz0
    exact Or.inr ⟨e1, nm, hts _ e2, va_Nc.moved C0.2.1.2 (e3 C0.1)⟩) hcov h0 (hts _ hq) (va_Nw.use rfl (C0.2.1.1 _ hca rfl)) hce hcv g3 (hD n0 k0 p e R s m args below meth c H locs ls C0 i1 i2 i3 i4 hl hM hL)
/-- a body: a method without handlers -/
theorem z_K.of {As : List Value} (hy : plainName Y.1.cls = true) (hh : Y.2.2.2.2 = []) (hL : (lg_sl As).length ≤ Y.2.2.1) (k : z_V g d Y 0 (lv_args 0 As) [] μ Q) : z_K g d Y As μ Q := by
  obtain ⟨o, μ', hQ, h1, h2, hD⟩ := k
  refine ⟨o, μ', hQ, h1, h2, fun hok => ?_⟩
  obtain ⟨y, bts, L, rt, hh0⟩ := Y
  cases hh
  refine vx_ofW (cc := bts) (maxL := L) (ret := rt) hy rfl ?_
  intro p e s m args below meth c s₁ B hml htab hv
  obtain ⟨rfl, hE, hM⟩ := hv
  have hts := atoms_spec (ws := z_ws (y, bts, L, rt, [])) B.pre
  have hl := lv_entry As (n := L) hL
  rw [lg_entry_eq]
  have ht : c.exceptionTable.toList = tableOf [] := by
    cases hc : c.exceptionTable.toList with
    | nil => rfl
    | cons a b => exact absurd (htab a (by rw [hc]; exact List.mem_cons_self)) id
  have hW := hD μ.2.1 μ.2.2 p e (z_rm d (μ'.2.1 - μ.2.1) (μ'.2.2 - μ.2.2)) s m As.toArray below meth c s.heap [] _ ⟨hok, hE, B.exec, B.bytes, hml, B.returns, B.notSynchronized, findClass_of_methodNamed B.named, (name_of_methodNamed B.named B.method).1, fun w h => hts w (List.mem_cons_of_mem _ h), ht, Nat.le_refl _, Nat.le_refl _⟩ (Nat.le_refl _) (Nat.le_refl _) (Nat.le_refl _) (Nat.le_refl _) hl hM (fun _ h => absurd h List.not_mem_nil)
  rw [Nat.sub_self, Nat.sub_self] at hW
  exact hW
/-- .. with handlers -/
theorem z_K.ofH {As : List Value} (hy : plainName Y.1.cls = true) (hh : Y.2.2.2.2 ≠ []) (hL : (lg_sl As).length ≤ Y.2.2.1) (k : z_V g d Y 0 (lv_args 0 As) [] μ Q) : z_K g d Y As μ Q := by
  obtain ⟨o, μ', hQ, h1, h2, hD⟩ := k
  refine ⟨o, μ', hQ, h1, h2, fun hok => ?_⟩
  obtain ⟨y, bts, L, rt, _ | ⟨h9, hh0⟩⟩ := Y
  · exact absurd rfl hh
  refine vx_ofWH (cc := bts) (maxL := L) (ret := rt) (hh := h9 :: hh0) hy rfl ?_
  intro p e s m args below meth c s₁ B hml hv
  obtain ⟨rfl, hE, hM⟩ := hv
  have hts := atoms_spec (ws := z_ws (y, bts, L, rt, h9 :: hh0)) B.pre
  have hl := lv_entry As (n := L) hL
  rw [lg_entry_eq]
  have ht : c.exceptionTable.toList = tableOf (h9 :: hh0) := vx_table (x := y) B (hts _ List.mem_cons_self)
  have hW := hD μ.2.1 μ.2.2 p e (z_rm d (μ'.2.1 - μ.2.1) (μ'.2.2 - μ.2.2)) s m As.toArray below meth c s.heap [] _ ⟨hok, hE, B.exec, B.bytes, hml, B.returns, B.notSynchronized, findClass_of_methodNamed B.named, (name_of_methodNamed B.named B.method).1, fun w h => hts w (List.mem_cons_of_mem _ h), ht, Nat.le_refl _, Nat.le_refl _⟩ (Nat.le_refl _) (Nat.le_refl _) (Nat.le_refl _) (Nat.le_refl _) hl hM (fun _ h => absurd h List.not_mem_nil)
  rw [Nat.sub_self, Nat.sub_self] at hW
  exact hW
end ZC
