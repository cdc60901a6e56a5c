/-! THE TWIN's LAW, 22: what comes only appends to the ways -/
set_option maxRecDepth 100000
/-- a message comes -/
def s_comes (N : s_R) (lk : Nat → Option Nat) (m : s_M) (G : s_G) : s_G :=
  if m.1.1 = 0 then s_interest N lk (v_ m.1.2.2.1) (v_ m.1.2.1) m.1.2.2.2.1 m.1.2.2.2.2.1 m.1.2.2.2.2.2.1 G
  else if m.1.1 = 1 then s_dataCome N lk (v_ m.1.2.2.1) (v_ m.1.2.1) m.1.2.2.2.1 m.2 G
  else s_nackComes N lk (v_ m.1.2.2.1) (v_ m.1.2.1) m.1.2.2.2.1 m.1.2.2.2.2.1 m.2 G
def s_apx (op : s_G → s_G) : Prop := ∀ G w, op (g_sways G w) = g_sways (op (g_sways G [])) (w ++ g_ways (op (g_sways G [])))
section T52
variable {N : s_R} {lk : Nat → Option Nat}
theorem s_apx.comp {f g : s_G → s_G} (hf : s_apx f) (hg : s_apx g) : s_apx (fun G => g (f G)) := by
  intro G w
  have e1 := hf G w
  have a := hg (f (g_sways G [])) (w ++ g_ways (f (g_sways G [])))
  have b := hg (f (g_sways G [])) (g_ways (f (g_sways G [])))
  have c : g_sways (f (g_sways G [])) (g_ways (f (g_sways G []))) = f (g_sways G []) := rfl
  rw [c] at b
  show g (f (g_sways G w)) = g_sways (g (f (g_sways G []))) (w ++ g_ways (g (f (g_sways G []))))
  rw [e1, a, b]
  show g_sways _ _ = g_sways (g_sways _ _) (w ++ (g_ways (f (g_sways G [])) ++ _))
  rw [← List.append_assoc]
  rfl
/-- what leaves the ways -/
theorem s_apx.of {f : s_G → s_G} (h : ∀ G w, f (g_sways G w) = g_sways (f (g_sways G [])) w) : s_apx f := by
  intro G w
  have e : g_ways (f (g_sways G [])) = [] := by
    have := h G []
    have := congrArg g_ways this
    exact this
  rw [e, List.append_nil]
  exact h G w
theorem s_apx.ite {f g : s_G → s_G} {c : s_G → Prop} [∀ G, Decidable (c G)] (hc : ∀ G w, c (g_sways G w) ↔ c G) (hf : s_apx f) (hg : s_apx g) : s_apx (fun G => if c G then f G else g G) := by
  intro G w
  show (if c (g_sways G w) then _ else _) = g_sways (if c (g_sways G []) then _ else _) (w ++ g_ways (if c (g_sways G []) then _ else _))
  by_cases q : c G
  · rw [if_pos ((hc G w).mpr q), if_pos ((hc G []).mpr q)]
    exact hf G w
  · rw [if_neg (fun z => q ((hc G w).mp z)), if_neg (fun z => q ((hc G []).mp z))]
    exact hg G w
def s_el {α β : Type} (o : Option α) (d : β) (f : α → β) : β := match o with
  | none => d
  | some a => f a
theorem s_apx.congr {f f' : s_G → s_G} (h : ∀ G, f G = f' G) (hf : s_apx f') : s_apx f := by
  have : f = f' := funext h
  rw [this]
  exact hf
theorem s_apx.opt {α : Type} {o : s_G → Option α} {f : s_G → s_G} {g : α → s_G → s_G} (ho : ∀ G w, o (g_sways G w) = o G) (hf : s_apx f) (hg : ∀ a, s_apx (g a)) : s_apx (fun G => s_el (o G) (f G) (fun a => g a G)) := by
  intro G w
  show s_el (o (g_sways G w)) _ _ = g_sways (s_el (o (g_sways G [])) _ _) (w ++ g_ways (s_el (o (g_sways G [])) _ _))
  rw [ho G w, ho G []]
  cases o G with
  | none => exact hf G w
  | some a => exact hg a G w
/-- what reads the net that runs at its start -/
theorem s_apx.rd {α : Type} {o : s_G → α} {g : α → s_G → s_G} (ho : ∀ G w, o (g_sways G w) = o G) (hg : ∀ a, s_apx (g a)) : s_apx (fun G => g (o G) G) := by
  intro G w
  show g (o (g_sways G w)) _ = g_sways (g (o (g_sways G [])) _) (w ++ g_ways (g (o (g_sways G [])) _))
  rw [ho G w, ho G []]
  exact hg (o G) G w
theorem s_apx.fold {f : Nat → s_G → s_G} (h : ∀ k, s_apx (f k)) : ∀ m k, s_apx (s_fold f k m) := by
  intro m
  induction m with
  | zero => intro k; exact s_apx.of (fun G w => rfl)
  | succ m ih => intro k; exact s_apx.comp (f := f k) (g := s_fold f (k + 1) m) (h k) (ih (k + 1))
theorem s_apx.id : s_apx (fun G => G) := s_apx.of (fun _ _ => rfl)
theorem s_apx_send (kind : Int32) (n to : Nat) (name wish nonce : Int32) (r : s_Q) : s_apx (s_send N lk kind n to name wish nonce r) := by
  refine s_apx.ite (c := fun G => s_up lk (g_down G) n to = true) (fun _ _ => Iff.rfl) ?_ ?_
  · intro G w
    show g_ssent (g_sways G (w ++ _)) _ = g_sways (g_ssent (g_sways G ([] ++ _)) _) (w ++ ([] ++ _))
    rw [List.nil_append]
    rfl
  · exact s_apx.of (fun _ _ => rfl)
theorem s_apx_get (r : s_Q) (k : Nat) : s_apx (s_get r k) := s_apx.of (fun _ _ => rfl)
theorem s_apx_refuse (r : s_Q) (k : Nat) : s_apx (s_refuse r k) := s_apx.of (fun _ _ => rfl)
theorem s_apx_data (n t : Nat) (name : Int32) (r : s_Q) : s_apx (s_data N lk n t name r) :=
  s_apx.ite (c := fun _ => t < 100) (fun _ _ => Iff.rfl) (s_apx_send _ _ _ _ _ _ _) (s_apx_get _ _)
theorem s_apx_nack (n t : Nat) (name wish : Int32) (r : s_Q) : s_apx (s_nack N lk n t name wish r) :=
  s_apx.ite (c := fun _ => t < 100) (fun _ _ => Iff.rfl) (s_apx_send _ _ _ _ _ _ _) (s_apx_refuse _ _)
theorem s_go_el (n i : Nat) (e : s_E) (r : s_Q) (G : s_G) : (s_go N lk n i e r G).2 = s_el (s_way N lk n e G) G (fun to => s_send N lk 0 n to (e_name e) (e_wish e) (e_first e) r (g_ses G n ((g_es G n).set i (s_gone to (g_minute G) e)))) := by
  unfold s_go
  cases s_way N lk n e G <;> rfl
theorem s_apx_go (n i : Nat) (e : s_E) (r : s_Q) : s_apx (fun G => (s_go N lk n i e r G).2) := by
  refine s_apx.congr (fun G => s_go_el n i e r G) ?_
  refine s_apx.opt (o := s_way N lk n e) (f := fun G => G) (g := fun to G => s_send N lk 0 n to (e_name e) (e_wish e) (e_first e) r (g_ses G n ((g_es G n).set i (s_gone to (g_minute G) e)))) (fun _ _ => rfl) s_apx.id (fun to => ?_)
  exact s_apx.comp (f := fun G => g_ses G n ((g_es G n).set i (s_gone to (g_minute G) e))) (s_apx.of (fun _ _ => rfl)) (s_apx_send _ _ _ _ _ _ _)
theorem s_make_el (n t : Nat) (name wish nonce : Int32) (G : s_G) : s_make N lk n t name wish nonce G = s_el (s_way N lk n (s_join t nonce (s_new N name wish nonce G)) G) (s_nack N lk n t name wish (1, 1, nI n, 0) G) (fun to => s_send N lk 0 n to name wish nonce (0, 0, 0, 0) (g_ses G n (g_es G n ++ [s_gone to (g_minute G) (s_join t nonce (s_new N name wish nonce G))]))) := by
  unfold s_make
  cases s_way N lk n (s_join t nonce (s_new N name wish nonce G)) G <;> rfl
theorem s_apx_make (n t : Nat) (name wish nonce : Int32) : s_apx (s_make N lk n t name wish nonce) := by
  refine s_apx.congr (fun G => s_make_el n t name wish nonce G) ?_
  refine s_apx.opt (o := fun G => s_way N lk n (s_join t nonce (s_new N name wish nonce G)) G) (f := s_nack N lk n t name wish (1, 1, nI n, 0)) (g := fun to G => s_send N lk 0 n to name wish nonce (0, 0, 0, 0) (g_ses G n (g_es G n ++ [s_gone to (g_minute G) (s_join t nonce (s_new N name wish nonce G))]))) (fun _ _ => rfl) (s_apx_nack _ _ _ _ _) (fun to => ?_)
  exact s_apx.comp (f := fun G => g_ses G n (g_es G n ++ [s_gone to (g_minute G) (s_join t nonce (s_new N name wish nonce G))])) (s_apx.of (fun _ _ => rfl)) (s_apx_send _ _ _ _ _ _ _)
def s_joined (n t : Nat) (name wish nonce : Int32) (i : Nat) (G : s_G) : s_G := match (g_es G n)[i]? with
  | some e => g_ses (g_sjoined G (g_joined G + 1)) n ((g_es G n).set i (s_join t nonce e))
  | none => G
theorem s_interest_el (n t : Nat) (name wish nonce : Int32) (G : s_G) : s_interest N lk n t name wish nonce G =
    if s_hasL (g_dead G n) nonce = true ∨ s_entryHas (g_es G n) (s_ei name wish (g_es G n)) nonce = true then s_nack N lk n t name wish (1, 2, nI n, 0) (g_sloops G (g_loops G + 1))
    else s_el (s_fresh (g_ds G n) (s_at name (g_ds G n)) wish (g_minute G)) (s_el (s_serve N n (v_ name)) (s_el (s_ei name wish (g_es G n)) (s_make N lk n t name wish nonce G) (fun i => s_joined n t name wish nonce i G)) (fun k => s_fromServer N lk n t k name G)) (fun d => s_fromStore N lk n t name d G) := by
  unfold s_interest s_joined
  split
  · rfl
  · cases s_fresh (g_ds G n) (s_at name (g_ds G n)) wish (g_minute G) with
    | some d => rfl
    | none =>
      cases s_serve N n (v_ name) with
      | some k => rfl
      | none => cases s_ei name wish (g_es G n) <;> rfl
theorem s_apx_joined (n t : Nat) (name wish nonce : Int32) (i : Nat) : s_apx (s_joined n t name wish nonce i) := by
  refine s_apx.of (fun G w => ?_)
  unfold s_joined
  show (match (g_es G n)[i]? with
    | some e => g_ses (g_sjoined (g_sways G w) _) n _
    | none => g_sways G w) = g_sways (match (g_es G n)[i]? with
    | some e => g_ses (g_sjoined (g_sways G []) _) n _
    | none => g_sways G []) w
  cases (g_es G n)[i]? <;> rfl
theorem s_apx_interest (n t : Nat) (name wish nonce : Int32) : s_apx (s_interest N lk n t name wish nonce) := by
  refine s_apx.congr (fun G => s_interest_el n t name wish nonce G) ?_
  refine s_apx.ite (c := fun G => s_hasL (g_dead G n) nonce = true ∨ s_entryHas (g_es G n) (s_ei name wish (g_es G n)) nonce = true) (fun _ _ => Iff.rfl) ?_ ?_
  · exact s_apx.comp (f := fun G => g_sloops G (g_loops G + 1)) (s_apx.of (fun _ _ => rfl)) (s_apx_nack _ _ _ _ _)
  · refine s_apx.opt (o := fun G => s_fresh (g_ds G n) (s_at name (g_ds G n)) wish (g_minute G)) (f := fun G => s_el (s_serve N n (v_ name)) (s_el (s_ei name wish (g_es G n)) (s_make N lk n t name wish nonce G) (fun i => s_joined n t name wish nonce i G)) (fun k => s_fromServer N lk n t k name G)) (g := fun d G => s_fromStore N lk n t name d G) (fun _ _ => rfl) ?_ (fun d => ?_)
    · refine s_apx.opt (o := fun _ => s_serve N n (v_ name)) (f := fun G => s_el (s_ei name wish (g_es G n)) (s_make N lk n t name wish nonce G) (fun i => s_joined n t name wish nonce i G)) (g := fun k G => s_fromServer N lk n t k name G) (fun _ _ => rfl) ?_ (fun k => ?_)
      · exact s_apx.opt (o := fun G => s_ei name wish (g_es G n)) (f := s_make N lk n t name wish nonce) (g := fun i G => s_joined n t name wish nonce i G) (fun _ _ => rfl) (s_apx_make _ _ _ _ _) (fun i => s_apx_joined _ _ _ _ _ _)
      · exact s_apx.rd (o := fun G => g_minute G) (g := fun x G => s_data N lk n t name (x + nI (n_sc N k), nI n, nI n, 0) G) (fun _ _ => rfl) (fun x => s_apx_data _ _ _ _)
    · exact s_apx.comp (f := fun G => g_shits (g_sds G n (s_put (n_room N n) (name, d.2.1, d.2.2) (g_ds G n))) (g_hits G + 1)) (s_apx.of (fun _ _ => rfl)) (s_apx_data _ _ _ _)
theorem s_apx_dataAll (n : Nat) (set name : Int32) (r : s_Q) : s_apx (s_dataAll N lk n set name r) := by
  refine s_apx.fold (f := fun to G => if s_bit set (nI to) = true then s_data N lk n to name r G else G) (fun k => ?_) _ _
  exact s_apx.ite (c := fun _ => s_bit set (nI k) = true) (fun _ _ => Iff.rfl) (s_apx_data _ _ _ _) s_apx.id
theorem s_apx_nackAll (n : Nat) (set name wish : Int32) (r : s_Q) : s_apx (s_nackAll N lk n set name wish r) := by
  refine s_apx.fold (f := fun to G => if s_bit set (nI to) = true then s_nack N lk n to name wish r G else G) (fun k => ?_) _ _
  exact s_apx.ite (c := fun _ => s_bit set (nI k) = true) (fun _ _ => Iff.rfl) (s_apx_nack _ _ _ _ _) s_apx.id
theorem s_apx_getAll (set : Int64) (r : s_Q) : s_apx (s_getAll set r) := by
  refine s_apx.fold (f := fun k G => if s_hasL set (nI k) = true then s_get r k G else G) (fun k => ?_) _ _
  exact s_apx.ite (c := fun _ => s_hasL set (nI k) = true) (fun _ _ => Iff.rfl) (s_apx_get _ _) s_apx.id
theorem s_apx_refuseAll (set : Int64) (r : s_Q) : s_apx (s_refuseAll set r) := by
  refine s_apx.fold (f := fun k G => if s_hasL set (nI k) = true then s_refuse r k G else G) (fun k => ?_) _ _
  exact s_apx.ite (c := fun _ => s_hasL set (nI k) = true) (fun _ _ => Iff.rfl) (s_apx_refuse _ _) s_apx.id
def s_close (n i : Nat) (x : Int64) (G : s_G) : s_G := g_ses (g_sdead G n (g_dead G n ||| x)) n ((g_es (g_sdead G n (g_dead G n ||| x)) n).eraseIdx i)
theorem s_apx_close (n i : Nat) (x : Int64) : s_apx (s_close n i x) := s_apx.of (fun _ _ => rfl)
theorem s_apx_answer (n i : Nat) (e : s_E) (r : s_Q) : s_apx (s_answer N lk n i e r) :=
  s_apx.comp (f := fun G => s_getAll (e_asks e) r (s_dataAll N lk n (e_in e) (e_name e) r G)) (g := s_close n i (e_nonces e)) (s_apx.comp (s_apx_dataAll _ _ _ _) (s_apx_getAll _ _)) (s_apx_close _ _ _)
theorem s_apx_nackOut (n i : Nat) (e : s_E) (name wish : Int32) (r : s_Q) : s_apx (s_nackOut N lk n i e name wish r) :=
  s_apx.comp (f := fun G => s_refuseAll (e_asks e) r (s_nackAll N lk n (e_in e) name wish r G)) (g := s_close n i (e_nonces e)) (s_apx.comp (s_apx_nackAll _ _ _ _ _) (s_apx_refuseAll _ _)) (s_apx_close _ _ _)
theorem s_answerAll_el (n : Nat) (name : Int32) (fresh : Bool) (r : s_Q) (m : Nat) (G : s_G) : s_answerAll N lk n name fresh r (m + 1) G = s_el (match s_ff name fresh (g_es G n) with
    | none => none
    | some i => match (g_es G n)[i]? with
      | none => none
      | some e => some (i, e)) G (fun p => s_answerAll N lk n name fresh r m (s_answer N lk n p.1 p.2 r G)) := by
  show (match s_ff name fresh (g_es G n) with
    | none => G
    | some i => match (g_es G n)[i]? with
      | none => G
      | some e => s_answerAll N lk n name fresh r m (s_answer N lk n i e r G)) = _
  cases s_ff name fresh (g_es G n) with
  | none => rfl
  | some i =>
    show (match (g_es G n)[i]? with
      | none => G
      | some e => s_answerAll N lk n name fresh r m (s_answer N lk n i e r G)) = s_el (match (g_es G n)[i]? with
      | none => none
      | some e => some (i, e)) G _
    cases (g_es G n)[i]? <;> rfl
theorem s_apx_answerAll (n : Nat) (name : Int32) (fresh : Bool) (r : s_Q) : ∀ m, s_apx (s_answerAll N lk n name fresh r m) := by
  intro m
  induction m with
  | zero => exact s_apx.of (fun _ _ => rfl)
  | succ m ih =>
    refine s_apx.congr (fun G => s_answerAll_el n name fresh r m G) ?_
    exact s_apx.opt (o := fun G => match s_ff name fresh (g_es G n) with
      | none => none
      | some i => match (g_es G n)[i]? with
        | none => none
        | some e => some (i, e)) (f := fun G => G) (g := fun p G => s_answerAll N lk n name fresh r m (s_answer N lk n p.1 p.2 r G)) (fun _ _ => rfl) s_apx.id (fun p => s_apx.comp (s_apx_answer _ _ _ _) ih)
/-- the entry at a node that a message is for -/
def s_which (o : Option Nat) (es : List s_E) : Option (Nat × s_E) := match o with
  | none => none
  | some i => match es[i]? with
    | none => none
    | some e => some (i, e)
def s_dataMeas (n fr : Nat) (e : s_E) (G : s_G) : s_G := if e_out e = nI fr then g_smeas G (s_up1 (g_meas G) (6 * n + fr) (g_minute G - e_sent e)) else G
def s_dataKeep (N : s_R) (n : Nat) (name : Int32) (r : s_Q) (G : s_G) : s_G := if 0 < n_room N n then g_sds G n (s_put (n_room N n) (name, r.1, r.2.1) (g_ds G n)) else G
theorem s_dataCome_el (n fr : Nat) (name : Int32) (r : s_Q) (G : s_G) : s_dataCome N lk n fr name r G = (match s_ff name (decide (¬ r.1 < g_minute G)) (g_es G n) with
    | none => g_sdropped G (g_dropped G + 1)
    | some _ => s_el (s_which (s_ff name (decide (¬ r.1 < g_minute G)) (g_es G n)) (g_es G n)) G (fun p => s_answerAll N lk n name (decide (¬ r.1 < g_minute G)) r (g_es (s_dataKeep N n name r (s_dataMeas n fr p.2 G)) n).length (s_dataKeep N n name r (s_dataMeas n fr p.2 G)))) := by
  unfold s_dataCome
  cases s_ff name (decide (¬ r.1 < g_minute G)) (g_es G n) with
  | none => rfl
  | some i =>
    show (match (g_es G n)[i]? with
      | none => _
      | some e => _) = s_el (match (g_es G n)[i]? with
      | none => none
      | some e => some (i, e)) G _
    cases (g_es G n)[i]? <;> rfl
theorem s_apx_dataMeas (n fr : Nat) (e : s_E) : s_apx (s_dataMeas n fr e) := s_apx.ite (c := fun _ => e_out e = nI fr) (fun _ _ => Iff.rfl) (s_apx.of (fun _ _ => rfl)) s_apx.id
theorem s_apx_dataKeep (n : Nat) (name : Int32) (r : s_Q) : s_apx (s_dataKeep N n name r) := s_apx.ite (c := fun _ => 0 < n_room N n) (fun _ _ => Iff.rfl) (s_apx.of (fun _ _ => rfl)) s_apx.id
theorem s_apx_dataCome (n fr : Nat) (name : Int32) (r : s_Q) : s_apx (s_dataCome N lk n fr name r) := by
  refine s_apx.congr (f' := fun G => s_el (s_ff name (decide (¬ r.1 < g_minute G)) (g_es G n)) (g_sdropped G (g_dropped G + 1)) (fun _ => s_el (s_which (s_ff name (decide (¬ r.1 < g_minute G)) (g_es G n)) (g_es G n)) G (fun p => s_answerAll N lk n name (decide (¬ r.1 < g_minute G)) r (g_es (s_dataKeep N n name r (s_dataMeas n fr p.2 G)) n).length (s_dataKeep N n name r (s_dataMeas n fr p.2 G))))) (fun G => ?_) ?_
  · rw [s_dataCome_el]
    cases s_ff name (decide (¬ r.1 < g_minute G)) (g_es G n) <;> rfl
  · refine s_apx.opt (o := fun G => s_ff name (decide (¬ r.1 < g_minute G)) (g_es G n)) (f := fun G => g_sdropped G (g_dropped G + 1)) (g := fun _ G => s_el (s_which (s_ff name (decide (¬ r.1 < g_minute G)) (g_es G n)) (g_es G n)) G (fun p => s_answerAll N lk n name (decide (¬ r.1 < g_minute G)) r (g_es (s_dataKeep N n name r (s_dataMeas n fr p.2 G)) n).length (s_dataKeep N n name r (s_dataMeas n fr p.2 G)))) (fun _ _ => rfl) (s_apx.of (fun _ _ => rfl)) (fun _ => ?_)
    refine s_apx.opt (o := fun G => s_which (s_ff name (decide (¬ r.1 < g_minute G)) (g_es G n)) (g_es G n)) (f := fun G => G) (g := fun p G => s_answerAll N lk n name (decide (¬ r.1 < g_minute G)) r (g_es (s_dataKeep N n name r (s_dataMeas n fr p.2 G)) n).length (s_dataKeep N n name r (s_dataMeas n fr p.2 G))) (fun _ _ => rfl) s_apx.id (fun p => ?_)
    refine s_apx.rd (o := fun G => decide (¬ r.1 < g_minute G)) (g := fun b G => s_answerAll N lk n name b r (g_es (s_dataKeep N n name r (s_dataMeas n fr p.2 G)) n).length (s_dataKeep N n name r (s_dataMeas n fr p.2 G))) (fun _ _ => rfl) (fun b => ?_)
    refine s_apx.comp (f := fun G => s_dataKeep N n name r (s_dataMeas n fr p.2 G)) (g := fun G => s_answerAll N lk n name b r (g_es G n).length G) (s_apx.comp (s_apx_dataMeas _ _ _) (s_apx_dataKeep _ _ _)) ?_
    exact s_apx.rd (o := fun G => (g_es G n).length) (g := fun m G => s_answerAll N lk n name b r m G) (fun _ _ => rfl) (fun m => s_apx_answerAll _ _ _ _ m)
theorem s_nackComes_el (n fr : Nat) (name wish : Int32) (r : s_Q) (G : s_G) : s_nackComes N lk n fr name wish r G = s_el (s_which (s_ei name wish (g_es G n)) (g_es G n)) G (fun p => if e_out p.2 = nI fr then s_el (s_way N lk n p.2 G) (s_nackOut N lk n p.1 p.2 name wish (r.1 + 1, r.2) G) (fun _ => (s_go N lk n p.1 p.2 r G).2) else G) := by
  unfold s_nackComes s_which
  cases s_ei name wish (g_es G n) with
  | none => rfl
  | some i =>
    show (match (g_es G n)[i]? with
      | none => _
      | some e => _) = s_el (match (g_es G n)[i]? with
      | none => none
      | some e => some (i, e)) G _
    cases (g_es G n)[i]? with
    | none => rfl
    | some e =>
      show (if e_out e = nI fr then _ else G) = if e_out e = nI fr then _ else G
      split
      · unfold s_go
        cases s_way N lk n e G <;> rfl
      · rfl
theorem s_apx_nackComes (n fr : Nat) (name wish : Int32) (r : s_Q) : s_apx (s_nackComes N lk n fr name wish r) := by
  refine s_apx.congr (fun G => s_nackComes_el n fr name wish r G) ?_
  refine s_apx.opt (o := fun G => s_which (s_ei name wish (g_es G n)) (g_es G n)) (f := fun G => G) (g := fun p G => if e_out p.2 = nI fr then s_el (s_way N lk n p.2 G) (s_nackOut N lk n p.1 p.2 name wish (r.1 + 1, r.2) G) (fun _ => (s_go N lk n p.1 p.2 r G).2) else G) (fun _ _ => rfl) s_apx.id (fun p => ?_)
  refine s_apx.ite (c := fun _ => e_out p.2 = nI fr) (fun _ _ => Iff.rfl) ?_ s_apx.id
  exact s_apx.opt (o := fun G => s_way N lk n p.2 G) (f := s_nackOut N lk n p.1 p.2 name wish (r.1 + 1, r.2)) (g := fun _ G => (s_go N lk n p.1 p.2 r G).2) (fun _ _ => rfl) (s_apx_nackOut _ _ _ _ _ _) (fun _ => s_apx_go _ _ _ _)
theorem s_apx_comes (m : s_M) : s_apx (s_comes N lk m) :=
  s_apx.ite (c := fun _ => m.1.1 = 0) (fun _ _ => Iff.rfl) (s_apx_interest _ _ _ _ _) (s_apx.ite (c := fun _ => m.1.1 = 1) (fun _ _ => Iff.rfl) (s_apx_dataCome _ _ _ _) (s_apx_nackComes _ _ _ _ _))
end T52
