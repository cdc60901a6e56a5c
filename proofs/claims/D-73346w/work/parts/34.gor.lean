/-! A NET THAT RUNS, PURE (printed by tools/g34.py): its record, and the twin's state that stands for it -/
set_option maxRecDepth 100000
/-- a node: entries, store, dead nonces -/
abbrev s_N : Type := List s_E × List s_D × Int64
/-- a message: kind, from, to, name, wish, nonce, due; a, b, c, d -/
abbrev s_M : Type := (Int32 × Int32 × Int32 × Int32 × Int32 × Int32 × Int32) × (Int32 × Int32 × Int32 × Int32)
abbrev s_G : Type := (Nat → s_N) × (List s_M) × (Int32) × (Int32) × (Nat → Int32) × (Nat → Nat → Int32) × (Int32) × (Int32) × (Int32) × (Int32) × (Int32) × (Int32)
def g_nd (G : s_G) : Nat → s_N := G.1
def g_ways (G : s_G) : List s_M := G.2.1
def g_down (G : s_G) : Int32 := G.2.2.1
def g_minute (G : s_G) : Int32 := G.2.2.2.1
def g_meas (G : s_G) : Nat → Int32 := G.2.2.2.2.1
def g_came (G : s_G) : Nat → Nat → Int32 := G.2.2.2.2.2.1
def g_sent (G : s_G) : Int32 := G.2.2.2.2.2.2.1
def g_hits (G : s_G) : Int32 := G.2.2.2.2.2.2.2.1
def g_joined (G : s_G) : Int32 := G.2.2.2.2.2.2.2.2.1
def g_loops (G : s_G) : Int32 := G.2.2.2.2.2.2.2.2.2.1
def g_dropped (G : s_G) : Int32 := G.2.2.2.2.2.2.2.2.2.2.1
def g_missed (G : s_G) : Int32 := G.2.2.2.2.2.2.2.2.2.2.2
def g_snd (G : s_G) (x : Nat → s_N) : s_G := (x, G.2)
def g_sways (G : s_G) (x : List s_M) : s_G := (G.1, x, G.2.2)
def g_sdown (G : s_G) (x : Int32) : s_G := (G.1, G.2.1, x, G.2.2.2)
def g_sminute (G : s_G) (x : Int32) : s_G := (G.1, G.2.1, G.2.2.1, x, G.2.2.2.2)
def g_smeas (G : s_G) (x : Nat → Int32) : s_G := (G.1, G.2.1, G.2.2.1, G.2.2.2.1, x, G.2.2.2.2.2)
def g_scame (G : s_G) (x : Nat → Nat → Int32) : s_G := (G.1, G.2.1, G.2.2.1, G.2.2.2.1, G.2.2.2.2.1, x, G.2.2.2.2.2.2)
def g_ssent (G : s_G) (x : Int32) : s_G := (G.1, G.2.1, G.2.2.1, G.2.2.2.1, G.2.2.2.2.1, G.2.2.2.2.2.1, x, G.2.2.2.2.2.2.2)
def g_shits (G : s_G) (x : Int32) : s_G := (G.1, G.2.1, G.2.2.1, G.2.2.2.1, G.2.2.2.2.1, G.2.2.2.2.2.1, G.2.2.2.2.2.2.1, x, G.2.2.2.2.2.2.2.2)
def g_sjoined (G : s_G) (x : Int32) : s_G := (G.1, G.2.1, G.2.2.1, G.2.2.2.1, G.2.2.2.2.1, G.2.2.2.2.2.1, G.2.2.2.2.2.2.1, G.2.2.2.2.2.2.2.1, x, G.2.2.2.2.2.2.2.2.2)
def g_sloops (G : s_G) (x : Int32) : s_G := (G.1, G.2.1, G.2.2.1, G.2.2.2.1, G.2.2.2.2.1, G.2.2.2.2.2.1, G.2.2.2.2.2.2.1, G.2.2.2.2.2.2.2.1, G.2.2.2.2.2.2.2.2.1, x, G.2.2.2.2.2.2.2.2.2.2)
def g_sdropped (G : s_G) (x : Int32) : s_G := (G.1, G.2.1, G.2.2.1, G.2.2.2.1, G.2.2.2.2.1, G.2.2.2.2.2.1, G.2.2.2.2.2.2.1, G.2.2.2.2.2.2.2.1, G.2.2.2.2.2.2.2.2.1, G.2.2.2.2.2.2.2.2.2.1, x, G.2.2.2.2.2.2.2.2.2.2.2)
def g_smissed (G : s_G) (x : Int32) : s_G := (G.1, G.2.1, G.2.2.1, G.2.2.2.1, G.2.2.2.2.1, G.2.2.2.2.2.1, G.2.2.2.2.2.2.1, G.2.2.2.2.2.2.2.1, G.2.2.2.2.2.2.2.2.1, G.2.2.2.2.2.2.2.2.2.1, G.2.2.2.2.2.2.2.2.2.2.1, x)
theorem g_nd_snd (G : s_G) (x : Nat → s_N) : g_nd (g_snd G x) = x := rfl
theorem g_ways_snd (G : s_G) (x : Nat → s_N) : g_ways (g_snd G x) = g_ways G := rfl
theorem g_down_snd (G : s_G) (x : Nat → s_N) : g_down (g_snd G x) = g_down G := rfl
theorem g_minute_snd (G : s_G) (x : Nat → s_N) : g_minute (g_snd G x) = g_minute G := rfl
theorem g_meas_snd (G : s_G) (x : Nat → s_N) : g_meas (g_snd G x) = g_meas G := rfl
theorem g_came_snd (G : s_G) (x : Nat → s_N) : g_came (g_snd G x) = g_came G := rfl
theorem g_sent_snd (G : s_G) (x : Nat → s_N) : g_sent (g_snd G x) = g_sent G := rfl
theorem g_hits_snd (G : s_G) (x : Nat → s_N) : g_hits (g_snd G x) = g_hits G := rfl
theorem g_joined_snd (G : s_G) (x : Nat → s_N) : g_joined (g_snd G x) = g_joined G := rfl
theorem g_loops_snd (G : s_G) (x : Nat → s_N) : g_loops (g_snd G x) = g_loops G := rfl
theorem g_dropped_snd (G : s_G) (x : Nat → s_N) : g_dropped (g_snd G x) = g_dropped G := rfl
theorem g_missed_snd (G : s_G) (x : Nat → s_N) : g_missed (g_snd G x) = g_missed G := rfl
theorem g_nd_sways (G : s_G) (x : List s_M) : g_nd (g_sways G x) = g_nd G := rfl
theorem g_ways_sways (G : s_G) (x : List s_M) : g_ways (g_sways G x) = x := rfl
theorem g_down_sways (G : s_G) (x : List s_M) : g_down (g_sways G x) = g_down G := rfl
theorem g_minute_sways (G : s_G) (x : List s_M) : g_minute (g_sways G x) = g_minute G := rfl
theorem g_meas_sways (G : s_G) (x : List s_M) : g_meas (g_sways G x) = g_meas G := rfl
theorem g_came_sways (G : s_G) (x : List s_M) : g_came (g_sways G x) = g_came G := rfl
theorem g_sent_sways (G : s_G) (x : List s_M) : g_sent (g_sways G x) = g_sent G := rfl
theorem g_hits_sways (G : s_G) (x : List s_M) : g_hits (g_sways G x) = g_hits G := rfl
theorem g_joined_sways (G : s_G) (x : List s_M) : g_joined (g_sways G x) = g_joined G := rfl
theorem g_loops_sways (G : s_G) (x : List s_M) : g_loops (g_sways G x) = g_loops G := rfl
theorem g_dropped_sways (G : s_G) (x : List s_M) : g_dropped (g_sways G x) = g_dropped G := rfl
theorem g_missed_sways (G : s_G) (x : List s_M) : g_missed (g_sways G x) = g_missed G := rfl
theorem g_nd_sdown (G : s_G) (x : Int32) : g_nd (g_sdown G x) = g_nd G := rfl
theorem g_ways_sdown (G : s_G) (x : Int32) : g_ways (g_sdown G x) = g_ways G := rfl
theorem g_down_sdown (G : s_G) (x : Int32) : g_down (g_sdown G x) = x := rfl
theorem g_minute_sdown (G : s_G) (x : Int32) : g_minute (g_sdown G x) = g_minute G := rfl
theorem g_meas_sdown (G : s_G) (x : Int32) : g_meas (g_sdown G x) = g_meas G := rfl
theorem g_came_sdown (G : s_G) (x : Int32) : g_came (g_sdown G x) = g_came G := rfl
theorem g_sent_sdown (G : s_G) (x : Int32) : g_sent (g_sdown G x) = g_sent G := rfl
theorem g_hits_sdown (G : s_G) (x : Int32) : g_hits (g_sdown G x) = g_hits G := rfl
theorem g_joined_sdown (G : s_G) (x : Int32) : g_joined (g_sdown G x) = g_joined G := rfl
theorem g_loops_sdown (G : s_G) (x : Int32) : g_loops (g_sdown G x) = g_loops G := rfl
theorem g_dropped_sdown (G : s_G) (x : Int32) : g_dropped (g_sdown G x) = g_dropped G := rfl
theorem g_missed_sdown (G : s_G) (x : Int32) : g_missed (g_sdown G x) = g_missed G := rfl
theorem g_nd_sminute (G : s_G) (x : Int32) : g_nd (g_sminute G x) = g_nd G := rfl
theorem g_ways_sminute (G : s_G) (x : Int32) : g_ways (g_sminute G x) = g_ways G := rfl
theorem g_down_sminute (G : s_G) (x : Int32) : g_down (g_sminute G x) = g_down G := rfl
theorem g_minute_sminute (G : s_G) (x : Int32) : g_minute (g_sminute G x) = x := rfl
theorem g_meas_sminute (G : s_G) (x : Int32) : g_meas (g_sminute G x) = g_meas G := rfl
theorem g_came_sminute (G : s_G) (x : Int32) : g_came (g_sminute G x) = g_came G := rfl
theorem g_sent_sminute (G : s_G) (x : Int32) : g_sent (g_sminute G x) = g_sent G := rfl
theorem g_hits_sminute (G : s_G) (x : Int32) : g_hits (g_sminute G x) = g_hits G := rfl
theorem g_joined_sminute (G : s_G) (x : Int32) : g_joined (g_sminute G x) = g_joined G := rfl
theorem g_loops_sminute (G : s_G) (x : Int32) : g_loops (g_sminute G x) = g_loops G := rfl
theorem g_dropped_sminute (G : s_G) (x : Int32) : g_dropped (g_sminute G x) = g_dropped G := rfl
theorem g_missed_sminute (G : s_G) (x : Int32) : g_missed (g_sminute G x) = g_missed G := rfl
theorem g_nd_smeas (G : s_G) (x : Nat → Int32) : g_nd (g_smeas G x) = g_nd G := rfl
theorem g_ways_smeas (G : s_G) (x : Nat → Int32) : g_ways (g_smeas G x) = g_ways G := rfl
theorem g_down_smeas (G : s_G) (x : Nat → Int32) : g_down (g_smeas G x) = g_down G := rfl
theorem g_minute_smeas (G : s_G) (x : Nat → Int32) : g_minute (g_smeas G x) = g_minute G := rfl
theorem g_meas_smeas (G : s_G) (x : Nat → Int32) : g_meas (g_smeas G x) = x := rfl
theorem g_came_smeas (G : s_G) (x : Nat → Int32) : g_came (g_smeas G x) = g_came G := rfl
theorem g_sent_smeas (G : s_G) (x : Nat → Int32) : g_sent (g_smeas G x) = g_sent G := rfl
theorem g_hits_smeas (G : s_G) (x : Nat → Int32) : g_hits (g_smeas G x) = g_hits G := rfl
theorem g_joined_smeas (G : s_G) (x : Nat → Int32) : g_joined (g_smeas G x) = g_joined G := rfl
theorem g_loops_smeas (G : s_G) (x : Nat → Int32) : g_loops (g_smeas G x) = g_loops G := rfl
theorem g_dropped_smeas (G : s_G) (x : Nat → Int32) : g_dropped (g_smeas G x) = g_dropped G := rfl
theorem g_missed_smeas (G : s_G) (x : Nat → Int32) : g_missed (g_smeas G x) = g_missed G := rfl
theorem g_nd_scame (G : s_G) (x : Nat → Nat → Int32) : g_nd (g_scame G x) = g_nd G := rfl
theorem g_ways_scame (G : s_G) (x : Nat → Nat → Int32) : g_ways (g_scame G x) = g_ways G := rfl
theorem g_down_scame (G : s_G) (x : Nat → Nat → Int32) : g_down (g_scame G x) = g_down G := rfl
theorem g_minute_scame (G : s_G) (x : Nat → Nat → Int32) : g_minute (g_scame G x) = g_minute G := rfl
theorem g_meas_scame (G : s_G) (x : Nat → Nat → Int32) : g_meas (g_scame G x) = g_meas G := rfl
theorem g_came_scame (G : s_G) (x : Nat → Nat → Int32) : g_came (g_scame G x) = x := rfl
theorem g_sent_scame (G : s_G) (x : Nat → Nat → Int32) : g_sent (g_scame G x) = g_sent G := rfl
theorem g_hits_scame (G : s_G) (x : Nat → Nat → Int32) : g_hits (g_scame G x) = g_hits G := rfl
theorem g_joined_scame (G : s_G) (x : Nat → Nat → Int32) : g_joined (g_scame G x) = g_joined G := rfl
theorem g_loops_scame (G : s_G) (x : Nat → Nat → Int32) : g_loops (g_scame G x) = g_loops G := rfl
theorem g_dropped_scame (G : s_G) (x : Nat → Nat → Int32) : g_dropped (g_scame G x) = g_dropped G := rfl
theorem g_missed_scame (G : s_G) (x : Nat → Nat → Int32) : g_missed (g_scame G x) = g_missed G := rfl
theorem g_nd_ssent (G : s_G) (x : Int32) : g_nd (g_ssent G x) = g_nd G := rfl
theorem g_ways_ssent (G : s_G) (x : Int32) : g_ways (g_ssent G x) = g_ways G := rfl
theorem g_down_ssent (G : s_G) (x : Int32) : g_down (g_ssent G x) = g_down G := rfl
theorem g_minute_ssent (G : s_G) (x : Int32) : g_minute (g_ssent G x) = g_minute G := rfl
theorem g_meas_ssent (G : s_G) (x : Int32) : g_meas (g_ssent G x) = g_meas G := rfl
theorem g_came_ssent (G : s_G) (x : Int32) : g_came (g_ssent G x) = g_came G := rfl
theorem g_sent_ssent (G : s_G) (x : Int32) : g_sent (g_ssent G x) = x := rfl
theorem g_hits_ssent (G : s_G) (x : Int32) : g_hits (g_ssent G x) = g_hits G := rfl
theorem g_joined_ssent (G : s_G) (x : Int32) : g_joined (g_ssent G x) = g_joined G := rfl
theorem g_loops_ssent (G : s_G) (x : Int32) : g_loops (g_ssent G x) = g_loops G := rfl
theorem g_dropped_ssent (G : s_G) (x : Int32) : g_dropped (g_ssent G x) = g_dropped G := rfl
theorem g_missed_ssent (G : s_G) (x : Int32) : g_missed (g_ssent G x) = g_missed G := rfl
theorem g_nd_shits (G : s_G) (x : Int32) : g_nd (g_shits G x) = g_nd G := rfl
theorem g_ways_shits (G : s_G) (x : Int32) : g_ways (g_shits G x) = g_ways G := rfl
theorem g_down_shits (G : s_G) (x : Int32) : g_down (g_shits G x) = g_down G := rfl
theorem g_minute_shits (G : s_G) (x : Int32) : g_minute (g_shits G x) = g_minute G := rfl
theorem g_meas_shits (G : s_G) (x : Int32) : g_meas (g_shits G x) = g_meas G := rfl
theorem g_came_shits (G : s_G) (x : Int32) : g_came (g_shits G x) = g_came G := rfl
theorem g_sent_shits (G : s_G) (x : Int32) : g_sent (g_shits G x) = g_sent G := rfl
theorem g_hits_shits (G : s_G) (x : Int32) : g_hits (g_shits G x) = x := rfl
theorem g_joined_shits (G : s_G) (x : Int32) : g_joined (g_shits G x) = g_joined G := rfl
theorem g_loops_shits (G : s_G) (x : Int32) : g_loops (g_shits G x) = g_loops G := rfl
theorem g_dropped_shits (G : s_G) (x : Int32) : g_dropped (g_shits G x) = g_dropped G := rfl
theorem g_missed_shits (G : s_G) (x : Int32) : g_missed (g_shits G x) = g_missed G := rfl
theorem g_nd_sjoined (G : s_G) (x : Int32) : g_nd (g_sjoined G x) = g_nd G := rfl
theorem g_ways_sjoined (G : s_G) (x : Int32) : g_ways (g_sjoined G x) = g_ways G := rfl
theorem g_down_sjoined (G : s_G) (x : Int32) : g_down (g_sjoined G x) = g_down G := rfl
theorem g_minute_sjoined (G : s_G) (x : Int32) : g_minute (g_sjoined G x) = g_minute G := rfl
theorem g_meas_sjoined (G : s_G) (x : Int32) : g_meas (g_sjoined G x) = g_meas G := rfl
theorem g_came_sjoined (G : s_G) (x : Int32) : g_came (g_sjoined G x) = g_came G := rfl
theorem g_sent_sjoined (G : s_G) (x : Int32) : g_sent (g_sjoined G x) = g_sent G := rfl
theorem g_hits_sjoined (G : s_G) (x : Int32) : g_hits (g_sjoined G x) = g_hits G := rfl
theorem g_joined_sjoined (G : s_G) (x : Int32) : g_joined (g_sjoined G x) = x := rfl
theorem g_loops_sjoined (G : s_G) (x : Int32) : g_loops (g_sjoined G x) = g_loops G := rfl
theorem g_dropped_sjoined (G : s_G) (x : Int32) : g_dropped (g_sjoined G x) = g_dropped G := rfl
theorem g_missed_sjoined (G : s_G) (x : Int32) : g_missed (g_sjoined G x) = g_missed G := rfl
theorem g_nd_sloops (G : s_G) (x : Int32) : g_nd (g_sloops G x) = g_nd G := rfl
theorem g_ways_sloops (G : s_G) (x : Int32) : g_ways (g_sloops G x) = g_ways G := rfl
theorem g_down_sloops (G : s_G) (x : Int32) : g_down (g_sloops G x) = g_down G := rfl
theorem g_minute_sloops (G : s_G) (x : Int32) : g_minute (g_sloops G x) = g_minute G := rfl
theorem g_meas_sloops (G : s_G) (x : Int32) : g_meas (g_sloops G x) = g_meas G := rfl
theorem g_came_sloops (G : s_G) (x : Int32) : g_came (g_sloops G x) = g_came G := rfl
theorem g_sent_sloops (G : s_G) (x : Int32) : g_sent (g_sloops G x) = g_sent G := rfl
theorem g_hits_sloops (G : s_G) (x : Int32) : g_hits (g_sloops G x) = g_hits G := rfl
theorem g_joined_sloops (G : s_G) (x : Int32) : g_joined (g_sloops G x) = g_joined G := rfl
theorem g_loops_sloops (G : s_G) (x : Int32) : g_loops (g_sloops G x) = x := rfl
theorem g_dropped_sloops (G : s_G) (x : Int32) : g_dropped (g_sloops G x) = g_dropped G := rfl
theorem g_missed_sloops (G : s_G) (x : Int32) : g_missed (g_sloops G x) = g_missed G := rfl
theorem g_nd_sdropped (G : s_G) (x : Int32) : g_nd (g_sdropped G x) = g_nd G := rfl
theorem g_ways_sdropped (G : s_G) (x : Int32) : g_ways (g_sdropped G x) = g_ways G := rfl
theorem g_down_sdropped (G : s_G) (x : Int32) : g_down (g_sdropped G x) = g_down G := rfl
theorem g_minute_sdropped (G : s_G) (x : Int32) : g_minute (g_sdropped G x) = g_minute G := rfl
theorem g_meas_sdropped (G : s_G) (x : Int32) : g_meas (g_sdropped G x) = g_meas G := rfl
theorem g_came_sdropped (G : s_G) (x : Int32) : g_came (g_sdropped G x) = g_came G := rfl
theorem g_sent_sdropped (G : s_G) (x : Int32) : g_sent (g_sdropped G x) = g_sent G := rfl
theorem g_hits_sdropped (G : s_G) (x : Int32) : g_hits (g_sdropped G x) = g_hits G := rfl
theorem g_joined_sdropped (G : s_G) (x : Int32) : g_joined (g_sdropped G x) = g_joined G := rfl
theorem g_loops_sdropped (G : s_G) (x : Int32) : g_loops (g_sdropped G x) = g_loops G := rfl
theorem g_dropped_sdropped (G : s_G) (x : Int32) : g_dropped (g_sdropped G x) = x := rfl
theorem g_missed_sdropped (G : s_G) (x : Int32) : g_missed (g_sdropped G x) = g_missed G := rfl
theorem g_nd_smissed (G : s_G) (x : Int32) : g_nd (g_smissed G x) = g_nd G := rfl
theorem g_ways_smissed (G : s_G) (x : Int32) : g_ways (g_smissed G x) = g_ways G := rfl
theorem g_down_smissed (G : s_G) (x : Int32) : g_down (g_smissed G x) = g_down G := rfl
theorem g_minute_smissed (G : s_G) (x : Int32) : g_minute (g_smissed G x) = g_minute G := rfl
theorem g_meas_smissed (G : s_G) (x : Int32) : g_meas (g_smissed G x) = g_meas G := rfl
theorem g_came_smissed (G : s_G) (x : Int32) : g_came (g_smissed G x) = g_came G := rfl
theorem g_sent_smissed (G : s_G) (x : Int32) : g_sent (g_smissed G x) = g_sent G := rfl
theorem g_hits_smissed (G : s_G) (x : Int32) : g_hits (g_smissed G x) = g_hits G := rfl
theorem g_joined_smissed (G : s_G) (x : Int32) : g_joined (g_smissed G x) = g_joined G := rfl
theorem g_loops_smissed (G : s_G) (x : Int32) : g_loops (g_smissed G x) = g_loops G := rfl
theorem g_dropped_smissed (G : s_G) (x : Int32) : g_dropped (g_smissed G x) = g_dropped G := rfl
theorem g_missed_smissed (G : s_G) (x : Int32) : g_missed (g_smissed G x) = x := rfl
/-- one place of a function changed -/
def s_up1 {α : Type} (f : Nat → α) (k : Nat) (x : α) : Nat → α := fun j => if j = k then x else f j
theorem s_up1_s {α : Type} {f : Nat → α} {k : Nat} {x : α} : s_up1 f k x k = x := if_pos rfl
theorem s_up1_n {α : Type} {f : Nat → α} {k j : Nat} {x : α} (h : j ≠ k) : s_up1 f k x j = f j := if_neg h
def g_es (G : s_G) (n : Nat) : List s_E := (g_nd G n).1
def g_ds (G : s_G) (n : Nat) : List s_D := (g_nd G n).2.1
def g_dead (G : s_G) (n : Nat) : Int64 := (g_nd G n).2.2
def g_ses (G : s_G) (n : Nat) (es : List s_E) : s_G := g_snd G (s_up1 (g_nd G) n (es, (g_nd G n).2))
def g_sds (G : s_G) (n : Nat) (ds : List s_D) : s_G := g_snd G (s_up1 (g_nd G) n ((g_nd G n).1, ds, (g_nd G n).2.2))
def g_sdead (G : s_G) (n : Nat) (x : Int64) : s_G := g_snd G (s_up1 (g_nd G) n ((g_nd G n).1, (g_nd G n).2.1, x))
def a_m (σ : t_S) (i : Nat) : s_M := ((t_a σ 46 i, t_a σ 47 i, t_a σ 48 i, t_a σ 49 i, t_a σ 50 i, t_a σ 51 i, t_a σ 52 i), (t_a σ 53 i, t_a σ 54 i, t_a σ 55 i, t_a σ 56 i))
/-- two messages alike: what an interest has not counts not -/
def s_like (m m' : s_M) : Prop := m.1 = m'.1 ∧ (m.1.1 = 0 ∨ m.2 = m'.2)
def t_way (σ : t_S) (ws : List s_M) : Prop := t_i σ 45 = nI ws.length ∧ ws.length ≤ 4096 ∧ ∀ i (h : i < ws.length), s_like (a_m σ i) ws[i]
/-- the twin stands for G, on the net N with the links lk -/
def t_rel (σ : t_S) (N : s_R) (lk : Nat → Option Nat) (G : s_G) : Prop :=
  (t_net σ N ∧ t_lk σ lk ∧ t_i σ 23 = N 0 ∧ t_i σ 24 = N 1) ∧ t_i σ 26 = g_down G ∧ t_i σ 27 = g_minute G ∧
  (∀ n, n < 6 → t_es σ n (g_es G n) ∧ t_ds σ n (g_ds G n) ∧ t_l σ 28 n = g_dead G n) ∧ (∀ i, i < 36 → t_a σ 29 i = g_meas G i) ∧ t_way σ (g_ways G) ∧
  (∀ f k, 57 ≤ f → f ≤ 64 → k < 64 → t_a σ f k = g_came G f k) ∧
  t_i σ 65 = g_sent G ∧ t_i σ 66 = g_hits G ∧ t_i σ 67 = g_joined G ∧ t_i σ 68 = g_loops G ∧ t_i σ 69 = g_dropped G ∧ t_i σ 70 = g_missed G
/-- what is not of the run: the rows, the tape and so on stay as they are -/
def t_out (σ σ' : t_S) : Prop := (∀ k, k < 25 ∨ 75 ≤ k → t_i σ' k = t_i σ k) ∧ t_w σ' = t_w σ ∧ ∀ k j, k < 25 ∨ 75 ≤ k → t_a σ' k j = t_a σ k j
