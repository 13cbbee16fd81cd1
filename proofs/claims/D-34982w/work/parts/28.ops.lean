/-! THE PURSE's METHODS, contract by contract (printed by gen_purse.py) -/
set_option maxHeartbeats 4000000 in
set_option maxRecDepth 100000 in
theorem metX1_known {l : Launch} {z : Nat} {E : EE} {M : MM} (hl0 : l.stackTraces = false) (b : Int32) : Kt l yX1_known (ws_ yX1_known cX1_known 1 none) ({ frames := 10, cells := 1, slots := 6, locals := 300 } : Room) z E [.int b] M (pV (fun M' => ¬ b = 0 ∧ M = M')) (fun cn => cn = xIO ∧ b = 0) 1 6 := by
  refine k_body RX1 (by decide) rfl (Nat.le_of_ble_eq_true rfl) ?_
  intro p e s m args below meth c hx hb hr hml hown hlocks hname hno hts hz hG hM hS ls hl
  have hF : CallFix p m c cX1_known 1 s args lw_all RX1 := ⟨hx, hb, hml, hown, hts⟩
  have hl : lv_has ls 1 [(0, .int b)] := hl
  refine lv_iload_n hx hb dX1_known_0 rfl (lv_at hl 0 rfl) ?_
  refine lv_if_ne (tgt := 12) hx hb dX1_known_1 (by decide) (fun c_1 => ?_) (fun c_1 => ?_)
  · exact k_vret hx hb hr hlocks hG hz hM hS (Nat.le_of_ble_eq_true rfl) (Nat.le_of_ble_eq_true rfl) dX1_known_12 ⟨rfl, c_1, rfl⟩
  · exact r_throw (cls := xIO) hl0 hF hG hz hM hS hl.1 (by decide +kernel) q296 q31 wOk_io (by decide +kernel) dX1_known_4 dX1_known_7 dX1_known_8 dX1_known_11 hno (Nat.le_of_ble_eq_true rfl) (Nat.le_of_ble_eq_true rfl) (Nat.le_of_ble_eq_true rfl) (Nat.le_of_ble_eq_true rfl) hlocks ⟨rfl, c_1⟩ (Nat.le_of_ble_eq_true rfl) (Nat.le_of_ble_eq_true rfl)
set_option maxHeartbeats 4000000 in
set_option maxRecDepth 100000 in
theorem metX1_check {l : Launch} {z : Nat} {E : EE} {M : MM} (hl0 : l.stackTraces = false) (b : Int32) : Kt l yX1_check (ws_ yX1_check cX1_check 1 none) ({ frames := 10, cells := 1, slots := 6, locals := 300 } : Room) z E [.int b] M (pV (fun M' => ¬ b = 0 ∧ M = M')) (fun cn => cn = xIA ∧ b = 0) 1 6 := by
  refine k_body RX1 (by decide) rfl (Nat.le_of_ble_eq_true rfl) ?_
  intro p e s m args below meth c hx hb hr hml hown hlocks hname hno hts hz hG hM hS ls hl
  have hF : CallFix p m c cX1_check 1 s args lw_all RX1 := ⟨hx, hb, hml, hown, hts⟩
  have hl : lv_has ls 1 [(0, .int b)] := hl
  refine lv_iload_n hx hb dX1_check_0 rfl (lv_at hl 0 rfl) ?_
  refine lv_if_ne (tgt := 12) hx hb dX1_check_1 (by decide) (fun c_1 => ?_) (fun c_1 => ?_)
  · exact k_vret hx hb hr hlocks hG hz hM hS (Nat.le_of_ble_eq_true rfl) (Nat.le_of_ble_eq_true rfl) dX1_check_12 ⟨rfl, c_1, rfl⟩
  · exact r_throw (cls := xIA) hl0 hF hG hz hM hS hl.1 (by decide +kernel) q364 q37 wOk_ia (by decide +kernel) dX1_check_4 dX1_check_7 dX1_check_8 dX1_check_11 hno (Nat.le_of_ble_eq_true rfl) (Nat.le_of_ble_eq_true rfl) (Nat.le_of_ble_eq_true rfl) (Nat.le_of_ble_eq_true rfl) hlocks ⟨rfl, c_1⟩ (Nat.le_of_ble_eq_true rfl) (Nat.le_of_ble_eq_true rfl)
set_option maxHeartbeats 4000000 in
set_option maxRecDepth 100000 in
theorem metX1_checkState {l : Launch} {z : Nat} {E : EE} {M : MM} (hl0 : l.stackTraces = false) (b : Int32) : Kt l yX1_checkState (ws_ yX1_checkState cX1_checkState 1 none) ({ frames := 10, cells := 1, slots := 6, locals := 300 } : Room) z E [.int b] M (pV (fun M' => ¬ b = 0 ∧ M = M')) (fun cn => cn = xIS ∧ b = 0) 1 6 := by
  refine k_body RX1 (by decide) rfl (Nat.le_of_ble_eq_true rfl) ?_
  intro p e s m args below meth c hx hb hr hml hown hlocks hname hno hts hz hG hM hS ls hl
  have hF : CallFix p m c cX1_checkState 1 s args lw_all RX1 := ⟨hx, hb, hml, hown, hts⟩
  have hl : lv_has ls 1 [(0, .int b)] := hl
  refine lv_iload_n hx hb dX1_checkState_0 rfl (lv_at hl 0 rfl) ?_
  refine lv_if_ne (tgt := 12) hx hb dX1_checkState_1 (by decide) (fun c_1 => ?_) (fun c_1 => ?_)
  · exact k_vret hx hb hr hlocks hG hz hM hS (Nat.le_of_ble_eq_true rfl) (Nat.le_of_ble_eq_true rfl) dX1_checkState_12 ⟨rfl, c_1, rfl⟩
  · exact r_throw (cls := xIS) hl0 hF hG hz hM hS hl.1 (by decide +kernel) q334 q36 wOk_is (by decide +kernel) dX1_checkState_4 dX1_checkState_7 dX1_checkState_8 dX1_checkState_11 hno (Nat.le_of_ble_eq_true rfl) (Nat.le_of_ble_eq_true rfl) (Nat.le_of_ble_eq_true rfl) (Nat.le_of_ble_eq_true rfl) hlocks ⟨rfl, c_1⟩ (Nat.le_of_ble_eq_true rfl) (Nat.le_of_ble_eq_true rfl)
set_option maxHeartbeats 4000000 in
set_option maxRecDepth 100000 in
theorem metX1_isBetween {l : Launch} {z : Nat} {E : EE} {M : MM} (a b d : Int32) : Kt l yX1_isBetween (ws_ yX1_isBetween cX1_isBetween 3 (some .boolean)) ({ frames := 10, cells := 0, slots := 0, locals := 300 } : Room) z E [.int a, .int b, .int d] M (pI (fun r M' => bRes (inR a b d) r ∧ M = M')) xNo 0 0 := by
  refine k_body RX1 (by decide) rfl (Nat.le_of_ble_eq_true rfl) ?_
  intro p e s m args below meth c hx hb hr hml hown hlocks hname hno hts hz hG hM hS ls hl
  have hF : CallFix p m c cX1_isBetween 3 s args lw_all RX1 := ⟨hx, hb, hml, hown, hts⟩
  have hl : lv_has ls 3 [(0, .int a), (1, .int b), (2, .int d)] := hl
  refine lv_iload_n hx hb dX1_isBetween_0 rfl (lv_at hl 0 rfl) ?_
  refine lv_iload_n hx hb dX1_isBetween_1 rfl (lv_at hl 1 rfl) ?_
  refine lv_icmp_lt (tgt := 14) hx hb dX1_isBetween_2 (by decide) (fun c_1 => ?_) (fun c_1 => ?_)
  · have c_1B := Int32.not_le.mpr c_1
    refine lv_iconst (v := 0) hx hb dX1_isBetween_14 (by decide) ?_
    exact k_iret hx hb hr rfl hlocks hG hz hM hS (Nat.le_of_ble_eq_true rfl) (Nat.le_of_ble_eq_true rfl) dX1_isBetween_15 ⟨_, rfl, Or.inr ⟨inR_f1 c_1, rfl⟩, rfl⟩
  · have c_1B := Int32.not_lt.mp c_1
    refine lv_iload_n hx hb dX1_isBetween_5 rfl (lv_at hl 0 rfl) ?_
    refine lv_iload_n hx hb dX1_isBetween_6 rfl (lv_at hl 2 rfl) ?_
    refine lv_icmp_gt (tgt := 14) hx hb dX1_isBetween_7 (by decide) (fun c_2 => ?_) (fun c_2 => ?_)
    · have c_2B := Int32.not_le.mpr c_2
      refine lv_iconst (v := 0) hx hb dX1_isBetween_14 (by decide) ?_
      exact k_iret hx hb hr rfl hlocks hG hz hM hS (Nat.le_of_ble_eq_true rfl) (Nat.le_of_ble_eq_true rfl) dX1_isBetween_15 ⟨_, rfl, Or.inr ⟨inR_f2 c_1 c_2, rfl⟩, rfl⟩
    · have c_2B := Int32.not_lt.mp c_2
      refine lv_iconst (v := 1) hx hb dX1_isBetween_10 (by decide) ?_
      refine lv_goto (tgt := 15) hx hb dX1_isBetween_11 (by decide) ?_
      exact k_iret hx hb hr rfl hlocks hG hz hM hS (Nat.le_of_ble_eq_true rfl) (Nat.le_of_ble_eq_true rfl) dX1_isBetween_15 ⟨_, rfl, Or.inl ⟨inR_t c_1 c_2, rfl⟩, rfl⟩
set_option maxHeartbeats 4000000 in
set_option maxRecDepth 100000 in
theorem metX1_knownPerson {l : Launch} {z : Nat} {E : EE} {M : MM} (hl0 : l.stackTraces = false) (v : Int32) : Kt l yX1_knownPerson (ws_ yX1_knownPerson cX1_knownPerson 1 none) ({ frames := 20, cells := 1, slots := 6, locals := 600 } : Room) z E [.int v] M (pV (fun M' => inR v 0 4 = true ∧ M = M')) (fun cn => cn = xIO ∧ inR v 0 4 = false) 1 6 := by
  refine k_body RX1 (by decide) rfl (Nat.le_of_ble_eq_true rfl) ?_
  intro p e s m args below meth c hx hb hr hml hown hlocks hname hno hts hz hG hM hS ls hl
  have hF : CallFix p m c cX1_knownPerson 1 s args lw_all RX1 := ⟨hx, hb, hml, hown, hts⟩
  have hl : lv_has ls 1 [(0, .int v)] := hl
  refine lv_iload_n hx hb dX1_knownPerson_0 rfl (lv_at hl 0 rfl) ?_
  refine lv_iconst (v := 0) hx hb dX1_knownPerson_1 (by decide) ?_
  refine lv_iconst (v := 4) hx hb dX1_knownPerson_2 (by decide) ?_
  refine kS (k9 := 0) (n9 := 0) hF hG hz hM hS [.int v, .int 0, .int 4] [] (metX1_isBetween v (0 : Int32) (4 : Int32)) (va_cwS 3 hts (lw_S q358 q359 q18 q360) rfl rfl rfl (by decide +kernel) ⟨(Nat.le_of_ble_eq_true rfl), (Nat.le_of_ble_eq_true rfl)⟩) rfl hl.1 rfl (Nat.le_of_ble_eq_true rfl) dX1_knownPerson_3 rfl rfl (Nat.le_of_ble_eq_true rfl) (Nat.le_of_ble_eq_true rfl) (fun _ _ _ _ _ h9 _ _ _ _ _ => h9.elim) (fun v9 M9_1 H locs hp9 hM9_1 hS => ?_)
  obtain ⟨r_1, rfl, b_2, rfl⟩ := hp9
  have hM := hM9_1
  rcases b_2 with ⟨b_2, rfl⟩ | ⟨b_2, rfl⟩
  · refine W.eq (g2 := F0 m 6 ls [.int 1]) rfl ?_
    refine kS (k9 := 1) (n9 := 6) hF hG hz hM hS [.int 1] [] (metX1_known hl0 1) (va_cwS 1 hts (lw_S q293 q294 q18 q295) rfl rfl rfl (by decide +kernel) ⟨(Nat.le_of_ble_eq_true rfl), (Nat.le_of_ble_eq_true rfl)⟩) rfl hl.1 rfl (Nat.le_of_ble_eq_true rfl) dX1_knownPerson_6 rfl rfl (Nat.le_of_ble_eq_true rfl) (Nat.le_of_ble_eq_true rfl) (fun cn ce q9 H locs hx9 hM hS hc1 hc2 hc3 => absurd hx9.2 (by decide)) (fun v9 M9_2 H locs hp9 hM9_2 hS => ?_)
    obtain ⟨rfl, -, rfl⟩ := hp9
    have hM := hM9_2
    refine W.eq (g2 := F0 m 9 ls []) rfl ?_
    exact k_vret hx hb hr hlocks hG hz hM hS (Nat.le_of_ble_eq_true rfl) (Nat.le_of_ble_eq_true rfl) dX1_knownPerson_9 ⟨rfl, b_2, rfl⟩
  · refine W.eq (g2 := F0 m 6 ls [.int 0]) rfl ?_
    refine kS (k9 := 1) (n9 := 6) hF hG hz hM hS [.int 0] [] (metX1_known hl0 0) (va_cwS 1 hts (lw_S q293 q294 q18 q295) rfl rfl rfl (by decide +kernel) ⟨(Nat.le_of_ble_eq_true rfl), (Nat.le_of_ble_eq_true rfl)⟩) rfl hl.1 rfl (Nat.le_of_ble_eq_true rfl) dX1_knownPerson_6 rfl rfl (Nat.le_of_ble_eq_true rfl) (Nat.le_of_ble_eq_true rfl) (fun cx9 ce9 q9 H locs hx9 hM hS hc1 hc2 hc3 => k_out hno hlocks hG hz hM hS hc1 hc2 hc3 ⟨hx9.1, b_2⟩ (Nat.le_of_ble_eq_true rfl) (Nat.le_of_ble_eq_true rfl)) (fun v9 M9_3 H locs hp9 hM9_3 hS => ?_)
    exact absurd rfl hp9.2.1
set_option maxHeartbeats 4000000 in
set_option maxRecDepth 100000 in
theorem metX1_checkAmount {l : Launch} {z : Nat} {E : EE} {M : MM} (hl0 : l.stackTraces = false) (v : Int32) : Kt l yX1_checkAmount (ws_ yX1_checkAmount cX1_checkAmount 1 none) ({ frames := 20, cells := 1, slots := 6, locals := 600 } : Room) z E [.int v] M (pV (fun M' => inR v 1 cMost = true ∧ M = M')) (fun cn => cn = xIA ∧ inR v 1 cMost = false) 1 6 := by
  refine k_body RX1 (by decide) rfl (Nat.le_of_ble_eq_true rfl) ?_
  intro p e s m args below meth c hx hb hr hml hown hlocks hname hno hts hz hG hM hS ls hl
  have hF : CallFix p m c cX1_checkAmount 1 s args lw_all RX1 := ⟨hx, hb, hml, hown, hts⟩
  have hl : lv_has ls 1 [(0, .int v)] := hl
  refine lv_iload_n hx hb dX1_checkAmount_0 rfl (lv_at hl 0 rfl) ?_
  refine lv_iconst (v := 1) hx hb dX1_checkAmount_1 (by decide) ?_
  refine lv_ldc (v := 1000000) hx hb hown (hts _ q382) dX1_checkAmount_2 ?_
  refine kS (k9 := 0) (n9 := 0) hF hG hz hM hS [.int v, .int 1, .int 1000000] [] (metX1_isBetween v (1 : Int32) (1000000 : Int32)) (va_cwS 3 hts (lw_S q358 q359 q18 q360) rfl rfl rfl (by decide +kernel) ⟨(Nat.le_of_ble_eq_true rfl), (Nat.le_of_ble_eq_true rfl)⟩) rfl hl.1 rfl (Nat.le_of_ble_eq_true rfl) dX1_checkAmount_4 rfl rfl (Nat.le_of_ble_eq_true rfl) (Nat.le_of_ble_eq_true rfl) (fun _ _ _ _ _ h9 _ _ _ _ _ => h9.elim) (fun v9 M9_1 H locs hp9 hM9_1 hS => ?_)
  obtain ⟨r_1, rfl, b_2, rfl⟩ := hp9
  have hM := hM9_1
  rcases b_2 with ⟨b_2, rfl⟩ | ⟨b_2, rfl⟩
  · refine W.eq (g2 := F0 m 7 ls [.int 1]) rfl ?_
    refine kS (k9 := 1) (n9 := 6) hF hG hz hM hS [.int 1] [] (metX1_check hl0 1) (va_cwS 1 hts (lw_S q361 q362 q18 q363) rfl rfl rfl (by decide +kernel) ⟨(Nat.le_of_ble_eq_true rfl), (Nat.le_of_ble_eq_true rfl)⟩) rfl hl.1 rfl (Nat.le_of_ble_eq_true rfl) dX1_checkAmount_7 rfl rfl (Nat.le_of_ble_eq_true rfl) (Nat.le_of_ble_eq_true rfl) (fun cn ce q9 H locs hx9 hM hS hc1 hc2 hc3 => absurd hx9.2 (by decide)) (fun v9 M9_2 H locs hp9 hM9_2 hS => ?_)
    obtain ⟨rfl, -, rfl⟩ := hp9
    have hM := hM9_2
    refine W.eq (g2 := F0 m 10 ls []) rfl ?_
    exact k_vret hx hb hr hlocks hG hz hM hS (Nat.le_of_ble_eq_true rfl) (Nat.le_of_ble_eq_true rfl) dX1_checkAmount_10 ⟨rfl, b_2, rfl⟩
  · refine W.eq (g2 := F0 m 7 ls [.int 0]) rfl ?_
    refine kS (k9 := 1) (n9 := 6) hF hG hz hM hS [.int 0] [] (metX1_check hl0 0) (va_cwS 1 hts (lw_S q361 q362 q18 q363) rfl rfl rfl (by decide +kernel) ⟨(Nat.le_of_ble_eq_true rfl), (Nat.le_of_ble_eq_true rfl)⟩) rfl hl.1 rfl (Nat.le_of_ble_eq_true rfl) dX1_checkAmount_7 rfl rfl (Nat.le_of_ble_eq_true rfl) (Nat.le_of_ble_eq_true rfl) (fun cx9 ce9 q9 H locs hx9 hM hS hc1 hc2 hc3 => k_out hno hlocks hG hz hM hS hc1 hc2 hc3 ⟨hx9.1, b_2⟩ (Nat.le_of_ble_eq_true rfl) (Nat.le_of_ble_eq_true rfl)) (fun v9 M9_3 H locs hp9 hM9_3 hS => ?_)
    exact absurd rfl hp9.2.1
set_option maxHeartbeats 4000000 in
set_option maxRecDepth 100000 in
theorem metX1_checkPeriod {l : Launch} {z : Nat} {E : EE} {M : MM} (hl0 : l.stackTraces = false) (v : Int32) : Kt l yX1_checkPeriod (ws_ yX1_checkPeriod cX1_checkPeriod 1 none) ({ frames := 20, cells := 1, slots := 6, locals := 600 } : Room) z E [.int v] M (pV (fun M' => inR v 0 12 = true ∧ M = M')) (fun cn => cn = xIA ∧ inR v 0 12 = false) 1 6 := by
  refine k_body RX1 (by decide) rfl (Nat.le_of_ble_eq_true rfl) ?_
  intro p e s m args below meth c hx hb hr hml hown hlocks hname hno hts hz hG hM hS ls hl
  have hF : CallFix p m c cX1_checkPeriod 1 s args lw_all RX1 := ⟨hx, hb, hml, hown, hts⟩
  have hl : lv_has ls 1 [(0, .int v)] := hl
  refine lv_iload_n hx hb dX1_checkPeriod_0 rfl (lv_at hl 0 rfl) ?_
  refine lv_iconst (v := 0) hx hb dX1_checkPeriod_1 (by decide) ?_
  refine lv_bipush (v := 12) hx hb dX1_checkPeriod_2 (by decide) ?_
  refine kS (k9 := 0) (n9 := 0) hF hG hz hM hS [.int v, .int 0, .int 12] [] (metX1_isBetween v (0 : Int32) (12 : Int32)) (va_cwS 3 hts (lw_S q358 q359 q18 q360) rfl rfl rfl (by decide +kernel) ⟨(Nat.le_of_ble_eq_true rfl), (Nat.le_of_ble_eq_true rfl)⟩) rfl hl.1 rfl (Nat.le_of_ble_eq_true rfl) dX1_checkPeriod_4 rfl rfl (Nat.le_of_ble_eq_true rfl) (Nat.le_of_ble_eq_true rfl) (fun _ _ _ _ _ h9 _ _ _ _ _ => h9.elim) (fun v9 M9_1 H locs hp9 hM9_1 hS => ?_)
  obtain ⟨r_1, rfl, b_2, rfl⟩ := hp9
  have hM := hM9_1
  rcases b_2 with ⟨b_2, rfl⟩ | ⟨b_2, rfl⟩
  · refine W.eq (g2 := F0 m 7 ls [.int 1]) rfl ?_
    refine kS (k9 := 1) (n9 := 6) hF hG hz hM hS [.int 1] [] (metX1_check hl0 1) (va_cwS 1 hts (lw_S q361 q362 q18 q363) rfl rfl rfl (by decide +kernel) ⟨(Nat.le_of_ble_eq_true rfl), (Nat.le_of_ble_eq_true rfl)⟩) rfl hl.1 rfl (Nat.le_of_ble_eq_true rfl) dX1_checkPeriod_7 rfl rfl (Nat.le_of_ble_eq_true rfl) (Nat.le_of_ble_eq_true rfl) (fun cn ce q9 H locs hx9 hM hS hc1 hc2 hc3 => absurd hx9.2 (by decide)) (fun v9 M9_2 H locs hp9 hM9_2 hS => ?_)
    obtain ⟨rfl, -, rfl⟩ := hp9
    have hM := hM9_2
    refine W.eq (g2 := F0 m 10 ls []) rfl ?_
    exact k_vret hx hb hr hlocks hG hz hM hS (Nat.le_of_ble_eq_true rfl) (Nat.le_of_ble_eq_true rfl) dX1_checkPeriod_10 ⟨rfl, b_2, rfl⟩
  · refine W.eq (g2 := F0 m 7 ls [.int 0]) rfl ?_
    refine kS (k9 := 1) (n9 := 6) hF hG hz hM hS [.int 0] [] (metX1_check hl0 0) (va_cwS 1 hts (lw_S q361 q362 q18 q363) rfl rfl rfl (by decide +kernel) ⟨(Nat.le_of_ble_eq_true rfl), (Nat.le_of_ble_eq_true rfl)⟩) rfl hl.1 rfl (Nat.le_of_ble_eq_true rfl) dX1_checkPeriod_7 rfl rfl (Nat.le_of_ble_eq_true rfl) (Nat.le_of_ble_eq_true rfl) (fun cx9 ce9 q9 H locs hx9 hM hS hc1 hc2 hc3 => k_out hno hlocks hG hz hM hS hc1 hc2 hc3 ⟨hx9.1, b_2⟩ (Nat.le_of_ble_eq_true rfl) (Nat.le_of_ble_eq_true rfl)) (fun v9 M9_3 H locs hp9 hM9_3 hS => ?_)
    exact absurd rfl hp9.2.1
set_option maxHeartbeats 4000000 in
set_option maxRecDepth 100000 in
theorem metX1_at {l : Launch} {z : Nat} {E : EE} {M : MM} (hl0 : l.stackTraces = false) {u0 : Nat} {la : Nat → Nat} {el : Nat → Nat → Nat} {K : Kp} {cn : Nat → Nat} {lim : Int32} {ar : Nat → Nat → Int32} (hPp : PicP E M u0 la el K cn lim ar) (i : Nat) (hi : i < 4) (hi2 : cn i < 2 ^ 31) (v : Int32) : Kt l yX1_at (ws_ yX1_at cX1_at 2 (some (.object "java/lang/Object"))) ({ frames := 40, cells := 1, slots := 6, locals := 1200 } : Room) z E [.ref (la i), .int v] M (pA (fun r M' => ∃ j, j < cn i ∧ v = nI j ∧ r = el i j ∧ M = M')) (fun cx => cx = xIO ∧ inB (cn i) v = false) 1 6 := by
  refine k_body RX1 (by decide) rfl (Nat.le_of_ble_eq_true rfl) ?_
  intro p e s m args below meth c hx hb hr hml hown hlocks hname hno hts hz hG hM hS ls hl
  have hF : CallFix p m c cX1_at 2 s args lw_all RX1 := ⟨hx, hb, hml, hown, hts⟩
  have hl : lv_has ls 2 [(0, .ref (la i)), (1, .int v)] := hl
  refine lv_iload_n hx hb dX1_at_0 rfl (lv_at hl 1 rfl) ?_
  refine lv_if_lt (tgt := 16) hx hb dX1_at_1 (by decide) (fun c_1 => ?_) (fun c_1 => ?_)
  · have c_1B := Int32.not_le.mpr c_1
    refine lv_iconst (v := 0) hx hb dX1_at_16 (by decide) ?_
    have hb0 : inB (cn i) v = false := inB_n hi2 c_1
    refine kS (k9 := 1) (n9 := 6) hF hG hz hM hS [.int 0] [] (metX1_known hl0 0) (va_cwS 1 hts (lw_S q293 q294 q18 q295) rfl rfl rfl (by decide +kernel) ⟨(Nat.le_of_ble_eq_true rfl), (Nat.le_of_ble_eq_true rfl)⟩) rfl hl.1 rfl (Nat.le_of_ble_eq_true rfl) dX1_at_17 rfl rfl (Nat.le_of_ble_eq_true rfl) (Nat.le_of_ble_eq_true rfl) (fun cx9 ce9 q9 H locs hx9 hM hS hc1 hc2 hc3 => k_out hno hlocks hG hz hM hS hc1 hc2 hc3 ⟨hx9.1, hb0⟩ (Nat.le_of_ble_eq_true rfl) (Nat.le_of_ble_eq_true rfl)) (fun v9 M9_1 H locs hp9 hM9_1 hS => ?_)
    exact absurd rfl hp9.2.1
  · have c_1B := Int32.not_lt.mp c_1
    refine lv_iload_n hx hb dX1_at_4 rfl (lv_at hl 1 rfl) ?_
    refine lv_aload_n hx hb dX1_at_5 rfl (lv_at hl 0 rfl) ?_
    refine kV (k9 := 0) (n9 := 0) hF hG hz hM hS [] [.int v] (metJ2_size (cap := 0) (g := fun _ => none) (hPp.li i hi)) (cwV 0 hts (lw_V q201 q202 q203 q21 q204) rfl rfl rfl (by decide +kernel) ⟨(Nat.le_of_ble_eq_true rfl), (Nat.le_of_ble_eq_true rfl)⟩) (k_recv hG hM (hPp.li i hi) (ci := 6) rfl) rfl hl.1 rfl (Nat.le_of_ble_eq_true rfl) dX1_at_6 rfl rfl (Nat.le_of_ble_eq_true rfl) (Nat.le_of_ble_eq_true rfl) (fun _ _ _ _ _ h9 _ _ _ _ _ => h9.elim) (fun v9 M9_2 H locs hp9 hM9_2 hS => ?_)
    obtain ⟨r_2, rfl, r_2_e, rfl⟩ := hp9
    have hM := hM9_2
    subst r_2_e
    refine W.eq (g2 := F0 m 9 ls [.int (nI (cn i)), .int v]) rfl ?_
    refine lv_icmp_ge (tgt := 16) hx hb dX1_at_9 (by decide) (fun c_3 => ?_) (fun c_3 => ?_)
    · have c_3B := Int32.not_lt.mpr c_3
      refine lv_iconst (v := 0) hx hb dX1_at_16 (by decide) ?_
      have hb0 : inB (cn i) v = false := inB_b hi2 c_3
      refine kS (k9 := 1) (n9 := 6) hF hG hz hM hS [.int 0] [] (metX1_known hl0 0) (va_cwS 1 hts (lw_S q293 q294 q18 q295) rfl rfl rfl (by decide +kernel) ⟨(Nat.le_of_ble_eq_true rfl), (Nat.le_of_ble_eq_true rfl)⟩) rfl hl.1 rfl (Nat.le_of_ble_eq_true rfl) dX1_at_17 rfl rfl (Nat.le_of_ble_eq_true rfl) (Nat.le_of_ble_eq_true rfl) (fun cx9 ce9 q9 H locs hx9 hM hS hc1 hc2 hc3 => k_out hno hlocks hG hz hM hS hc1 hc2 hc3 ⟨hx9.1, hb0⟩ (Nat.le_of_ble_eq_true rfl) (Nat.le_of_ble_eq_true rfl)) (fun v9 M9_3 H locs hp9 hM9_3 hS => ?_)
      exact absurd rfl hp9.2.1
    · have c_3B := Int32.not_le.mp c_3
      refine lv_iconst (v := 1) hx hb dX1_at_12 (by decide) ?_
      refine lv_goto (tgt := 17) hx hb dX1_at_13 (by decide) ?_
      have hb1 : inB (cn i) v = true := inB_y hi2 c_1 c_3
      obtain ⟨j, hj, rfl⟩ := inB_ex hb1 hi2
      refine kS (k9 := 1) (n9 := 6) hF hG hz hM hS [.int 1] [] (metX1_known hl0 1) (va_cwS 1 hts (lw_S q293 q294 q18 q295) rfl rfl rfl (by decide +kernel) ⟨(Nat.le_of_ble_eq_true rfl), (Nat.le_of_ble_eq_true rfl)⟩) rfl hl.1 rfl (Nat.le_of_ble_eq_true rfl) dX1_at_17 rfl rfl (Nat.le_of_ble_eq_true rfl) (Nat.le_of_ble_eq_true rfl) (fun cn ce q9 H locs hx9 hM hS hc1 hc2 hc3 => absurd hx9.2 (by decide)) (fun v9 M9_4 H locs hp9 hM9_4 hS => ?_)
      obtain ⟨rfl, -, rfl⟩ := hp9
      have hM := hM9_4
      refine W.eq (g2 := F0 m 20 ls []) rfl ?_
      refine lv_aload_n hx hb dX1_at_20 rfl (lv_at hl 0 rfl) ?_
      refine lv_iload_n hx hb dX1_at_21 rfl (lv_at hl 1 rfl) ?_
      have g_4 : j < (cn i) := by omega
      refine kV (k9 := 1) (n9 := 6) hF hG hz hM hS [.int (nI j)] [] (metJ2_get (hPp.li i hi) (hPp.dat i hi g_4).1 j (hPp.gel i hi g_4) g_4 (hPp.dat i hi g_4).2.1 (hPp.dat i hi g_4).2.2) (cwV 1 hts (lw_V q317 q318 q319 q21 q320) rfl rfl rfl (by decide +kernel) ⟨(Nat.le_of_ble_eq_true rfl), (Nat.le_of_ble_eq_true rfl)⟩) (k_recv hG hM (hPp.li i hi) (ci := 6) rfl) rfl hl.1 rfl (Nat.le_of_ble_eq_true rfl) dX1_at_22 rfl rfl (Nat.le_of_ble_eq_true rfl) (Nat.le_of_ble_eq_true rfl) (fun _ _ _ _ _ h9 _ _ _ _ _ => h9.elim) (fun v9 M9_5 H locs hp9 hM9_5 hS => ?_)
      obtain ⟨r_5, rfl, r_5_e, rfl⟩ := hp9
      have hM := hM9_5
      subst r_5_e
      refine W.eq (g2 := F0 m 25 ls [.ref (el i j)]) rfl ?_
      exact k_aret hx hb hr (Or.inl ⟨_, rfl⟩) hlocks hG hz hM hS (Nat.le_of_ble_eq_true rfl) (Nat.le_of_ble_eq_true rfl) dX1_at_25 ⟨_, rfl, j, hj, rfl, rfl, rfl⟩
set_option maxHeartbeats 4000000 in
set_option maxRecDepth 100000 in
theorem metX1_period {l : Launch} {z : Nat} {E : EE} {M : MM} (hl0 : l.stackTraces = false) {u0 : Nat} {la : Nat → Nat} {el : Nat → Nat → Nat} {K : Kp} {cn : Nat → Nat} {lim : Int32} {ar : Nat → Nat → Int32} (hPp : PicP E M u0 la el K cn lim ar) (hW : WF cn lim ar) (hSm : Sm K cn ar) : Kt l yX1_period (ws_ yX1_period cX1_period 1 (some .int)) ({ frames := 20, cells := 30, slots := 2000, locals := 600 } : Room) z E [.ref u0] M (pI (fun r M' => pPost E M u0 la (0) (nI (cn 4)) (cn) (lim) (ar) r M')) (xP xIO xIO xIO (0)) 30 2000 := by
  refine k_body RX1 (by decide) rfl (Nat.le_of_ble_eq_true rfl) ?_
  intro p e s m args below meth c hx hb hr hml hown hlocks hname hno hts hz hG hM hS ls hl
  have hF : CallFix p m c cX1_period 1 s args lw_all RX1 := ⟨hx, hb, hml, hown, hts⟩
  have hl : lv_has ls 1 [(0, .ref u0)] := hl
  have hfr : Fr kP M M := Fr.rf
  have hwb := hW.b
  refine lv_aload_n hx hb dX1_period_0 rfl (lv_at hl 0 rfl) ?_
  refine r_get (ci := 0) hF in_X1 hG hM hPp.pu rfl 5 (by decide) q179 (fun _ h => h) (.int (nI (cn 4))) rfl dX1_period_1 ?_
  have ht9 : 0 = (0 : Int32) := by rfl
  have ha9 : (nI (cn 4)) = nI (cn 4) := by first | rfl | (simp only []; done) | (simp only []; rfl) | (simp []; done)
  have er9 : ar = ar := by rfl
  have ec9 : cn = cn := by rfl
  exact k_iret hx hb hr rfl hlocks hG hz hM hS (Nat.le_of_ble_eq_true rfl) (Nat.le_of_ble_eq_true rfl) dX1_period_4 ⟨_, rfl, pPost.ok ht9 ha9 hPp (hSm.same (K' := K) (cn' := cn) (ar' := ar) rfl rfl rfl rfl rfl rfl rfl rfl) ec9 er9 hfr⟩
set_option maxHeartbeats 4000000 in
set_option maxRecDepth 100000 in
theorem metX1_entries {l : Launch} {z : Nat} {E : EE} {M : MM} (hl0 : l.stackTraces = false) {u0 : Nat} {la : Nat → Nat} {el : Nat → Nat → Nat} {K : Kp} {cn : Nat → Nat} {lim : Int32} {ar : Nat → Nat → Int32} (hPp : PicP E M u0 la el K cn lim ar) (hW : WF cn lim ar) (hSm : Sm K cn ar) : Kt l yX1_entries (ws_ yX1_entries cX1_entries 1 (some .int)) ({ frames := 20, cells := 30, slots := 2000, locals := 600 } : Room) z E [.ref u0] M (pI (fun r M' => pPost E M u0 la (0) (nI (cn 1)) (cn) (lim) (ar) r M')) (xP xIO xIO xIO (0)) 30 2000 := by
  refine k_body RX1 (by decide) rfl (Nat.le_of_ble_eq_true rfl) ?_
  intro p e s m args below meth c hx hb hr hml hown hlocks hname hno hts hz hG hM hS ls hl
  have hF : CallFix p m c cX1_entries 1 s args lw_all RX1 := ⟨hx, hb, hml, hown, hts⟩
  have hl : lv_has ls 1 [(0, .ref u0)] := hl
  have hfr : Fr kP M M := Fr.rf
  have hwb := hW.b
  refine lv_aload_n hx hb dX1_entries_0 rfl (lv_at hl 0 rfl) ?_
  refine r_get (ci := 0) hF in_X1 hG hM hPp.pu rfl 1 (by decide) q175 (fun _ h => h) (.ref (la 1)) rfl dX1_entries_1 ?_
  refine kV (k9 := 0) (n9 := 0) hF hG hz hM hS [] [] (metJ2_size (cap := 0) (g := fun _ => none) (hPp.li 1 (by decide))) (cwV 0 hts (lw_V q201 q202 q203 q21 q204) rfl rfl rfl (by decide +kernel) ⟨(Nat.le_of_ble_eq_true rfl), (Nat.le_of_ble_eq_true rfl)⟩) (k_recv hG hM (hPp.li 1 (by decide)) (ci := 6) rfl) rfl hl.1 rfl (Nat.le_of_ble_eq_true rfl) dX1_entries_4 rfl rfl (Nat.le_of_ble_eq_true rfl) (Nat.le_of_ble_eq_true rfl) (fun _ _ _ _ _ h9 _ _ _ _ _ => h9.elim) (fun v9 M9_1 H locs hp9 hM9_1 hS => ?_)
  obtain ⟨r_1, rfl, r_1_e, rfl⟩ := hp9
  have hM := hM9_1
  subst r_1_e
  refine W.eq (g2 := F0 m 7 ls [.int (nI (cn 1))]) rfl ?_
  have ht9 : 0 = (0 : Int32) := by rfl
  have ha9 : (nI (cn 1)) = nI (cn 1) := by first | rfl | (simp only []; done) | (simp only []; rfl) | (simp []; done)
  have er9 : ar = ar := by rfl
  have ec9 : cn = cn := by rfl
  exact k_iret hx hb hr rfl hlocks hG hz hM hS (Nat.le_of_ble_eq_true rfl) (Nat.le_of_ble_eq_true rfl) dX1_entries_7 ⟨_, rfl, pPost.ok ht9 ha9 hPp (hSm.same (K' := K) (cn' := cn) (ar' := ar) rfl rfl rfl rfl rfl rfl rfl rfl) ec9 er9 hfr⟩
set_option maxHeartbeats 4000000 in
set_option maxRecDepth 100000 in
theorem metX1_close {l : Launch} {z : Nat} {E : EE} {M : MM} (hl0 : l.stackTraces = false) {u0 : Nat} {la : Nat → Nat} {el : Nat → Nat → Nat} {K : Kp} {cn : Nat → Nat} {lim : Int32} {ar : Nat → Nat → Int32} (hPp : PicP E M u0 la el K cn lim ar) (hW : WF cn lim ar) (hSm : Sm K cn ar) : Kt l yX1_close (ws_ yX1_close cX1_close 1 (some .int)) ({ frames := 20, cells := 30, slots := 2000, locals := 600 } : Room) z E [.ref u0] M (pI (fun r M' => pPost E M u0 la (tClose cn) (nI (cn 4 + 1)) (cUp cn 4) (lim) (ar) r M')) (xP xIS xIS xIS (tClose cn)) 30 2000 := by
  refine k_body RX1 (by decide) rfl (Nat.le_of_ble_eq_true rfl) ?_
  intro p e s m args below meth c hx hb hr hml hown hlocks hname hno hts hz hG hM hS ls hl
  have hF : CallFix p m c cX1_close 1 s args lw_all RX1 := ⟨hx, hb, hml, hown, hts⟩
  have hl : lv_has ls 1 [(0, .ref u0)] := hl
  have hfr : Fr kP M M := Fr.rf
  have hwb := hW.b
  refine lv_aload_n hx hb dX1_close_0 rfl (lv_at hl 0 rfl) ?_
  refine r_get (ci := 0) hF in_X1 hG hM hPp.pu rfl 5 (by decide) q179 (fun _ h => h) (.int (nI (cn 4))) rfl dX1_close_1 ?_
  refine lv_bipush (v := 13) hx hb dX1_close_4 (by decide) ?_
  refine lv_icmp_ge (tgt := 13) hx hb dX1_close_6 (by decide) (fun c_1 => ?_) (fun c_1 => ?_)
  · have c_1R := c_1
    have c_1 : 13 ≤ (cn 4) := (nI_leI (a := 13) (b := (cn 4)) (by omega) (by omega)).mp c_1R
    have c_1B : ¬ ((cn 4) < 13) := by omega
    have c_1RB := Int32.not_lt.mpr c_1R
    have d_2 : 12 < cn 4 := by omega
    refine lv_iconst (v := 0) hx hb dX1_close_13 (by decide) ?_
    refine kS (k9 := 1) (n9 := 6) hF hG hz hM hS [.int 0] [] (metX1_checkState hl0 0) (va_cwS 1 hts (lw_S q331 q332 q18 q333) rfl rfl rfl (by decide +kernel) ⟨(Nat.le_of_ble_eq_true rfl), (Nat.le_of_ble_eq_true rfl)⟩) rfl hl.1 rfl (Nat.le_of_ble_eq_true rfl) dX1_close_14 rfl rfl (Nat.le_of_ble_eq_true rfl) (Nat.le_of_ble_eq_true rfl) (fun cx9 ce9 q9 H locs hx9 hM hS hc1 hc2 hc3 => k_out hno hlocks hG hz hM hS hc1 hc2 hc3 (Or.inl ⟨hx9.1, by simp [tClose, c_1, c_1B, c_1R, c_1RB, d_2]⟩) (Nat.le_of_ble_eq_true rfl) (Nat.le_of_ble_eq_true rfl)) (fun v9 M9_1 H locs hp9 hM9_1 hS => ?_)
    exact absurd rfl hp9.2.1
  · have c_1R := c_1
    have c_1 : ¬ (13 ≤ (cn 4)) := fun h9 => c_1R ((nI_leI (a := 13) (b := (cn 4)) (by omega) (by omega)).mpr h9)
    have c_1B : (cn 4) < 13 := by omega
    have c_1RB := Int32.not_le.mp c_1R
    have d_3 : ¬ 12 < cn 4 := by omega
    refine lv_iconst (v := 1) hx hb dX1_close_9 (by decide) ?_
    refine lv_goto (tgt := 14) hx hb dX1_close_10 (by decide) ?_
    refine kS (k9 := 1) (n9 := 6) hF hG hz hM hS [.int 1] [] (metX1_checkState hl0 1) (va_cwS 1 hts (lw_S q331 q332 q18 q333) rfl rfl rfl (by decide +kernel) ⟨(Nat.le_of_ble_eq_true rfl), (Nat.le_of_ble_eq_true rfl)⟩) rfl hl.1 rfl (Nat.le_of_ble_eq_true rfl) dX1_close_14 rfl rfl (Nat.le_of_ble_eq_true rfl) (Nat.le_of_ble_eq_true rfl) (fun cn ce q9 H locs hx9 hM hS hc1 hc2 hc3 => absurd hx9.2 (by decide)) (fun v9 M9_2 H locs hp9 hM9_2 hS => ?_)
    obtain ⟨rfl, -, rfl⟩ := hp9
    have hM := hM9_2
    refine W.eq (g2 := F0 m 17 ls []) rfl ?_
    refine lv_aload_n hx hb dX1_close_17 rfl (lv_at hl 0 rfl) ?_
    refine lv_dup hx hb dX1_close_18 rfl ?_
    refine r_get (ci := 0) hF in_X1 hG hM hPp.pu rfl 5 (by decide) q179 (fun _ h => h) (.int (nI (cn 4))) rfl dX1_close_19 ?_
    refine lv_iconst (v := 1) hx hb dX1_close_22 (by decide) ?_
    refine lv_iadd hx hb dX1_close_23 ?_
    rw [nI_1]
    refine r_put (ci := 0) (ty := .int) (v := .int (nI ((cn 4) + 1))) hF in_X1 tyX1 tyX1_ok nmX1 hG hM hS hPp.pu rfl 5 (by decide) q179 (fun _ h => h) rfl (by decide +kernel) rfl rfl (Nat.le_of_ble_eq_true rfl) dX1_close_24 (fun H locs hM hS => ?_)
    obtain ⟨M_4, hM, hPp, hfr⟩ := PicP.stepPu (cn' := (cUp cn 4)) (lim' := lim) (fun i hi => va_up_ne _ _ (by omega)) hPp hfr hM
    refine lv_aload_n hx hb dX1_close_27 rfl (lv_at hl 0 rfl) ?_
    refine r_get (ci := 0) hF in_X1 hG hM hPp.pu rfl 5 (by decide) q179 (fun _ h => h) (.int (nI ((cn 4) + 1))) rfl dX1_close_28 ?_
    have ht9 : tClose cn = (0 : Int32) := by simp [tClose, c_1, c_1B, c_1R, c_1RB, d_3]
    have ha9 : (nI ((cn 4) + 1)) = nI (cn 4 + 1) := by first | rfl | (simp only [c_1, c_1B, c_1R, c_1RB, d_3]; done) | (simp only [c_1, c_1B, c_1R, c_1RB, d_3]; rfl) | (simp [c_1, c_1B, c_1R, c_1RB, d_3]; done)
    have er9 : ar = ar := by rfl
    have ec9 : cUp cn 4 = (cUp cn 4) := by first | rfl | (simp only [c_1, c_1B, c_1R, c_1RB, d_3]; done) | (simp only [c_1, c_1B, c_1R, c_1RB, d_3]; rfl) | (simp [c_1, c_1B, c_1R, c_1RB, d_3]; done)
    exact k_iret hx hb hr rfl hlocks hG hz hM hS (Nat.le_of_ble_eq_true rfl) (Nat.le_of_ble_eq_true rfl) dX1_close_31 ⟨_, rfl, pPost.ok ht9 ha9 hPp (hSm.same (K' := K) (cn' := (cUp cn 4)) (ar' := ar) rfl rfl rfl rfl rfl rfl rfl rfl) ec9 er9 hfr⟩
set_option maxHeartbeats 4000000 in
set_option maxRecDepth 100000 in
theorem metX1_setLimit {l : Launch} {z : Nat} {E : EE} {M : MM} (hl0 : l.stackTraces = false) {u0 : Nat} {la : Nat → Nat} {el : Nat → Nat → Nat} {K : Kp} {cn : Nat → Nat} {lim : Int32} {ar : Nat → Nat → Int32} (hPp : PicP E M u0 la el K cn lim ar) (hW : WF cn lim ar) (hSm : Sm K cn ar) (p0 : Int32) : Kt l yX1_setLimit (ws_ yX1_setLimit cX1_setLimit 3 (some .int)) ({ frames := 30, cells := 30, slots := 2000, locals := 900 } : Room) z E [.ref u0, .int p0] M (pI (fun r M' => pPost E M u0 la (tSetLimit p0) (lim) (cn) (p0) (ar) r M')) (xP xIA xIA xIA (tSetLimit p0)) 30 2000 := by
  refine k_body RX1 (by decide) rfl (Nat.le_of_ble_eq_true rfl) ?_
  intro p e s m args below meth c hx hb hr hml hown hlocks hname hno hts hz hG hM hS ls hl
  have hF : CallFix p m c cX1_setLimit 3 s args lw_all RX1 := ⟨hx, hb, hml, hown, hts⟩
  have hl : lv_has ls 3 [(0, .ref u0), (1, .int p0)] := hl
  have hfr : Fr kP M M := Fr.rf
  have hwb := hW.b
  refine lv_iload_n hx hb dX1_setLimit_0 rfl (lv_at hl 1 rfl) ?_
  refine kS (k9 := 1) (n9 := 6) hF hG hz hM hS [.int p0] [] (metX1_checkAmount hl0 p0) (va_cwS 1 hts (lw_S q379 q380 q18 q381) rfl rfl rfl (by decide +kernel) ⟨(Nat.le_of_ble_eq_true rfl), (Nat.le_of_ble_eq_true rfl)⟩) rfl hl.1 rfl (Nat.le_of_ble_eq_true rfl) dX1_setLimit_1 rfl rfl (Nat.le_of_ble_eq_true rfl) (Nat.le_of_ble_eq_true rfl) (fun cx9 ce9 q9 H locs hx9 hM hS hc1 hc2 hc3 => k_out hno hlocks hG hz hM hS hc1 hc2 hc3 (Or.inl ⟨hx9.1, by simp [tSetLimit, hx9.2]⟩) (Nat.le_of_ble_eq_true rfl) (Nat.le_of_ble_eq_true rfl)) (fun v9 M9_1 H locs hp9 hM9_1 hS => ?_)
  obtain ⟨rfl, h_1, rfl⟩ := hp9
  have hM := hM9_1
  refine W.eq (g2 := F0 m 4 ls []) rfl ?_
  refine lv_aload_n hx hb dX1_setLimit_4 rfl (lv_at hl 0 rfl) ?_
  refine r_get (ci := 0) hF in_X1 hG hM hPp.pu rfl 4 (by decide) q178 (fun _ h => h) (.int lim) rfl dX1_setLimit_5 ?_
  refine lv_istore_n (lv' := [(2, .int lim), (0, .ref u0), (1, .int p0)]) hx hb dX1_setLimit_8 rfl hl (by decide) rfl (fun ls hl => ?_)
  refine lv_aload_n hx hb dX1_setLimit_9 rfl (lv_at hl 1 rfl) ?_
  refine lv_iload_n hx hb dX1_setLimit_10 rfl (lv_at hl 2 rfl) ?_
  refine r_put (ci := 0) (ty := .int) (v := .int p0) hF in_X1 tyX1 tyX1_ok nmX1 hG hM hS hPp.pu rfl 4 (by decide) q178 (fun _ h => h) rfl (by decide +kernel) rfl rfl (Nat.le_of_ble_eq_true rfl) dX1_setLimit_11 (fun H locs hM hS => ?_)
  obtain ⟨M_2, hM, hPp, hfr⟩ := PicP.stepPu (cn' := cn) (lim' := p0) (fun _ _ => rfl) hPp hfr hM
  refine lv_iload_n hx hb dX1_setLimit_14 rfl (lv_at hl 0 rfl) ?_
  have ht9 : tSetLimit p0 = (0 : Int32) := by simp [tSetLimit, h_1]
  have ha9 : lim = lim := by first | rfl | (simp only [h_1]; done) | (simp only [h_1]; rfl) | (simp [h_1]; done)
  have er9 : ar = ar := by rfl
  have ec9 : cn = cn := by rfl
  exact k_iret hx hb hr rfl hlocks hG hz hM hS (Nat.le_of_ble_eq_true rfl) (Nat.le_of_ble_eq_true rfl) dX1_setLimit_15 ⟨_, rfl, pPost.ok ht9 ha9 hPp (hSm.same (K' := K) (cn' := cn) (ar' := ar) rfl rfl rfl rfl rfl rfl rfl rfl) ec9 er9 hfr⟩
set_option maxHeartbeats 4000000 in
set_option maxRecDepth 100000 in
theorem metX1_left {l : Launch} {z : Nat} {E : EE} {M : MM} (hl0 : l.stackTraces = false) {u0 : Nat} {la : Nat → Nat} {el : Nat → Nat → Nat} {K : Kp} {cn : Nat → Nat} {lim : Int32} {ar : Nat → Nat → Int32} (hPp : PicP E M u0 la el K cn lim ar) (hW : WF cn lim ar) (hSm : Sm K cn ar) (p0 : Int32) : Kt l yX1_left (ws_ yX1_left cX1_left 3 (some .int)) ({ frames := 50, cells := 30, slots := 2000, locals := 1500 } : Room) z E [.ref u0, .int p0] M (pI (fun r M' => pPost E M u0 la (tLeft cn p0) (aLeft ar p0) (cn) (lim) (ar) r M')) (xP xIO xIO xIO (tLeft cn p0)) 30 2000 := by
  refine k_body RX1 (by decide) rfl (Nat.le_of_ble_eq_true rfl) ?_
  intro p e s m args below meth c hx hb hr hml hown hlocks hname hno hts hz hG hM hS ls hl
  have hF : CallFix p m c cX1_left 3 s args lw_all RX1 := ⟨hx, hb, hml, hown, hts⟩
  have hl : lv_has ls 3 [(0, .ref u0), (1, .int p0)] := hl
  have hfr : Fr kP M M := Fr.rf
  have hwb := hW.b
  refine lv_aload_n hx hb dX1_left_0 rfl (lv_at hl 0 rfl) ?_
  refine r_get (ci := 0) hF in_X1 hG hM hPp.pu rfl 0 (by decide) q174 (fun _ h => h) (.ref (la 0)) rfl dX1_left_1 ?_
  refine lv_iload_n hx hb dX1_left_4 rfl (lv_at hl 1 rfl) ?_
  refine kS (k9 := 1) (n9 := 6) hF hG hz hM hS [.ref (la 0), .int p0] [] (metX1_at hl0 hPp 0 (by decide) (by omega) p0) (va_cwS 2 hts (lw_S q290 q291 q18 q292) rfl rfl rfl (by decide +kernel) ⟨(Nat.le_of_ble_eq_true rfl), (Nat.le_of_ble_eq_true rfl)⟩) rfl hl.1 rfl (Nat.le_of_ble_eq_true rfl) dX1_left_5 rfl rfl (Nat.le_of_ble_eq_true rfl) (Nat.le_of_ble_eq_true rfl) (fun cx9 ce9 q9 H locs hx9 hM hS hc1 hc2 hc3 => k_out hno hlocks hG hz hM hS hc1 hc2 hc3 (Or.inl ⟨hx9.1, by simp [tLeft, hx9.2]⟩) (Nat.le_of_ble_eq_true rfl) (Nat.le_of_ble_eq_true rfl)) (fun v9 M9_1 H locs hp9 hM9_1 hS => ?_)
  obtain ⟨r_1, rfl, j0, hj0, rfl, rfl, rfl⟩ := hp9
  have hM := hM9_1
  have hnj0 : nx (nI j0) = j0 := nI_clamp (by omega)
  have hbj0 : inB (cn 0) (nI j0) = true := inB_of hj0 (by omega)
  refine W.eq (g2 := F0 m 8 ls [.ref (el 0 j0)]) rfl ?_
  refine r_cast (ci := 1) hF hG hM (PicP.ac hPp (k := j0) (by omega)) rfl q79 dX1_left_8 ?_
  refine lv_astore_n (lv' := [(2, .ref (el 0 j0)), (0, .ref u0), (1, .int (nI j0))]) hx hb dX1_left_11 rfl hl (by decide) rfl (fun ls hl => ?_)
  refine lv_aload_n hx hb dX1_left_12 rfl (lv_at hl 0 rfl) ?_
  refine r_getN (ci := 1) hF in_X2 hG hM (PicP.ac hPp (k := j0) (by omega)) rfl 2 (by decide) q88 (fun _ h => h) (.int ((ar 6) j0)) rfl dX1_left_13 ?_
  refine lv_if_eq (tgt := 26) hx hb dX1_left_16 (by decide) (fun c_2 => ?_) (fun c_2 => ?_)
  · have h6 : ¬ ar 6 j0 = 1 := fun h9 => absurd (c_2.symm.trans h9) (by decide)
    refine lv_iconst (v := -1) hx hb dX1_left_26 (by decide) ?_
    have ht9 : tLeft cn (nI j0) = (0 : Int32) := by simp [tLeft, hnj0, hbj0, (eq_true c_2), h6]
    have ha9 : ((-1) : Int32) = aLeft ar (nI j0) := by first | rfl | (simp only [aLeft, hnj0, hbj0, (eq_true c_2), h6]; done) | (simp only [aLeft, hnj0, hbj0, (eq_true c_2), h6]; rfl) | (simp [aLeft, hnj0, hbj0, (eq_true c_2), h6]; done)
    have er9 : ar = ar := by rfl
    have ec9 : cn = cn := by rfl
    exact k_iret hx hb hr rfl hlocks hG hz hM hS (Nat.le_of_ble_eq_true rfl) (Nat.le_of_ble_eq_true rfl) dX1_left_27 ⟨_, rfl, pPost.ok ht9 ha9 hPp (hSm.same (K' := K) (cn' := cn) (ar' := ar) rfl rfl rfl rfl rfl rfl rfl rfl) ec9 er9 hfr⟩
  · have h6 : (ar 6 j0 = 1) = True := eq_true ((hW.bu j0).1.resolve_left c_2)
    refine lv_aload_n hx hb dX1_left_19 rfl (lv_at hl 0 rfl) ?_
    refine kV (k9 := 1) (n9 := 6) hF hG hz hM hS [] [] (metX2_left hPp (k := j0) (by omega)) (cwV 0 hts (lw_V q582 q583 q584 q22 q585) rfl rfl rfl (by decide +kernel) ⟨(Nat.le_of_ble_eq_true rfl), (Nat.le_of_ble_eq_true rfl)⟩) (k_recv hG hM (PicP.ac hPp (k := j0) (by omega)) (ci := 1) rfl) rfl hl.1 rfl (Nat.le_of_ble_eq_true rfl) dX1_left_20 rfl rfl (Nat.le_of_ble_eq_true rfl) (Nat.le_of_ble_eq_true rfl) (fun _ _ _ _ _ h9 _ _ _ _ _ => h9.elim) (fun v9 M9_2 H locs hp9 hM9_2 hS => ?_)
    obtain ⟨r_3, rfl, r_3_e, rfl⟩ := hp9
    have hM := hM9_2
    subst r_3_e
    refine W.eq (g2 := F0 m 23 ls [.int (lef ar j0)]) rfl ?_
    refine lv_goto (tgt := 27) hx hb dX1_left_23 (by decide) ?_
    have ht9 : tLeft cn (nI j0) = (0 : Int32) := by simp [tLeft, hnj0, hbj0, c_2, h6]
    have ha9 : (lef ar j0) = aLeft ar (nI j0) := by first | rfl | (simp only [aLeft, hnj0, hbj0, c_2, h6]; done) | (simp only [aLeft, hnj0, hbj0, c_2, h6]; rfl) | (simp [aLeft, hnj0, hbj0, c_2, h6]; done)
    have er9 : ar = ar := by rfl
    have ec9 : cn = cn := by rfl
    exact k_iret hx hb hr rfl hlocks hG hz hM hS (Nat.le_of_ble_eq_true rfl) (Nat.le_of_ble_eq_true rfl) dX1_left_27 ⟨_, rfl, pPost.ok ht9 ha9 hPp (hSm.same (K' := K) (cn' := cn) (ar' := ar) rfl rfl rfl rfl rfl rfl rfl rfl) ec9 er9 hfr⟩
set_option maxHeartbeats 4000000 in
set_option maxRecDepth 100000 in
theorem metX1_periodOf {l : Launch} {z : Nat} {E : EE} {M : MM} (hl0 : l.stackTraces = false) {u0 : Nat} {la : Nat → Nat} {el : Nat → Nat → Nat} {K : Kp} {cn : Nat → Nat} {lim : Int32} {ar : Nat → Nat → Int32} (hPp : PicP E M u0 la el K cn lim ar) (hW : WF cn lim ar) (hSm : Sm K cn ar) (p0 : Int32) : Kt l yX1_periodOf (ws_ yX1_periodOf cX1_periodOf 2 (some .int)) ({ frames := 50, cells := 30, slots := 2000, locals := 1500 } : Room) z E [.ref u0, .int p0] M (pI (fun r M' => pPost E M u0 la (tEntry cn p0) (ar 1 (nx p0)) (cn) (lim) (ar) r M')) (xP xIO xIO xIO (tEntry cn p0)) 30 2000 := by
  refine k_body RX1 (by decide) rfl (Nat.le_of_ble_eq_true rfl) ?_
  intro p e s m args below meth c hx hb hr hml hown hlocks hname hno hts hz hG hM hS ls hl
  have hF : CallFix p m c cX1_periodOf 2 s args lw_all RX1 := ⟨hx, hb, hml, hown, hts⟩
  have hl : lv_has ls 2 [(0, .ref u0), (1, .int p0)] := hl
  have hfr : Fr kP M M := Fr.rf
  have hwb := hW.b
  refine lv_aload_n hx hb dX1_periodOf_0 rfl (lv_at hl 0 rfl) ?_
  refine r_get (ci := 0) hF in_X1 hG hM hPp.pu rfl 1 (by decide) q175 (fun _ h => h) (.ref (la 1)) rfl dX1_periodOf_1 ?_
  refine lv_iload_n hx hb dX1_periodOf_4 rfl (lv_at hl 1 rfl) ?_
  refine kS (k9 := 1) (n9 := 6) hF hG hz hM hS [.ref (la 1), .int p0] [] (metX1_at hl0 hPp 1 (by decide) (by omega) p0) (va_cwS 2 hts (lw_S q290 q291 q18 q292) rfl rfl rfl (by decide +kernel) ⟨(Nat.le_of_ble_eq_true rfl), (Nat.le_of_ble_eq_true rfl)⟩) rfl hl.1 rfl (Nat.le_of_ble_eq_true rfl) dX1_periodOf_5 rfl rfl (Nat.le_of_ble_eq_true rfl) (Nat.le_of_ble_eq_true rfl) (fun cx9 ce9 q9 H locs hx9 hM hS hc1 hc2 hc3 => k_out hno hlocks hG hz hM hS hc1 hc2 hc3 (Or.inl ⟨hx9.1, by simp [tEntry, hx9.2]⟩) (Nat.le_of_ble_eq_true rfl) (Nat.le_of_ble_eq_true rfl)) (fun v9 M9_1 H locs hp9 hM9_1 hS => ?_)
  obtain ⟨r_1, rfl, j0, hj0, rfl, rfl, rfl⟩ := hp9
  have hM := hM9_1
  have hnj0 : nx (nI j0) = j0 := nI_clamp (by omega)
  have hbj0 : inB (cn 1) (nI j0) = true := inB_of hj0 (by omega)
  refine W.eq (g2 := F0 m 8 ls [.ref (el 1 j0)]) rfl ?_
  obtain ⟨⟨a9, ha9, ea9⟩, ⟨b9, hb9, eb9⟩, -, h59⟩ := hW.en (i := j0) (by omega)
  by_cases h5 : ar 5 j0 = 1
  · have hen := hPp.enA (k := j0) (by omega) ea9 eb9 (by omega) (by omega) h5
    refine r_castF (ci := 2) hF hG hM hen rfl q509 q436 dX1_periodOf_8 ?_
    refine kF (k9 := 1) (n9 := 6) (x := enM "period" "()I") hF hG hz hM hS [] [] (metX4_period hen) (va_cwF 0 hts (lw_app (lw_q4 q449 q452 q454 q39) (lw_meth q456)) rfl rfl rfl (hG.fw 2 rfl) (by decide +kernel) ⟨(Nat.le_of_ble_eq_true rfl), (Nat.le_of_ble_eq_true rfl)⟩) hen rfl rfl hl.1 rfl (Nat.le_of_ble_eq_true rfl) dX1_periodOf_11 rfl rfl (Nat.le_of_ble_eq_true rfl) (Nat.le_of_ble_eq_true rfl) (fun _ _ _ _ _ h9 _ _ _ _ _ => h9.elim) (fun v9 M9_2 H locs hp9 hM9_2 hS => ?_)
    obtain ⟨r_2, rfl, r_2_e, rfl⟩ := hp9
    have hM := hM9_2
    subst r_2_e
    refine W.eq (g2 := F0 m 16 ls [.int (ar 1 j0)]) rfl ?_
    have ht9 : tEntry cn (nI j0) = (0 : Int32) := by simp [tEntry, hnj0, hbj0, (eq_true h5)]
    have ha9 : (ar 1 j0) = ar 1 (nx (nI j0)) := by first | rfl | (simp only [hnj0, hbj0, (eq_true h5)]; done) | (simp only [hnj0, hbj0, (eq_true h5)]; rfl) | (simp [hnj0, hbj0, (eq_true h5)]; done)
    have er9 : ar = ar := by rfl
    have ec9 : cn = cn := by rfl
    exact k_iret hx hb hr rfl hlocks hG hz hM hS (Nat.le_of_ble_eq_true rfl) (Nat.le_of_ble_eq_true rfl) dX1_periodOf_16 ⟨_, rfl, pPost.ok ht9 ha9 hPp (hSm.same (K' := K) (cn' := cn) (ar' := ar) rfl rfl rfl rfl rfl rfl rfl rfl) ec9 er9 hfr⟩
  · have hen := hPp.enB (k := j0) (by omega) ea9 eb9 (by omega) (by omega) h5
    refine r_castF (ci := 3) hF hG hM hen rfl q509 q442 dX1_periodOf_8 ?_
    refine kF (k9 := 1) (n9 := 6) (x := enM "period" "()I") hF hG hz hM hS [] [] (metX5_period hen) (va_cwF 0 hts (lw_app (lw_q4 q449 q457 q459 q40) (lw_meth q461)) rfl rfl rfl (hG.fw 7 rfl) (by decide +kernel) ⟨(Nat.le_of_ble_eq_true rfl), (Nat.le_of_ble_eq_true rfl)⟩) hen rfl rfl hl.1 rfl (Nat.le_of_ble_eq_true rfl) dX1_periodOf_11 rfl rfl (Nat.le_of_ble_eq_true rfl) (Nat.le_of_ble_eq_true rfl) (fun _ _ _ _ _ h9 _ _ _ _ _ => h9.elim) (fun v9 M9_3 H locs hp9 hM9_3 hS => ?_)
    obtain ⟨r_3, rfl, r_3_e, rfl⟩ := hp9
    have hM := hM9_3
    subst r_3_e
    refine W.eq (g2 := F0 m 16 ls [.int (ar 1 j0)]) rfl ?_
    have ht9 : tEntry cn (nI j0) = (0 : Int32) := by simp [tEntry, hnj0, hbj0, h5]
    have ha9 : (ar 1 j0) = ar 1 (nx (nI j0)) := by first | rfl | (simp only [hnj0, hbj0, h5]; done) | (simp only [hnj0, hbj0, h5]; rfl) | (simp [hnj0, hbj0, h5]; done)
    have er9 : ar = ar := by rfl
    have ec9 : cn = cn := by rfl
    exact k_iret hx hb hr rfl hlocks hG hz hM hS (Nat.le_of_ble_eq_true rfl) (Nat.le_of_ble_eq_true rfl) dX1_periodOf_16 ⟨_, rfl, pPost.ok ht9 ha9 hPp (hSm.same (K' := K) (cn' := cn) (ar' := ar) rfl rfl rfl rfl rfl rfl rfl rfl) ec9 er9 hfr⟩
set_option maxHeartbeats 4000000 in
set_option maxRecDepth 100000 in
theorem metX1_isLate {l : Launch} {z : Nat} {E : EE} {M : MM} (hl0 : l.stackTraces = false) {u0 : Nat} {la : Nat → Nat} {el : Nat → Nat → Nat} {K : Kp} {cn : Nat → Nat} {lim : Int32} {ar : Nat → Nat → Int32} (hPp : PicP E M u0 la el K cn lim ar) (hW : WF cn lim ar) (hSm : Sm K cn ar) (p0 : Int32) : Kt l yX1_isLate (ws_ yX1_isLate cX1_isLate 2 (some .boolean)) ({ frames := 50, cells := 30, slots := 2000, locals := 1500 } : Room) z E [.ref u0, .int p0] M (pI (fun r M' => pPost E M u0 la (tEntry cn p0) (if ar 5 (nx p0) = 1 then 1 else 0) (cn) (lim) (ar) r M')) (xP xIO xIO xIO (tEntry cn p0)) 30 2000 := by
  refine k_body RX1 (by decide) rfl (Nat.le_of_ble_eq_true rfl) ?_
  intro p e s m args below meth c hx hb hr hml hown hlocks hname hno hts hz hG hM hS ls hl
  have hF : CallFix p m c cX1_isLate 2 s args lw_all RX1 := ⟨hx, hb, hml, hown, hts⟩
  have hl : lv_has ls 2 [(0, .ref u0), (1, .int p0)] := hl
  have hfr : Fr kP M M := Fr.rf
  have hwb := hW.b
  refine lv_aload_n hx hb dX1_isLate_0 rfl (lv_at hl 0 rfl) ?_
  refine r_get (ci := 0) hF in_X1 hG hM hPp.pu rfl 1 (by decide) q175 (fun _ h => h) (.ref (la 1)) rfl dX1_isLate_1 ?_
  refine lv_iload_n hx hb dX1_isLate_4 rfl (lv_at hl 1 rfl) ?_
  refine kS (k9 := 1) (n9 := 6) hF hG hz hM hS [.ref (la 1), .int p0] [] (metX1_at hl0 hPp 1 (by decide) (by omega) p0) (va_cwS 2 hts (lw_S q290 q291 q18 q292) rfl rfl rfl (by decide +kernel) ⟨(Nat.le_of_ble_eq_true rfl), (Nat.le_of_ble_eq_true rfl)⟩) rfl hl.1 rfl (Nat.le_of_ble_eq_true rfl) dX1_isLate_5 rfl rfl (Nat.le_of_ble_eq_true rfl) (Nat.le_of_ble_eq_true rfl) (fun cx9 ce9 q9 H locs hx9 hM hS hc1 hc2 hc3 => k_out hno hlocks hG hz hM hS hc1 hc2 hc3 (Or.inl ⟨hx9.1, by simp [tEntry, hx9.2]⟩) (Nat.le_of_ble_eq_true rfl) (Nat.le_of_ble_eq_true rfl)) (fun v9 M9_1 H locs hp9 hM9_1 hS => ?_)
  obtain ⟨r_1, rfl, j0, hj0, rfl, rfl, rfl⟩ := hp9
  have hM := hM9_1
  have hnj0 : nx (nI j0) = j0 := nI_clamp (by omega)
  have hbj0 : inB (cn 1) (nI j0) = true := inB_of hj0 (by omega)
  refine W.eq (g2 := F0 m 8 ls [.ref (el 1 j0)]) rfl ?_
  obtain ⟨⟨a9, ha9, ea9⟩, ⟨b9, hb9, eb9⟩, -, h59⟩ := hW.en (i := j0) (by omega)
  by_cases h5 : ar 5 j0 = 1
  · have hen := hPp.enA (k := j0) (by omega) ea9 eb9 (by omega) (by omega) h5
    refine r_castF (ci := 2) hF hG hM hen rfl q509 q436 dX1_isLate_8 ?_
    refine kF (k9 := 1) (n9 := 6) (x := enM "isLate" "()Z") hF hG hz hM hS [] [] (metX4_isLate (b := (el 1 j0))) (va_cwF 0 hts (lw_app (lw_q4 q518 q521 q523 q39) (lw_meth q525)) rfl rfl rfl (hG.fw 4 rfl) (by decide +kernel) ⟨(Nat.le_of_ble_eq_true rfl), (Nat.le_of_ble_eq_true rfl)⟩) hen rfl rfl hl.1 rfl (Nat.le_of_ble_eq_true rfl) dX1_isLate_11 rfl rfl (Nat.le_of_ble_eq_true rfl) (Nat.le_of_ble_eq_true rfl) (fun _ _ _ _ _ h9 _ _ _ _ _ => h9.elim) (fun v9 M9_2 H locs hp9 hM9_2 hS => ?_)
    obtain ⟨r_2, rfl, r_2_e, rfl⟩ := hp9
    have hM := hM9_2
    subst r_2_e
    refine W.eq (g2 := F0 m 16 ls [.int 1]) rfl ?_
    have ht9 : tEntry cn (nI j0) = (0 : Int32) := by simp [tEntry, hnj0, hbj0, (eq_true h5)]
    have ha9 : (1 : Int32) = if ar 5 (nx (nI j0)) = 1 then 1 else 0 := by first | rfl | (simp only [hnj0, hbj0, (eq_true h5)]; done) | (simp only [hnj0, hbj0, (eq_true h5)]; rfl) | (simp [hnj0, hbj0, (eq_true h5)]; done)
    have er9 : ar = ar := by rfl
    have ec9 : cn = cn := by rfl
    exact k_iret hx hb hr rfl hlocks hG hz hM hS (Nat.le_of_ble_eq_true rfl) (Nat.le_of_ble_eq_true rfl) dX1_isLate_16 ⟨_, rfl, pPost.ok ht9 ha9 hPp (hSm.same (K' := K) (cn' := cn) (ar' := ar) rfl rfl rfl rfl rfl rfl rfl rfl) ec9 er9 hfr⟩
  · have hen := hPp.enB (k := j0) (by omega) ea9 eb9 (by omega) (by omega) h5
    refine r_castF (ci := 3) hF hG hM hen rfl q509 q442 dX1_isLate_8 ?_
    refine kF (k9 := 1) (n9 := 6) (x := enM "isLate" "()Z") hF hG hz hM hS [] [] (metX5_isLate (b := (el 1 j0))) (va_cwF 0 hts (lw_app (lw_q4 q518 q526 q528 q40) (lw_meth q530)) rfl rfl rfl (hG.fw 9 rfl) (by decide +kernel) ⟨(Nat.le_of_ble_eq_true rfl), (Nat.le_of_ble_eq_true rfl)⟩) hen rfl rfl hl.1 rfl (Nat.le_of_ble_eq_true rfl) dX1_isLate_11 rfl rfl (Nat.le_of_ble_eq_true rfl) (Nat.le_of_ble_eq_true rfl) (fun _ _ _ _ _ h9 _ _ _ _ _ => h9.elim) (fun v9 M9_3 H locs hp9 hM9_3 hS => ?_)
    obtain ⟨r_3, rfl, r_3_e, rfl⟩ := hp9
    have hM := hM9_3
    subst r_3_e
    refine W.eq (g2 := F0 m 16 ls [.int 0]) rfl ?_
    have ht9 : tEntry cn (nI j0) = (0 : Int32) := by simp [tEntry, hnj0, hbj0, h5]
    have ha9 : (0 : Int32) = if ar 5 (nx (nI j0)) = 1 then 1 else 0 := by first | rfl | (simp only [hnj0, hbj0, h5]; done) | (simp only [hnj0, hbj0, h5]; rfl) | (simp [hnj0, hbj0, h5]; done)
    have er9 : ar = ar := by rfl
    have ec9 : cn = cn := by rfl
    exact k_iret hx hb hr rfl hlocks hG hz hM hS (Nat.le_of_ble_eq_true rfl) (Nat.le_of_ble_eq_true rfl) dX1_isLate_16 ⟨_, rfl, pPost.ok ht9 ha9 hPp (hSm.same (K' := K) (cn' := cn) (ar' := ar) rfl rfl rfl rfl rfl rfl rfl rfl) ec9 er9 hfr⟩
