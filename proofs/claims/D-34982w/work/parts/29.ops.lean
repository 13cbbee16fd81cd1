/-! THE PURSE's METHODS: budgets, balances (printed by gen_purse.py) -/
set_option maxHeartbeats 4000000 in
set_option maxRecDepth 100000 in
theorem metX1_grant {l : Launch} {z : Nat} {E : EE} {M : MM} (hl0 : l.stackTraces = false) {u0 : Nat} {la : Nat → Nat} {el : Nat → Nat → Nat} {K : Kp} {cn : Nat → Nat} {lim : Int32} {ar : Nat → Nat → Int32} (hPp : PicP E M u0 la el K cn lim ar) (hW : WF cn lim ar) (hSm : Sm K cn ar) (p0 p1 : Int32) : Kt l yX1_grant (ws_ yX1_grant cX1_grant 4 none) ({ frames := 50, cells := 30, slots := 2000, locals := 1500 } : Room) z E [.ref u0, .int p0, .int p1] M (pV (fun M' => pPost E M u0 la (tGrant cn ar p0 p1) (0) (cn) (lim) (rGrant ar p0 p1) 0 M')) (xP xIO xIA xIS (tGrant cn ar p0 p1)) 30 2000 := by
  refine k_body RX1 (by decide) rfl (Nat.le_of_ble_eq_true rfl) ?_
  intro p e s m args below meth c hx hb hr hml hown hlocks hname hno hts hz hG hM hS ls hl
  have hF : CallFix p m c cX1_grant 4 s args lw_all RX1 := ⟨hx, hb, hml, hown, hts⟩
  have hl : lv_has ls 4 [(0, .ref u0), (1, .int p0), (2, .int p1)] := hl
  have hfr : Fr kP M M := Fr.rf
  have hwb := hW.b
  refine lv_aload_n hx hb dX1_grant_0 rfl (lv_at hl 0 rfl) ?_
  refine r_get (ci := 0) hF in_X1 hG hM hPp.pu rfl 0 (by decide) q174 (fun _ h => h) (.ref (la 0)) rfl dX1_grant_1 ?_
  refine lv_iload_n hx hb dX1_grant_4 rfl (lv_at hl 1 rfl) ?_
  refine kS (k9 := 1) (n9 := 6) hF hG hz hM hS [.ref (la 0), .int p0] [] (metX1_at hl0 hPp 0 (by decide) (by omega) p0) (va_cwS 2 hts (lw_S q290 q291 q18 q292) rfl rfl rfl (by decide +kernel) ⟨(Nat.le_of_ble_eq_true rfl), (Nat.le_of_ble_eq_true rfl)⟩) rfl hl.1 rfl (Nat.le_of_ble_eq_true rfl) dX1_grant_5 rfl rfl (Nat.le_of_ble_eq_true rfl) (Nat.le_of_ble_eq_true rfl) (fun cx9 ce9 q9 H locs hx9 hM hS hc1 hc2 hc3 => k_out hno hlocks hG hz hM hS hc1 hc2 hc3 (Or.inl ⟨hx9.1, by simp [tGrant, hx9.2]⟩) (Nat.le_of_ble_eq_true rfl) (Nat.le_of_ble_eq_true rfl)) (fun v9 M9_1 H locs hp9 hM9_1 hS => ?_)
  obtain ⟨r_1, rfl, j0, hj0, rfl, rfl, rfl⟩ := hp9
  have hM := hM9_1
  have hnj0 : nx (nI j0) = j0 := nI_clamp (by omega)
  have hbj0 : inB (cn 0) (nI j0) = true := inB_of hj0 (by omega)
  refine W.eq (g2 := F0 m 8 ls [.ref (el 0 j0)]) rfl ?_
  refine r_cast (ci := 1) hF hG hM (PicP.ac hPp (k := j0) (by omega)) rfl q79 dX1_grant_8 ?_
  refine lv_astore_n (lv' := [(3, .ref (el 0 j0)), (0, .ref u0), (1, .int (nI j0)), (2, .int p1)]) hx hb dX1_grant_11 rfl hl (by decide) rfl (fun ls hl => ?_)
  refine lv_iload_n hx hb dX1_grant_12 rfl (lv_at hl 2 rfl) ?_
  refine lv_iconst (v := 2) hx hb dX1_grant_13 (by decide) ?_
  refine lv_icmp_lt (tgt := 31) hx hb dX1_grant_14 (by decide) (fun c_2 => ?_) (fun c_2 => ?_)
  · have c_2R := c_2
    have c_2 : j0 < 2 := (nI_ltI (a := j0) (b := 2) (by omega) (by omega)).mp c_2R
    have c_2B : ¬ (2 ≤ j0) := by omega
    have c_2RB := Int32.not_le.mpr c_2R
    refine lv_iconst (v := 0) hx hb dX1_grant_31 (by decide) ?_
    refine kS (k9 := 2) (n9 := 12) hF hG hz hM hS [.int 0] [] (metX1_check hl0 0) (va_cwS 1 hts (lw_S q361 q362 q18 q363) rfl rfl rfl (by decide +kernel) ⟨(Nat.le_of_ble_eq_true rfl), (Nat.le_of_ble_eq_true rfl)⟩) rfl hl.1 rfl (Nat.le_of_ble_eq_true rfl) dX1_grant_32 rfl rfl (Nat.le_of_ble_eq_true rfl) (Nat.le_of_ble_eq_true rfl) (fun cx9 ce9 q9 H locs hx9 hM hS hc1 hc2 hc3 => k_out hno hlocks hG hz hM hS hc1 hc2 hc3 (Or.inr (Or.inl ⟨hx9.1, by simp [tGrant, hnj0, hbj0, c_2, c_2B, c_2R, c_2RB]⟩)) (Nat.le_of_ble_eq_true rfl) (Nat.le_of_ble_eq_true rfl)) (fun v9 M9_2 H locs hp9 hM9_2 hS => ?_)
    exact absurd rfl hp9.2.1
  · have c_2R := c_2
    have c_2 : ¬ (j0 < 2) := fun h9 => c_2R ((nI_ltI (a := j0) (b := 2) (by omega) (by omega)).mpr h9)
    have c_2B : 2 ≤ j0 := by omega
    have c_2RB := Int32.not_lt.mp c_2R
    refine lv_iload_n hx hb dX1_grant_17 rfl (lv_at hl 3 rfl) ?_
    refine lv_iconst (v := 0) hx hb dX1_grant_18 (by decide) ?_
    refine lv_ldc (v := 1000000) hx hb hown (hts _ q382) dX1_grant_19 ?_
    refine kS (k9 := 1) (n9 := 6) hF hG hz hM hS [.int p1, .int 0, .int 1000000] [] (metX1_isBetween p1 (0 : Int32) (1000000 : Int32)) (va_cwS 3 hts (lw_S q358 q359 q18 q360) rfl rfl rfl (by decide +kernel) ⟨(Nat.le_of_ble_eq_true rfl), (Nat.le_of_ble_eq_true rfl)⟩) rfl hl.1 rfl (Nat.le_of_ble_eq_true rfl) dX1_grant_21 rfl rfl (Nat.le_of_ble_eq_true rfl) (Nat.le_of_ble_eq_true rfl) (fun _ _ _ _ _ h9 _ _ _ _ _ => h9.elim) (fun v9 M9_3 H locs hp9 hM9_3 hS => ?_)
    obtain ⟨r_3, rfl, b_4, rfl⟩ := hp9
    have hM := hM9_3
    rcases b_4 with ⟨b_4, rfl⟩ | ⟨b_4, rfl⟩
    · refine W.eq (g2 := F0 m 24 ls [.int 1]) rfl ?_
      refine lv_if_eq (tgt := 31) hx hb dX1_grant_24 (by decide) (fun c9 => absurd c9 (by decide)) (fun _ => ?_)
      refine lv_iconst (v := 1) hx hb dX1_grant_27 (by decide) ?_
      refine lv_goto (tgt := 32) hx hb dX1_grant_28 (by decide) ?_
      refine kS (k9 := 2) (n9 := 12) hF hG hz hM hS [.int 1] [] (metX1_check hl0 1) (va_cwS 1 hts (lw_S q361 q362 q18 q363) rfl rfl rfl (by decide +kernel) ⟨(Nat.le_of_ble_eq_true rfl), (Nat.le_of_ble_eq_true rfl)⟩) rfl hl.1 rfl (Nat.le_of_ble_eq_true rfl) dX1_grant_32 rfl rfl (Nat.le_of_ble_eq_true rfl) (Nat.le_of_ble_eq_true rfl) (fun cn ce q9 H locs hx9 hM hS hc1 hc2 hc3 => absurd hx9.2 (by decide)) (fun v9 M9_4 H locs hp9 hM9_4 hS => ?_)
      obtain ⟨rfl, -, rfl⟩ := hp9
      have hM := hM9_4
      refine W.eq (g2 := F0 m 35 ls []) rfl ?_
      refine lv_aload_n hx hb dX1_grant_35 rfl (lv_at hl 0 rfl) ?_
      refine r_getN (ci := 1) hF in_X2 hG hM (PicP.ac hPp (k := j0) (by omega)) rfl 2 (by decide) q88 (fun _ h => h) (.int ((ar 6) j0)) rfl dX1_grant_36 ?_
      refine lv_if_ne (tgt := 46) hx hb dX1_grant_39 (by decide) (fun c_5 => ?_) (fun c_5 => ?_)
      · have h_6 : (ar 6 j0 = 1) = True := eq_true ((hW.bu j0).1.resolve_left c_5)
        refine lv_iconst (v := 0) hx hb dX1_grant_46 (by decide) ?_
        refine kS (k9 := 3) (n9 := 18) hF hG hz hM hS [.int 0] [] (metX1_checkState hl0 0) (va_cwS 1 hts (lw_S q331 q332 q18 q333) rfl rfl rfl (by decide +kernel) ⟨(Nat.le_of_ble_eq_true rfl), (Nat.le_of_ble_eq_true rfl)⟩) rfl hl.1 rfl (Nat.le_of_ble_eq_true rfl) dX1_grant_47 rfl rfl (Nat.le_of_ble_eq_true rfl) (Nat.le_of_ble_eq_true rfl) (fun cx9 ce9 q9 H locs hx9 hM hS hc1 hc2 hc3 => k_out hno hlocks hG hz hM hS hc1 hc2 hc3 (Or.inr (Or.inr ⟨hx9.1, by simp [tGrant, hnj0, hbj0, c_2, c_2B, c_2R, c_2RB, b_4, c_5, h_6]⟩)) (Nat.le_of_ble_eq_true rfl) (Nat.le_of_ble_eq_true rfl)) (fun v9 M9_5 H locs hp9 hM9_5 hS => ?_)
        exact absurd rfl hp9.2.1
      · have h_7 : ¬ ar 6 j0 = 1 := fun h9 => absurd (c_5.symm.trans h9) (by decide)
        refine lv_iconst (v := 1) hx hb dX1_grant_42 (by decide) ?_
        refine lv_goto (tgt := 47) hx hb dX1_grant_43 (by decide) ?_
        refine kS (k9 := 3) (n9 := 18) hF hG hz hM hS [.int 1] [] (metX1_checkState hl0 1) (va_cwS 1 hts (lw_S q331 q332 q18 q333) rfl rfl rfl (by decide +kernel) ⟨(Nat.le_of_ble_eq_true rfl), (Nat.le_of_ble_eq_true rfl)⟩) rfl hl.1 rfl (Nat.le_of_ble_eq_true rfl) dX1_grant_47 rfl rfl (Nat.le_of_ble_eq_true rfl) (Nat.le_of_ble_eq_true rfl) (fun cn ce q9 H locs hx9 hM hS hc1 hc2 hc3 => absurd hx9.2 (by decide)) (fun v9 M9_6 H locs hp9 hM9_6 hS => ?_)
        obtain ⟨rfl, -, rfl⟩ := hp9
        have hM := hM9_6
        refine W.eq (g2 := F0 m 50 ls []) rfl ?_
        refine lv_aload_n hx hb dX1_grant_50 rfl (lv_at hl 0 rfl) ?_
        refine lv_iconst (v := 1) hx hb dX1_grant_51 (by decide) ?_
        refine r_putN (ci := 1) (ty := .boolean) (v := .int 1) hF in_X2 tyX2 tyX2_ok nmX2 hG hM hS (PicP.ac hPp (k := j0) (by omega)) rfl 2 (by decide) q88 (fun _ h => h) rfl (by decide +kernel) rfl rfl (Nat.le_of_ble_eq_true rfl) dX1_grant_52 (fun H locs hM hS => ?_)
        have hL9 : (abv el ar j0 :: [.ref (ksm K j0), .int 1, .int ((ar 7) j0), .int ((ar 8) j0), .int ((ar 9) j0), .int ((ar 10) j0)]) = acF el (ksm K) (va_up ar 6 (upd (ar 6) j0 (1 : Int32))) j0 := by
          simp [acF, abv, paF, adF, va_up, pk_us, show nx 1 = 1 from by decide, show nx 2 = 2 from by decide]
        obtain ⟨M_8, hM, hPp, hfr⟩ := PicP.stepAc (v := (1 : Int32)) 6 j0 (by decide) (by omega) hPp hfr (by rw [← hL9]; exact hM)
        have hPp : PicP E M_8 u0 la el K cn lim (va_up ar 6 (upd (ar 6) j0 (1 : Int32))) := hPp
        refine lv_aload_n hx hb dX1_grant_55 rfl (lv_at hl 0 rfl) ?_
        refine lv_iload_n hx hb dX1_grant_56 rfl (lv_at hl 3 rfl) ?_
        refine r_putN (ci := 1) (ty := .int) (v := .int p1) hF in_X2 tyX2 tyX2_ok nmX2 hG hM hS (PicP.ac hPp (k := j0) (by omega)) rfl 3 (by decide) q90 (fun _ h => h) rfl (by decide +kernel) rfl rfl (Nat.le_of_ble_eq_true rfl) dX1_grant_57 (fun H locs hM hS => ?_)
        have hL9 : (abv el (va_up ar 6 (upd (ar 6) j0 (1 : Int32))) j0 :: [.ref (ksm K j0), .int ((upd (ar 6) j0 (1 : Int32)) j0), .int p1, .int ((ar 8) j0), .int ((ar 9) j0), .int ((ar 10) j0)]) = acF el (ksm K) (va_up (va_up ar 6 (upd (ar 6) j0 (1 : Int32))) 7 (upd ((va_up ar 6 (upd (ar 6) j0 (1 : Int32))) 7) j0 p1)) j0 := by
          simp [acF, abv, paF, adF, va_up, pk_us, show nx 1 = 1 from by decide, show nx 2 = 2 from by decide]
        obtain ⟨M_9, hM, hPp, hfr⟩ := PicP.stepAc (v := p1) 7 j0 (by decide) (by omega) hPp hfr (by rw [← hL9]; exact hM)
        have hPp : PicP E M_9 u0 la el K cn lim (va_up (va_up ar 6 (upd (ar 6) j0 (1 : Int32))) 7 (upd (ar 7) j0 p1)) := hPp
        have ht9 : tGrant cn ar (nI j0) p1 = (0 : Int32) := by simp [tGrant, hnj0, hbj0, c_2, c_2B, c_2R, c_2RB, b_4, (eq_true c_5), h_7]
        have er9 : rGrant ar (nI j0) p1 = (va_up (va_up ar 6 (upd (ar 6) j0 (1 : Int32))) 7 (upd (ar 7) j0 p1)) := by first | rfl | (simp only [rGrant, hnj0, hbj0, c_2, c_2B, c_2R, c_2RB, b_4, (eq_true c_5), h_7]; done) | (simp only [rGrant, hnj0, hbj0, c_2, c_2B, c_2R, c_2RB, b_4, (eq_true c_5), h_7]; rfl) | (simp [rGrant, hnj0, hbj0, c_2, c_2B, c_2R, c_2RB, b_4, (eq_true c_5), h_7]; done)
        have ec9 : cn = cn := by rfl
        exact k_vret hx hb hr hlocks hG hz hM hS (Nat.le_of_ble_eq_true rfl) (Nat.le_of_ble_eq_true rfl) dX1_grant_60 ⟨rfl, pPost.ok ht9 rfl hPp (hSm.same (K' := K) (cn' := cn) (ar' := (va_up (va_up ar 6 (upd (ar 6) j0 (1 : Int32))) 7 (upd (ar 7) j0 p1))) rfl rfl rfl rfl rfl rfl rfl rfl) ec9 er9 hfr⟩
    · refine W.eq (g2 := F0 m 24 ls [.int 0]) rfl ?_
      refine lv_if_eq (tgt := 31) hx hb dX1_grant_24 (by decide) (fun _ => ?_) (fun c9 => absurd (by decide) c9)
      refine lv_iconst (v := 0) hx hb dX1_grant_31 (by decide) ?_
      refine kS (k9 := 2) (n9 := 12) hF hG hz hM hS [.int 0] [] (metX1_check hl0 0) (va_cwS 1 hts (lw_S q361 q362 q18 q363) rfl rfl rfl (by decide +kernel) ⟨(Nat.le_of_ble_eq_true rfl), (Nat.le_of_ble_eq_true rfl)⟩) rfl hl.1 rfl (Nat.le_of_ble_eq_true rfl) dX1_grant_32 rfl rfl (Nat.le_of_ble_eq_true rfl) (Nat.le_of_ble_eq_true rfl) (fun cx9 ce9 q9 H locs hx9 hM hS hc1 hc2 hc3 => k_out hno hlocks hG hz hM hS hc1 hc2 hc3 (Or.inr (Or.inl ⟨hx9.1, by simp [tGrant, hnj0, hbj0, c_2, c_2B, c_2R, c_2RB, b_4]⟩)) (Nat.le_of_ble_eq_true rfl) (Nat.le_of_ble_eq_true rfl)) (fun v9 M9_7 H locs hp9 hM9_7 hS => ?_)
      exact absurd rfl hp9.2.1
set_option maxHeartbeats 4000000 in
set_option maxRecDepth 100000 in
theorem metX1_amend {l : Launch} {z : Nat} {E : EE} {M : MM} (hl0 : l.stackTraces = false) {u0 : Nat} {la : Nat → Nat} {el : Nat → Nat → Nat} {K : Kp} {cn : Nat → Nat} {lim : Int32} {ar : Nat → Nat → Int32} (hPp : PicP E M u0 la el K cn lim ar) (hW : WF cn lim ar) (hSm : Sm K cn ar) (p0 p1 p2 p3 : Int32) : Kt l yX1_amend (ws_ yX1_amend cX1_amend 7 (some .int)) ({ frames := 50, cells := 30, slots := 2000, locals := 1500 } : Room) z E [.ref u0, .int p0, .int p1, .int p2, .int p3] M (pI (fun r M' => pPost E M u0 la (tAmend cn ar p0 p1 p2 p3) (lef (rAmend ar (nx p0) (nx p1) p2 p3) (nx p0)) (cn) (lim) (rAmend ar (nx p0) (nx p1) p2 p3) r M')) (xP xIO xIA xIS (tAmend cn ar p0 p1 p2 p3)) 30 2000 := by
  refine k_body RX1 (by decide) rfl (Nat.le_of_ble_eq_true rfl) ?_
  intro p e s m args below meth c hx hb hr hml hown hlocks hname hno hts hz hG hM hS ls hl
  have hF : CallFix p m c cX1_amend 7 s args lw_all RX1 := ⟨hx, hb, hml, hown, hts⟩
  have hl : lv_has ls 7 [(0, .ref u0), (1, .int p0), (2, .int p1), (3, .int p2), (4, .int p3)] := hl
  have hfr : Fr kP M M := Fr.rf
  have hwb := hW.b
  refine lv_aload_n hx hb dX1_amend_0 rfl (lv_at hl 0 rfl) ?_
  refine r_get (ci := 0) hF in_X1 hG hM hPp.pu rfl 0 (by decide) q174 (fun _ h => h) (.ref (la 0)) rfl dX1_amend_1 ?_
  refine lv_iload_n hx hb dX1_amend_4 rfl (lv_at hl 1 rfl) ?_
  refine kS (k9 := 1) (n9 := 6) hF hG hz hM hS [.ref (la 0), .int p0] [] (metX1_at hl0 hPp 0 (by decide) (by omega) p0) (va_cwS 2 hts (lw_S q290 q291 q18 q292) rfl rfl rfl (by decide +kernel) ⟨(Nat.le_of_ble_eq_true rfl), (Nat.le_of_ble_eq_true rfl)⟩) rfl hl.1 rfl (Nat.le_of_ble_eq_true rfl) dX1_amend_5 rfl rfl (Nat.le_of_ble_eq_true rfl) (Nat.le_of_ble_eq_true rfl) (fun cx9 ce9 q9 H locs hx9 hM hS hc1 hc2 hc3 => k_out hno hlocks hG hz hM hS hc1 hc2 hc3 (Or.inl ⟨hx9.1, by simp [tAmend, mayAm, hx9.2]⟩) (Nat.le_of_ble_eq_true rfl) (Nat.le_of_ble_eq_true rfl)) (fun v9 M9_1 H locs hp9 hM9_1 hS => ?_)
  obtain ⟨r_1, rfl, j0, hj0, rfl, rfl, rfl⟩ := hp9
  have hM := hM9_1
  have hnj0 : nx (nI j0) = j0 := nI_clamp (by omega)
  have hbj0 : inB (cn 0) (nI j0) = true := inB_of hj0 (by omega)
  refine W.eq (g2 := F0 m 8 ls [.ref (el 0 j0)]) rfl ?_
  refine r_cast (ci := 1) hF hG hM (PicP.ac hPp (k := j0) (by omega)) rfl q79 dX1_amend_8 ?_
  refine lv_astore (lv' := [(5, .ref (el 0 j0)), (0, .ref u0), (1, .int (nI j0)), (2, .int p1), (3, .int p2), (4, .int p3)]) hx hb dX1_amend_11 hl (by decide) rfl (fun ls hl => ?_)
  refine lv_aload_n hx hb dX1_amend_13 rfl (lv_at hl 1 rfl) ?_
  refine r_get (ci := 0) hF in_X1 hG hM hPp.pu rfl 0 (by decide) q174 (fun _ h => h) (.ref (la 0)) rfl dX1_amend_14 ?_
  refine lv_iload_n hx hb dX1_amend_17 rfl (lv_at hl 3 rfl) ?_
  refine kS (k9 := 2) (n9 := 12) hF hG hz hM hS [.ref (la 0), .int p1] [] (metX1_at hl0 hPp 0 (by decide) (by omega) p1) (va_cwS 2 hts (lw_S q290 q291 q18 q292) rfl rfl rfl (by decide +kernel) ⟨(Nat.le_of_ble_eq_true rfl), (Nat.le_of_ble_eq_true rfl)⟩) rfl hl.1 rfl (Nat.le_of_ble_eq_true rfl) dX1_amend_18 rfl rfl (Nat.le_of_ble_eq_true rfl) (Nat.le_of_ble_eq_true rfl) (fun cx9 ce9 q9 H locs hx9 hM hS hc1 hc2 hc3 => k_out hno hlocks hG hz hM hS hc1 hc2 hc3 (Or.inl ⟨hx9.1, by simp [tAmend, mayAm, hnj0, hbj0, hx9.2]⟩) (Nat.le_of_ble_eq_true rfl) (Nat.le_of_ble_eq_true rfl)) (fun v9 M9_2 H locs hp9 hM9_2 hS => ?_)
  obtain ⟨r_2, rfl, j1, hj1, rfl, rfl, rfl⟩ := hp9
  have hM := hM9_2
  have hnj1 : nx (nI j1) = j1 := nI_clamp (by omega)
  have hbj1 : inB (cn 0) (nI j1) = true := inB_of hj1 (by omega)
  refine W.eq (g2 := F0 m 21 ls [.ref (el 0 j1)]) rfl ?_
  refine r_cast (ci := 1) hF hG hM (PicP.ac hPp (k := j1) (by omega)) rfl q79 dX1_amend_21 ?_
  refine lv_astore (lv' := [(6, .ref (el 0 j1)), (5, .ref (el 0 j0)), (0, .ref u0), (1, .int (nI j0)), (2, .int (nI j1)), (3, .int p2), (4, .int p3)]) hx hb dX1_amend_24 hl (by decide) rfl (fun ls hl => ?_)
  refine lv_iload_n hx hb dX1_amend_26 rfl (lv_at hl 5 rfl) ?_
  refine kS (k9 := 3) (n9 := 18) hF hG hz hM hS [.int p2] [] (metX1_checkAmount hl0 p2) (va_cwS 1 hts (lw_S q379 q380 q18 q381) rfl rfl rfl (by decide +kernel) ⟨(Nat.le_of_ble_eq_true rfl), (Nat.le_of_ble_eq_true rfl)⟩) rfl hl.1 rfl (Nat.le_of_ble_eq_true rfl) dX1_amend_27 rfl rfl (Nat.le_of_ble_eq_true rfl) (Nat.le_of_ble_eq_true rfl) (fun cx9 ce9 q9 H locs hx9 hM hS hc1 hc2 hc3 => k_out hno hlocks hG hz hM hS hc1 hc2 hc3 (Or.inr (Or.inl ⟨hx9.1, by simp [tAmend, mayAm, hnj0, hbj0, hnj1, hbj1, hx9.2]⟩)) (Nat.le_of_ble_eq_true rfl) (Nat.le_of_ble_eq_true rfl)) (fun v9 M9_3 H locs hp9 hM9_3 hS => ?_)
  obtain ⟨rfl, h_3, rfl⟩ := hp9
  have hM := hM9_3
  refine W.eq (g2 := F0 m 30 ls []) rfl ?_
  refine lv_iload_n hx hb dX1_amend_30 rfl (lv_at hl 3 rfl) ?_
  refine lv_iload_n hx hb dX1_amend_31 rfl (lv_at hl 4 rfl) ?_
  refine lv_icmp_eq (tgt := 39) hx hb dX1_amend_32 (by decide) (fun c_4 => ?_) (fun c_4 => ?_)
  · have c_4R := c_4
    have c_4 : j0 = j1 := (nI_eq (a := j0) (b := j1) (by omega) (by omega)).mp c_4R
    refine lv_iconst (v := 0) hx hb dX1_amend_39 (by decide) ?_
    refine kS (k9 := 4) (n9 := 24) hF hG hz hM hS [.int 0] [] (metX1_check hl0 0) (va_cwS 1 hts (lw_S q361 q362 q18 q363) rfl rfl rfl (by decide +kernel) ⟨(Nat.le_of_ble_eq_true rfl), (Nat.le_of_ble_eq_true rfl)⟩) rfl hl.1 rfl (Nat.le_of_ble_eq_true rfl) dX1_amend_40 rfl rfl (Nat.le_of_ble_eq_true rfl) (Nat.le_of_ble_eq_true rfl) (fun cx9 ce9 q9 H locs hx9 hM hS hc1 hc2 hc3 => k_out hno hlocks hG hz hM hS hc1 hc2 hc3 (Or.inr (Or.inl ⟨hx9.1, by simp [tAmend, mayAm, hnj0, hbj0, hnj1, hbj1, h_3, (eq_true c_4), (eq_true c_4R)]⟩)) (Nat.le_of_ble_eq_true rfl) (Nat.le_of_ble_eq_true rfl)) (fun v9 M9_4 H locs hp9 hM9_4 hS => ?_)
    exact absurd rfl hp9.2.1
  · have c_4R := c_4
    have c_4 : ¬ (j0 = j1) := fun h9 => c_4R ((nI_eq (a := j0) (b := j1) (by omega) (by omega)).mpr h9)
    refine lv_iconst (v := 1) hx hb dX1_amend_35 (by decide) ?_
    refine lv_goto (tgt := 40) hx hb dX1_amend_36 (by decide) ?_
    refine kS (k9 := 4) (n9 := 24) hF hG hz hM hS [.int 1] [] (metX1_check hl0 1) (va_cwS 1 hts (lw_S q361 q362 q18 q363) rfl rfl rfl (by decide +kernel) ⟨(Nat.le_of_ble_eq_true rfl), (Nat.le_of_ble_eq_true rfl)⟩) rfl hl.1 rfl (Nat.le_of_ble_eq_true rfl) dX1_amend_40 rfl rfl (Nat.le_of_ble_eq_true rfl) (Nat.le_of_ble_eq_true rfl) (fun cn ce q9 H locs hx9 hM hS hc1 hc2 hc3 => absurd hx9.2 (by decide)) (fun v9 M9_5 H locs hp9 hM9_5 hS => ?_)
    obtain ⟨rfl, -, rfl⟩ := hp9
    have hM := hM9_5
    refine W.eq (g2 := F0 m 43 ls []) rfl ?_
    refine lv_aload hx hb dX1_amend_43 (lv_at hl 1 rfl) ?_
    refine r_getN (ci := 1) hF in_X2 hG hM (PicP.ac hPp (k := j0) (by omega)) rfl 2 (by decide) q88 (fun _ h => h) (.int ((ar 6) j0)) rfl dX1_amend_45 ?_
    refine lv_if_eq (tgt := 95) hx hb dX1_amend_48 (by decide) (fun c_5 => ?_) (fun c_5 => ?_)
    · refine lv_iconst (v := 0) hx hb dX1_amend_95 (by decide) ?_
      refine kS (k9 := 5) (n9 := 30) hF hG hz hM hS [.int 0] [] (metX1_checkState hl0 0) (va_cwS 1 hts (lw_S q331 q332 q18 q333) rfl rfl rfl (by decide +kernel) ⟨(Nat.le_of_ble_eq_true rfl), (Nat.le_of_ble_eq_true rfl)⟩) rfl hl.1 rfl (Nat.le_of_ble_eq_true rfl) dX1_amend_96 rfl rfl (Nat.le_of_ble_eq_true rfl) (Nat.le_of_ble_eq_true rfl) (fun cx9 ce9 q9 H locs hx9 hM hS hc1 hc2 hc3 => k_out hno hlocks hG hz hM hS hc1 hc2 hc3 (Or.inr (Or.inr ⟨hx9.1, by simp [tAmend, mayAm, hnj0, hbj0, hnj1, hbj1, h_3, c_4, c_4R, (eq_true c_5)]⟩)) (Nat.le_of_ble_eq_true rfl) (Nat.le_of_ble_eq_true rfl)) (fun v9 M9_6 H locs hp9 hM9_6 hS => ?_)
      exact absurd rfl hp9.2.1
    · refine lv_aload hx hb dX1_amend_51 (lv_at hl 0 rfl) ?_
      refine r_getN (ci := 1) hF in_X2 hG hM (PicP.ac hPp (k := j1) (by omega)) rfl 2 (by decide) q88 (fun _ h => h) (.int ((ar 6) j1)) rfl dX1_amend_53 ?_
      refine lv_if_eq (tgt := 95) hx hb dX1_amend_56 (by decide) (fun c_6 => ?_) (fun c_6 => ?_)
      · refine lv_iconst (v := 0) hx hb dX1_amend_95 (by decide) ?_
        refine kS (k9 := 5) (n9 := 30) hF hG hz hM hS [.int 0] [] (metX1_checkState hl0 0) (va_cwS 1 hts (lw_S q331 q332 q18 q333) rfl rfl rfl (by decide +kernel) ⟨(Nat.le_of_ble_eq_true rfl), (Nat.le_of_ble_eq_true rfl)⟩) rfl hl.1 rfl (Nat.le_of_ble_eq_true rfl) dX1_amend_96 rfl rfl (Nat.le_of_ble_eq_true rfl) (Nat.le_of_ble_eq_true rfl) (fun cx9 ce9 q9 H locs hx9 hM hS hc1 hc2 hc3 => k_out hno hlocks hG hz hM hS hc1 hc2 hc3 (Or.inr (Or.inr ⟨hx9.1, by simp [tAmend, mayAm, hnj0, hbj0, hnj1, hbj1, h_3, c_4, c_4R, c_5, (eq_true c_6)]⟩)) (Nat.le_of_ble_eq_true rfl) (Nat.le_of_ble_eq_true rfl)) (fun v9 M9_7 H locs hp9 hM9_7 hS => ?_)
        exact absurd rfl hp9.2.1
      · refine lv_aload hx hb dX1_amend_59 (lv_at hl 1 rfl) ?_
        refine kV (k9 := 4) (n9 := 24) hF hG hz hM hS [] [] (metX2_left hPp (k := j0) (by omega)) (cwV 0 hts (lw_V q582 q583 q584 q22 q585) rfl rfl rfl (by decide +kernel) ⟨(Nat.le_of_ble_eq_true rfl), (Nat.le_of_ble_eq_true rfl)⟩) (k_recv hG hM (PicP.ac hPp (k := j0) (by omega)) (ci := 1) rfl) rfl hl.1 rfl (Nat.le_of_ble_eq_true rfl) dX1_amend_61 rfl rfl (Nat.le_of_ble_eq_true rfl) (Nat.le_of_ble_eq_true rfl) (fun _ _ _ _ _ h9 _ _ _ _ _ => h9.elim) (fun v9 M9_8 H locs hp9 hM9_8 hS => ?_)
        obtain ⟨r_7, rfl, r_7_e, rfl⟩ := hp9
        have hM := hM9_8
        subst r_7_e
        refine W.eq (g2 := F0 m 64 ls [.int (lef ar j0)]) rfl ?_
        refine lv_iload_n hx hb dX1_amend_64 rfl (lv_at hl 5 rfl) ?_
        refine lv_icmp_lt (tgt := 95) hx hb dX1_amend_65 (by decide) (fun c_8 => ?_) (fun c_8 => ?_)
        · have c_8B := Int32.not_le.mpr c_8
          refine lv_iconst (v := 0) hx hb dX1_amend_95 (by decide) ?_
          refine kS (k9 := 5) (n9 := 30) hF hG hz hM hS [.int 0] [] (metX1_checkState hl0 0) (va_cwS 1 hts (lw_S q331 q332 q18 q333) rfl rfl rfl (by decide +kernel) ⟨(Nat.le_of_ble_eq_true rfl), (Nat.le_of_ble_eq_true rfl)⟩) rfl hl.1 rfl (Nat.le_of_ble_eq_true rfl) dX1_amend_96 rfl rfl (Nat.le_of_ble_eq_true rfl) (Nat.le_of_ble_eq_true rfl) (fun cx9 ce9 q9 H locs hx9 hM hS hc1 hc2 hc3 => k_out hno hlocks hG hz hM hS hc1 hc2 hc3 (Or.inr (Or.inr ⟨hx9.1, by simp [tAmend, mayAm, hnj0, hbj0, hnj1, hbj1, h_3, c_4, c_4R, c_5, c_6, c_8, c_8B]⟩)) (Nat.le_of_ble_eq_true rfl) (Nat.le_of_ble_eq_true rfl)) (fun v9 M9_9 H locs hp9 hM9_9 hS => ?_)
          exact absurd rfl hp9.2.1
        · have c_8B := Int32.not_lt.mp c_8
          refine lv_iload hx hb dX1_amend_68 (lv_at hl 6 rfl) ?_
          refine lv_if_ne (tgt := 91) hx hb dX1_amend_70 (by decide) (fun c_9 => ?_) (fun c_9 => ?_)
          · refine lv_iconst (v := 1) hx hb dX1_amend_91 (by decide) ?_
            refine lv_goto (tgt := 96) hx hb dX1_amend_92 (by decide) ?_
            refine kS (k9 := 5) (n9 := 30) hF hG hz hM hS [.int 1] [] (metX1_checkState hl0 1) (va_cwS 1 hts (lw_S q331 q332 q18 q333) rfl rfl rfl (by decide +kernel) ⟨(Nat.le_of_ble_eq_true rfl), (Nat.le_of_ble_eq_true rfl)⟩) rfl hl.1 rfl (Nat.le_of_ble_eq_true rfl) dX1_amend_96 rfl rfl (Nat.le_of_ble_eq_true rfl) (Nat.le_of_ble_eq_true rfl) (fun cn ce q9 H locs hx9 hM hS hc1 hc2 hc3 => absurd hx9.2 (by decide)) (fun v9 M9_10 H locs hp9 hM9_10 hS => ?_)
            obtain ⟨rfl, -, rfl⟩ := hp9
            have hM := hM9_10
            refine W.eq (g2 := F0 m 99 ls []) rfl ?_
            refine lv_aload hx hb dX1_amend_99 (lv_at hl 1 rfl) ?_
            refine lv_dup hx hb dX1_amend_101 rfl ?_
            refine r_getN (ci := 1) hF in_X2 hG hM (PicP.ac hPp (k := j0) (by omega)) rfl 5 (by decide) q93 (fun _ h => h) (.int ((ar 9) j0)) rfl dX1_amend_102 ?_
            refine lv_iload hx hb dX1_amend_105 (lv_at hl 6 rfl) ?_
            refine lv_if_eq (tgt := 114) hx hb dX1_amend_107 (by decide) (fun c9 => absurd c9 c_9) (fun _ => ?_)
            refine lv_iconst (v := 0) hx hb dX1_amend_110 (by decide) ?_
            refine lv_goto (tgt := 115) hx hb dX1_amend_111 (by decide) ?_
            refine lv_iadd hx hb dX1_amend_115 ?_
            refine r_putN (ci := 1) (ty := .int) (v := .int (((ar 9) j0) + 0)) hF in_X2 tyX2 tyX2_ok nmX2 hG hM hS (PicP.ac hPp (k := j0) (by omega)) rfl 5 (by decide) q93 (fun _ h => h) rfl (by decide +kernel) rfl rfl (Nat.le_of_ble_eq_true rfl) dX1_amend_116 (fun H locs hM hS => ?_)
            have hL9 : (abv el ar j0 :: [.ref (ksm K j0), .int ((ar 6) j0), .int ((ar 7) j0), .int ((ar 8) j0), .int (((ar 9) j0) + 0), .int ((ar 10) j0)]) = acF el (ksm K) (va_up ar 9 (upd (ar 9) j0 (((ar 9) j0) + 0))) j0 := by
              simp [acF, abv, paF, adF, va_up, pk_us, show nx 1 = 1 from by decide, show nx 2 = 2 from by decide]
            obtain ⟨M_10, hM, hPp, hfr⟩ := PicP.stepAc (v := (((ar 9) j0) + 0)) 9 j0 (by decide) (by omega) hPp hfr (by rw [← hL9]; exact hM)
            have hPp : PicP E M_10 u0 la el K cn lim (va_up ar 9 (upd (ar 9) j0 (((ar 9) j0) + 0))) := hPp
            refine lv_aload hx hb dX1_amend_119 (lv_at hl 1 rfl) ?_
            refine lv_dup hx hb dX1_amend_121 rfl ?_
            refine r_getN (ci := 1) hF in_X2 hG hM (PicP.ac hPp (k := j0) (by omega)) rfl 4 (by decide) q92 (fun _ h => h) (.int ((ar 8) j0)) rfl dX1_amend_122 ?_
            refine lv_iload_n hx hb dX1_amend_125 rfl (lv_at hl 5 rfl) ?_
            refine lv_isub hx hb dX1_amend_126 ?_
            refine r_putN (ci := 1) (ty := .int) (v := .int (((ar 8) j0) - p2)) hF in_X2 tyX2 tyX2_ok nmX2 hG hM hS (PicP.ac hPp (k := j0) (by omega)) rfl 4 (by decide) q92 (fun _ h => h) rfl (by decide +kernel) rfl rfl (Nat.le_of_ble_eq_true rfl) dX1_amend_127 (fun H locs hM hS => ?_)
            have hL9 : (abv el (va_up ar 9 (upd (ar 9) j0 (((ar 9) j0) + 0))) j0 :: [.ref (ksm K j0), .int ((ar 6) j0), .int ((ar 7) j0), .int (((ar 8) j0) - p2), .int ((upd (ar 9) j0 (((ar 9) j0) + 0)) j0), .int ((ar 10) j0)]) = acF el (ksm K) (va_up (va_up ar 9 (upd (ar 9) j0 (((ar 9) j0) + 0))) 8 (upd ((va_up ar 9 (upd (ar 9) j0 (((ar 9) j0) + 0))) 8) j0 (((ar 8) j0) - p2))) j0 := by
              simp [acF, abv, paF, adF, va_up, pk_us, show nx 1 = 1 from by decide, show nx 2 = 2 from by decide]
            obtain ⟨M_11, hM, hPp, hfr⟩ := PicP.stepAc (v := (((ar 8) j0) - p2)) 8 j0 (by decide) (by omega) hPp hfr (by rw [← hL9]; exact hM)
            have hPp : PicP E M_11 u0 la el K cn lim (va_up (va_up ar 9 (upd (ar 9) j0 (((ar 9) j0) + 0))) 8 (upd (ar 8) j0 (((ar 8) j0) - p2))) := hPp
            refine lv_aload hx hb dX1_amend_130 (lv_at hl 0 rfl) ?_
            refine lv_dup hx hb dX1_amend_132 rfl ?_
            refine r_getN (ci := 1) hF in_X2 hG hM (PicP.ac hPp (k := j1) (by omega)) rfl 4 (by decide) q92 (fun _ h => h) (.int ((upd (ar 8) j0 (((ar 8) j0) - p2)) j1)) rfl dX1_amend_133 ?_
            refine lv_iload_n hx hb dX1_amend_136 rfl (lv_at hl 5 rfl) ?_
            refine lv_iadd hx hb dX1_amend_137 ?_
            refine r_putN (ci := 1) (ty := .int) (v := .int (((upd (ar 8) j0 (((ar 8) j0) - p2)) j1) + p2)) hF in_X2 tyX2 tyX2_ok nmX2 hG hM hS (PicP.ac hPp (k := j1) (by omega)) rfl 4 (by decide) q92 (fun _ h => h) rfl (by decide +kernel) rfl rfl (Nat.le_of_ble_eq_true rfl) dX1_amend_138 (fun H locs hM hS => ?_)
            have hL9 : (abv el (va_up (va_up ar 9 (upd (ar 9) j0 (((ar 9) j0) + 0))) 8 (upd (ar 8) j0 (((ar 8) j0) - p2))) j1 :: [.ref (ksm K j1), .int ((ar 6) j1), .int ((ar 7) j1), .int (((upd (ar 8) j0 (((ar 8) j0) - p2)) j1) + p2), .int ((upd (ar 9) j0 (((ar 9) j0) + 0)) j1), .int ((ar 10) j1)]) = acF el (ksm K) (va_up (va_up (va_up ar 9 (upd (ar 9) j0 (((ar 9) j0) + 0))) 8 (upd (ar 8) j0 (((ar 8) j0) - p2))) 8 (upd ((va_up (va_up ar 9 (upd (ar 9) j0 (((ar 9) j0) + 0))) 8 (upd (ar 8) j0 (((ar 8) j0) - p2))) 8) j1 (((upd (ar 8) j0 (((ar 8) j0) - p2)) j1) + p2))) j1 := by
              simp [acF, abv, paF, adF, va_up, pk_us, show nx 1 = 1 from by decide, show nx 2 = 2 from by decide]
            obtain ⟨M_12, hM, hPp, hfr⟩ := PicP.stepAc (v := (((upd (ar 8) j0 (((ar 8) j0) - p2)) j1) + p2)) 8 j1 (by decide) (by omega) hPp hfr (by rw [← hL9]; exact hM)
            have hPp : PicP E M_12 u0 la el K cn lim (va_up (va_up (va_up ar 9 (upd (ar 9) j0 (((ar 9) j0) + 0))) 8 (upd (ar 8) j0 (((ar 8) j0) - p2))) 8 (upd (upd (ar 8) j0 (((ar 8) j0) - p2)) j1 (((upd (ar 8) j0 (((ar 8) j0) - p2)) j1) + p2))) := hPp
            refine lv_aload hx hb dX1_amend_141 (lv_at hl 1 rfl) ?_
            refine kV (k9 := 5) (n9 := 30) hF hG hz hM hS [] [] (metX2_left hPp (k := j0) (by omega)) (cwV 0 hts (lw_V q582 q583 q584 q22 q585) rfl rfl rfl (by decide +kernel) ⟨(Nat.le_of_ble_eq_true rfl), (Nat.le_of_ble_eq_true rfl)⟩) (k_recv hG hM (PicP.ac hPp (k := j0) (by omega)) (ci := 1) rfl) rfl hl.1 rfl (Nat.le_of_ble_eq_true rfl) dX1_amend_143 rfl rfl (Nat.le_of_ble_eq_true rfl) (Nat.le_of_ble_eq_true rfl) (fun _ _ _ _ _ h9 _ _ _ _ _ => h9.elim) (fun v9 M9_11 H locs hp9 hM9_11 hS => ?_)
            obtain ⟨r_13, rfl, r_13_e, rfl⟩ := hp9
            have hM := hM9_11
            subst r_13_e
            refine W.eq (g2 := F0 m 146 ls [.int (lef (va_up (va_up (va_up ar 9 (upd (ar 9) j0 (((ar 9) j0) + 0))) 8 (upd (ar 8) j0 (((ar 8) j0) - p2))) 8 (upd (upd (ar 8) j0 (((ar 8) j0) - p2)) j1 (((upd (ar 8) j0 (((ar 8) j0) - p2)) j1) + p2))) j0)]) rfl ?_
            have er8 : rAmend ar (nx (nI j0)) (nx (nI j1)) p2 p3 = (va_up (va_up (va_up ar 9 (upd (ar 9) j0 (((ar 9) j0) + 0))) 8 (upd (ar 8) j0 (((ar 8) j0) - p2))) 8 (upd (upd (ar 8) j0 (((ar 8) j0) - p2)) j1 (((upd (ar 8) j0 (((ar 8) j0) - p2)) j1) + p2))) := by (unfold rAmend; rw [hnj0, hnj1, bx_uu, va_up_comm (i := 9) (j := 8) (by decide)]; simp [hnj0, hbj0, hnj1, hbj1, h_3, c_4, c_4R, c_5, c_6, c_8, c_8B, c_9])
            have ht9 : tAmend cn ar (nI j0) (nI j1) p2 p3 = (0 : Int32) := by simp [tAmend, mayAm, hnj0, hbj0, hnj1, hbj1, h_3, c_4, c_4R, c_5, c_6, c_8, c_8B, c_9]
            have ha9 : (lef (va_up (va_up (va_up ar 9 (upd (ar 9) j0 (((ar 9) j0) + 0))) 8 (upd (ar 8) j0 (((ar 8) j0) - p2))) 8 (upd (upd (ar 8) j0 (((ar 8) j0) - p2)) j1 (((upd (ar 8) j0 (((ar 8) j0) - p2)) j1) + p2))) j0) = lef (rAmend ar (nx (nI j0)) (nx (nI j1)) p2 p3) (nx (nI j0)) := by rw [er8, hnj0]
            have er9 : rAmend ar (nx (nI j0)) (nx (nI j1)) p2 p3 = (va_up (va_up (va_up ar 9 (upd (ar 9) j0 (((ar 9) j0) + 0))) 8 (upd (ar 8) j0 (((ar 8) j0) - p2))) 8 (upd (upd (ar 8) j0 (((ar 8) j0) - p2)) j1 (((upd (ar 8) j0 (((ar 8) j0) - p2)) j1) + p2))) := by exact er8
            have ec9 : cn = cn := by rfl
            exact k_iret hx hb hr rfl hlocks hG hz hM hS (Nat.le_of_ble_eq_true rfl) (Nat.le_of_ble_eq_true rfl) dX1_amend_146 ⟨_, rfl, pPost.ok ht9 ha9 hPp (hSm.same (K' := K) (cn' := cn) (ar' := (va_up (va_up (va_up ar 9 (upd (ar 9) j0 (((ar 9) j0) + 0))) 8 (upd (ar 8) j0 (((ar 8) j0) - p2))) 8 (upd (upd (ar 8) j0 (((ar 8) j0) - p2)) j1 (((upd (ar 8) j0 (((ar 8) j0) - p2)) j1) + p2)))) rfl rfl rfl rfl rfl rfl rfl rfl) ec9 er9 hfr⟩
          · refine lv_aload hx hb dX1_amend_73 (lv_at hl 1 rfl) ?_
            refine r_getN (ci := 1) hF in_X2 hG hM (PicP.ac hPp (k := j0) (by omega)) rfl 5 (by decide) q93 (fun _ h => h) (.int ((ar 9) j0)) rfl dX1_amend_75 ?_
            refine lv_iload_n hx hb dX1_amend_78 rfl (lv_at hl 5 rfl) ?_
            refine lv_iadd hx hb dX1_amend_79 ?_
            refine lv_aload hx hb dX1_amend_80 (lv_at hl 1 rfl) ?_
            refine r_getN (ci := 1) hF in_X2 hG hM (PicP.ac hPp (k := j0) (by omega)) rfl 3 (by decide) q90 (fun _ h => h) (.int ((ar 7) j0)) rfl dX1_amend_82 ?_
            refine lv_bipush (v := 10) hx hb dX1_amend_85 (by decide) ?_
            refine lv_idiv hx hb dX1_amend_87 (by decide) ?_
            refine lv_icmp_gt (tgt := 95) hx hb dX1_amend_88 (by decide) (fun c_14 => ?_) (fun c_14 => ?_)
            · have c_14B := Int32.not_le.mpr c_14
              refine lv_iconst (v := 0) hx hb dX1_amend_95 (by decide) ?_
              refine kS (k9 := 5) (n9 := 30) hF hG hz hM hS [.int 0] [] (metX1_checkState hl0 0) (va_cwS 1 hts (lw_S q331 q332 q18 q333) rfl rfl rfl (by decide +kernel) ⟨(Nat.le_of_ble_eq_true rfl), (Nat.le_of_ble_eq_true rfl)⟩) rfl hl.1 rfl (Nat.le_of_ble_eq_true rfl) dX1_amend_96 rfl rfl (Nat.le_of_ble_eq_true rfl) (Nat.le_of_ble_eq_true rfl) (fun cx9 ce9 q9 H locs hx9 hM hS hc1 hc2 hc3 => k_out hno hlocks hG hz hM hS hc1 hc2 hc3 (Or.inr (Or.inr ⟨hx9.1, by simp [tAmend, mayAm, hnj0, hbj0, hnj1, hbj1, h_3, c_4, c_4R, c_5, c_6, c_8, c_8B, (eq_true c_9), c_14, c_14B]⟩)) (Nat.le_of_ble_eq_true rfl) (Nat.le_of_ble_eq_true rfl)) (fun v9 M9_12 H locs hp9 hM9_12 hS => ?_)
              exact absurd rfl hp9.2.1
            · have c_14B := Int32.not_lt.mp c_14
              refine lv_iconst (v := 1) hx hb dX1_amend_91 (by decide) ?_
              refine lv_goto (tgt := 96) hx hb dX1_amend_92 (by decide) ?_
              refine kS (k9 := 5) (n9 := 30) hF hG hz hM hS [.int 1] [] (metX1_checkState hl0 1) (va_cwS 1 hts (lw_S q331 q332 q18 q333) rfl rfl rfl (by decide +kernel) ⟨(Nat.le_of_ble_eq_true rfl), (Nat.le_of_ble_eq_true rfl)⟩) rfl hl.1 rfl (Nat.le_of_ble_eq_true rfl) dX1_amend_96 rfl rfl (Nat.le_of_ble_eq_true rfl) (Nat.le_of_ble_eq_true rfl) (fun cn ce q9 H locs hx9 hM hS hc1 hc2 hc3 => absurd hx9.2 (by decide)) (fun v9 M9_13 H locs hp9 hM9_13 hS => ?_)
              obtain ⟨rfl, -, rfl⟩ := hp9
              have hM := hM9_13
              refine W.eq (g2 := F0 m 99 ls []) rfl ?_
              refine lv_aload hx hb dX1_amend_99 (lv_at hl 1 rfl) ?_
              refine lv_dup hx hb dX1_amend_101 rfl ?_
              refine r_getN (ci := 1) hF in_X2 hG hM (PicP.ac hPp (k := j0) (by omega)) rfl 5 (by decide) q93 (fun _ h => h) (.int ((ar 9) j0)) rfl dX1_amend_102 ?_
              refine lv_iload hx hb dX1_amend_105 (lv_at hl 6 rfl) ?_
              refine lv_if_eq (tgt := 114) hx hb dX1_amend_107 (by decide) (fun _ => ?_) (fun c9 => absurd c_9 c9)
              refine lv_iload_n hx hb dX1_amend_114 rfl (lv_at hl 5 rfl) ?_
              refine lv_iadd hx hb dX1_amend_115 ?_
              refine r_putN (ci := 1) (ty := .int) (v := .int (((ar 9) j0) + p2)) hF in_X2 tyX2 tyX2_ok nmX2 hG hM hS (PicP.ac hPp (k := j0) (by omega)) rfl 5 (by decide) q93 (fun _ h => h) rfl (by decide +kernel) rfl rfl (Nat.le_of_ble_eq_true rfl) dX1_amend_116 (fun H locs hM hS => ?_)
              have hL9 : (abv el ar j0 :: [.ref (ksm K j0), .int ((ar 6) j0), .int ((ar 7) j0), .int ((ar 8) j0), .int (((ar 9) j0) + p2), .int ((ar 10) j0)]) = acF el (ksm K) (va_up ar 9 (upd (ar 9) j0 (((ar 9) j0) + p2))) j0 := by
                simp [acF, abv, paF, adF, va_up, pk_us, show nx 1 = 1 from by decide, show nx 2 = 2 from by decide]
              obtain ⟨M_15, hM, hPp, hfr⟩ := PicP.stepAc (v := (((ar 9) j0) + p2)) 9 j0 (by decide) (by omega) hPp hfr (by rw [← hL9]; exact hM)
              have hPp : PicP E M_15 u0 la el K cn lim (va_up ar 9 (upd (ar 9) j0 (((ar 9) j0) + p2))) := hPp
              refine lv_aload hx hb dX1_amend_119 (lv_at hl 1 rfl) ?_
              refine lv_dup hx hb dX1_amend_121 rfl ?_
              refine r_getN (ci := 1) hF in_X2 hG hM (PicP.ac hPp (k := j0) (by omega)) rfl 4 (by decide) q92 (fun _ h => h) (.int ((ar 8) j0)) rfl dX1_amend_122 ?_
              refine lv_iload_n hx hb dX1_amend_125 rfl (lv_at hl 5 rfl) ?_
              refine lv_isub hx hb dX1_amend_126 ?_
              refine r_putN (ci := 1) (ty := .int) (v := .int (((ar 8) j0) - p2)) hF in_X2 tyX2 tyX2_ok nmX2 hG hM hS (PicP.ac hPp (k := j0) (by omega)) rfl 4 (by decide) q92 (fun _ h => h) rfl (by decide +kernel) rfl rfl (Nat.le_of_ble_eq_true rfl) dX1_amend_127 (fun H locs hM hS => ?_)
              have hL9 : (abv el (va_up ar 9 (upd (ar 9) j0 (((ar 9) j0) + p2))) j0 :: [.ref (ksm K j0), .int ((ar 6) j0), .int ((ar 7) j0), .int (((ar 8) j0) - p2), .int ((upd (ar 9) j0 (((ar 9) j0) + p2)) j0), .int ((ar 10) j0)]) = acF el (ksm K) (va_up (va_up ar 9 (upd (ar 9) j0 (((ar 9) j0) + p2))) 8 (upd ((va_up ar 9 (upd (ar 9) j0 (((ar 9) j0) + p2))) 8) j0 (((ar 8) j0) - p2))) j0 := by
                simp [acF, abv, paF, adF, va_up, pk_us, show nx 1 = 1 from by decide, show nx 2 = 2 from by decide]
              obtain ⟨M_16, hM, hPp, hfr⟩ := PicP.stepAc (v := (((ar 8) j0) - p2)) 8 j0 (by decide) (by omega) hPp hfr (by rw [← hL9]; exact hM)
              have hPp : PicP E M_16 u0 la el K cn lim (va_up (va_up ar 9 (upd (ar 9) j0 (((ar 9) j0) + p2))) 8 (upd (ar 8) j0 (((ar 8) j0) - p2))) := hPp
              refine lv_aload hx hb dX1_amend_130 (lv_at hl 0 rfl) ?_
              refine lv_dup hx hb dX1_amend_132 rfl ?_
              refine r_getN (ci := 1) hF in_X2 hG hM (PicP.ac hPp (k := j1) (by omega)) rfl 4 (by decide) q92 (fun _ h => h) (.int ((upd (ar 8) j0 (((ar 8) j0) - p2)) j1)) rfl dX1_amend_133 ?_
              refine lv_iload_n hx hb dX1_amend_136 rfl (lv_at hl 5 rfl) ?_
              refine lv_iadd hx hb dX1_amend_137 ?_
              refine r_putN (ci := 1) (ty := .int) (v := .int (((upd (ar 8) j0 (((ar 8) j0) - p2)) j1) + p2)) hF in_X2 tyX2 tyX2_ok nmX2 hG hM hS (PicP.ac hPp (k := j1) (by omega)) rfl 4 (by decide) q92 (fun _ h => h) rfl (by decide +kernel) rfl rfl (Nat.le_of_ble_eq_true rfl) dX1_amend_138 (fun H locs hM hS => ?_)
              have hL9 : (abv el (va_up (va_up ar 9 (upd (ar 9) j0 (((ar 9) j0) + p2))) 8 (upd (ar 8) j0 (((ar 8) j0) - p2))) j1 :: [.ref (ksm K j1), .int ((ar 6) j1), .int ((ar 7) j1), .int (((upd (ar 8) j0 (((ar 8) j0) - p2)) j1) + p2), .int ((upd (ar 9) j0 (((ar 9) j0) + p2)) j1), .int ((ar 10) j1)]) = acF el (ksm K) (va_up (va_up (va_up ar 9 (upd (ar 9) j0 (((ar 9) j0) + p2))) 8 (upd (ar 8) j0 (((ar 8) j0) - p2))) 8 (upd ((va_up (va_up ar 9 (upd (ar 9) j0 (((ar 9) j0) + p2))) 8 (upd (ar 8) j0 (((ar 8) j0) - p2))) 8) j1 (((upd (ar 8) j0 (((ar 8) j0) - p2)) j1) + p2))) j1 := by
                simp [acF, abv, paF, adF, va_up, pk_us, show nx 1 = 1 from by decide, show nx 2 = 2 from by decide]
              obtain ⟨M_17, hM, hPp, hfr⟩ := PicP.stepAc (v := (((upd (ar 8) j0 (((ar 8) j0) - p2)) j1) + p2)) 8 j1 (by decide) (by omega) hPp hfr (by rw [← hL9]; exact hM)
              have hPp : PicP E M_17 u0 la el K cn lim (va_up (va_up (va_up ar 9 (upd (ar 9) j0 (((ar 9) j0) + p2))) 8 (upd (ar 8) j0 (((ar 8) j0) - p2))) 8 (upd (upd (ar 8) j0 (((ar 8) j0) - p2)) j1 (((upd (ar 8) j0 (((ar 8) j0) - p2)) j1) + p2))) := hPp
              refine lv_aload hx hb dX1_amend_141 (lv_at hl 1 rfl) ?_
              refine kV (k9 := 5) (n9 := 30) hF hG hz hM hS [] [] (metX2_left hPp (k := j0) (by omega)) (cwV 0 hts (lw_V q582 q583 q584 q22 q585) rfl rfl rfl (by decide +kernel) ⟨(Nat.le_of_ble_eq_true rfl), (Nat.le_of_ble_eq_true rfl)⟩) (k_recv hG hM (PicP.ac hPp (k := j0) (by omega)) (ci := 1) rfl) rfl hl.1 rfl (Nat.le_of_ble_eq_true rfl) dX1_amend_143 rfl rfl (Nat.le_of_ble_eq_true rfl) (Nat.le_of_ble_eq_true rfl) (fun _ _ _ _ _ h9 _ _ _ _ _ => h9.elim) (fun v9 M9_14 H locs hp9 hM9_14 hS => ?_)
              obtain ⟨r_18, rfl, r_18_e, rfl⟩ := hp9
              have hM := hM9_14
              subst r_18_e
              refine W.eq (g2 := F0 m 146 ls [.int (lef (va_up (va_up (va_up ar 9 (upd (ar 9) j0 (((ar 9) j0) + p2))) 8 (upd (ar 8) j0 (((ar 8) j0) - p2))) 8 (upd (upd (ar 8) j0 (((ar 8) j0) - p2)) j1 (((upd (ar 8) j0 (((ar 8) j0) - p2)) j1) + p2))) j0)]) rfl ?_
              have er8 : rAmend ar (nx (nI j0)) (nx (nI j1)) p2 p3 = (va_up (va_up (va_up ar 9 (upd (ar 9) j0 (((ar 9) j0) + p2))) 8 (upd (ar 8) j0 (((ar 8) j0) - p2))) 8 (upd (upd (ar 8) j0 (((ar 8) j0) - p2)) j1 (((upd (ar 8) j0 (((ar 8) j0) - p2)) j1) + p2))) := by (unfold rAmend; rw [hnj0, hnj1, bx_uu, va_up_comm (i := 9) (j := 8) (by decide)]; simp [hnj0, hbj0, hnj1, hbj1, h_3, c_4, c_4R, c_5, c_6, c_8, c_8B, (eq_true c_9), c_14, c_14B])
              have ht9 : tAmend cn ar (nI j0) (nI j1) p2 p3 = (0 : Int32) := by simp [tAmend, mayAm, hnj0, hbj0, hnj1, hbj1, h_3, c_4, c_4R, c_5, c_6, c_8, c_8B, (eq_true c_9), c_14, c_14B]
              have ha9 : (lef (va_up (va_up (va_up ar 9 (upd (ar 9) j0 (((ar 9) j0) + p2))) 8 (upd (ar 8) j0 (((ar 8) j0) - p2))) 8 (upd (upd (ar 8) j0 (((ar 8) j0) - p2)) j1 (((upd (ar 8) j0 (((ar 8) j0) - p2)) j1) + p2))) j0) = lef (rAmend ar (nx (nI j0)) (nx (nI j1)) p2 p3) (nx (nI j0)) := by rw [er8, hnj0]
              have er9 : rAmend ar (nx (nI j0)) (nx (nI j1)) p2 p3 = (va_up (va_up (va_up ar 9 (upd (ar 9) j0 (((ar 9) j0) + p2))) 8 (upd (ar 8) j0 (((ar 8) j0) - p2))) 8 (upd (upd (ar 8) j0 (((ar 8) j0) - p2)) j1 (((upd (ar 8) j0 (((ar 8) j0) - p2)) j1) + p2))) := by exact er8
              have ec9 : cn = cn := by rfl
              exact k_iret hx hb hr rfl hlocks hG hz hM hS (Nat.le_of_ble_eq_true rfl) (Nat.le_of_ble_eq_true rfl) dX1_amend_146 ⟨_, rfl, pPost.ok ht9 ha9 hPp (hSm.same (K' := K) (cn' := cn) (ar' := (va_up (va_up (va_up ar 9 (upd (ar 9) j0 (((ar 9) j0) + p2))) 8 (upd (ar 8) j0 (((ar 8) j0) - p2))) 8 (upd (upd (ar 8) j0 (((ar 8) j0) - p2)) j1 (((upd (ar 8) j0 (((ar 8) j0) - p2)) j1) + p2)))) rfl rfl rfl rfl rfl rfl rfl rfl) ec9 er9 hfr⟩
set_option maxHeartbeats 4000000 in
set_option maxRecDepth 100000 in
theorem metX1_canEnter {l : Launch} {z : Nat} {E : EE} {M : MM} {u0 : Nat} {la : Nat → Nat} {el : Nat → Nat → Nat} {K : Kp} {cn : Nat → Nat} {lim : Int32} {ar : Nat → Nat → Int32} (hPp : PicP E M u0 la el K cn lim ar) (hW : WF cn lim ar) (n : Nat) (hn : n ≤ 2) : Kt l yX1_canEnter (ws_ yX1_canEnter cX1_canEnter 2 (some .boolean)) ({ frames := 30, cells := 0, slots := 0, locals := 900 } : Room) z E [.ref u0, .int (nI n)] M (pI (fun r M' => bRes (decide (cn 4 < 13 ∧ cn 1 + n ≤ 120)) r ∧ M = M')) xNo 0 0 := by
  refine k_body RX1 (by decide) rfl (Nat.le_of_ble_eq_true rfl) ?_
  intro p e s m args below meth c hx hb hr hml hown hlocks hname hno hts hz hG hM hS ls hl
  have hF : CallFix p m c cX1_canEnter 2 s args lw_all RX1 := ⟨hx, hb, hml, hown, hts⟩
  have hl : lv_has ls 2 [(0, .ref u0), (1, .int (nI n))] := hl
  have hwb := hW.b
  refine lv_aload_n hx hb dX1_canEnter_0 rfl (lv_at hl 0 rfl) ?_
  refine r_get (ci := 0) hF in_X1 hG hM hPp.pu rfl 5 (by decide) q179 (fun _ h => h) (.int (nI (cn 4))) rfl dX1_canEnter_1 ?_
  refine lv_bipush (v := 13) hx hb dX1_canEnter_4 (by decide) ?_
  refine lv_icmp_ge (tgt := 27) hx hb dX1_canEnter_6 (by decide) (fun c_1 => ?_) (fun c_1 => ?_)
  · have c_1R := c_1
    have c_1 : 13 ≤ (cn 4) := (nI_leI (a := 13) (b := (cn 4)) (by omega) (by omega)).mp c_1R
    have c_1B : ¬ ((cn 4) < 13) := by omega
    have c_1RB := Int32.not_lt.mpr c_1R
    refine lv_iconst (v := 0) hx hb dX1_canEnter_27 (by decide) ?_
    exact k_iret hx hb hr rfl hlocks hG hz hM hS (Nat.le_of_ble_eq_true rfl) (Nat.le_of_ble_eq_true rfl) dX1_canEnter_28 ⟨_, rfl, Or.inr ⟨decide_eq_false (by omega), rfl⟩, rfl⟩
  · have c_1R := c_1
    have c_1 : ¬ (13 ≤ (cn 4)) := fun h9 => c_1R ((nI_leI (a := 13) (b := (cn 4)) (by omega) (by omega)).mpr h9)
    have c_1B : (cn 4) < 13 := by omega
    have c_1RB := Int32.not_le.mp c_1R
    refine lv_aload_n hx hb dX1_canEnter_9 rfl (lv_at hl 0 rfl) ?_
    refine r_get (ci := 0) hF in_X1 hG hM hPp.pu rfl 1 (by decide) q175 (fun _ h => h) (.ref (la 1)) rfl dX1_canEnter_10 ?_
    refine kV (k9 := 0) (n9 := 0) hF hG hz hM hS [] [] (metJ2_size (cap := 0) (g := fun _ => none) (hPp.li 1 (by decide))) (cwV 0 hts (lw_V q201 q202 q203 q21 q204) rfl rfl rfl (by decide +kernel) ⟨(Nat.le_of_ble_eq_true rfl), (Nat.le_of_ble_eq_true rfl)⟩) (k_recv hG hM (hPp.li 1 (by decide)) (ci := 6) rfl) rfl hl.1 rfl (Nat.le_of_ble_eq_true rfl) dX1_canEnter_13 rfl rfl (Nat.le_of_ble_eq_true rfl) (Nat.le_of_ble_eq_true rfl) (fun _ _ _ _ _ h9 _ _ _ _ _ => h9.elim) (fun v9 M9_1 H locs hp9 hM9_1 hS => ?_)
    obtain ⟨r_2, rfl, r_2_e, rfl⟩ := hp9
    have hM := hM9_1
    subst r_2_e
    refine W.eq (g2 := F0 m 16 ls [.int (nI (cn 1))]) rfl ?_
    refine lv_iload_n hx hb dX1_canEnter_16 rfl (lv_at hl 1 rfl) ?_
    refine lv_iadd hx hb dX1_canEnter_17 ?_
    rw [nadd]
    refine lv_bipush (v := 120) hx hb dX1_canEnter_18 (by decide) ?_
    refine lv_icmp_gt (tgt := 27) hx hb dX1_canEnter_20 (by decide) (fun c_3 => ?_) (fun c_3 => ?_)
    · have c_3R := c_3
      have c_3 : 120 < ((cn 1) + n) := (nI_ltI (a := 120) (b := ((cn 1) + n)) (by omega) (by omega)).mp c_3R
      have c_3B : ¬ (((cn 1) + n) ≤ 120) := by omega
      have c_3RB := Int32.not_le.mpr c_3R
      refine lv_iconst (v := 0) hx hb dX1_canEnter_27 (by decide) ?_
      exact k_iret hx hb hr rfl hlocks hG hz hM hS (Nat.le_of_ble_eq_true rfl) (Nat.le_of_ble_eq_true rfl) dX1_canEnter_28 ⟨_, rfl, Or.inr ⟨decide_eq_false (by omega), rfl⟩, rfl⟩
    · have c_3R := c_3
      have c_3 : ¬ (120 < ((cn 1) + n)) := fun h9 => c_3R ((nI_ltI (a := 120) (b := ((cn 1) + n)) (by omega) (by omega)).mpr h9)
      have c_3B : ((cn 1) + n) ≤ 120 := by omega
      have c_3RB := Int32.not_lt.mp c_3R
      refine lv_iconst (v := 1) hx hb dX1_canEnter_23 (by decide) ?_
      refine lv_goto (tgt := 28) hx hb dX1_canEnter_24 (by decide) ?_
      exact k_iret hx hb hr rfl hlocks hG hz hM hS (Nat.le_of_ble_eq_true rfl) (Nat.le_of_ble_eq_true rfl) dX1_canEnter_28 ⟨_, rfl, Or.inl ⟨decide_eq_true (by omega), rfl⟩, rfl⟩
set_option maxHeartbeats 4000000 in
set_option maxRecDepth 100000 in
theorem metX11_makes {l : Launch} {z : Nat} {E : EE} {M : MM} {u0 : Nat} {la : Nat → Nat} {el : Nat → Nat → Nat} {K : Kp} {cn : Nat → Nat} {lim : Int32} {ar : Nat → Nat → Int32} (hPp : PicP E M u0 la el K cn lim ar) (hW : WF cn lim ar) {k j : Nat} (hk : k < cn 1) (hj : j < cn 0) : Kt l yX11_makes (ws_ yX11_makes cX11_makes 2 (some .int)) ({ frames := 40, cells := 0, slots := 0, locals := 1200 } : Room) z E [.ref (el 1 k), .ref (el 0 j)] M (pI (fun r M' => r = (if und (ar 0) (ar 2 k) (nI j) = true then ar 4 k else 0) - (if und (ar 0) (ar 3 k) (nI j) = true then ar 4 k else 0) ∧ M = M')) xNo 0 0 := by
  refine k_body RX11 (by decide) rfl (Nat.le_of_ble_eq_true rfl) ?_
  intro p e s m args below meth c hx hb hr hml hown hlocks hname hno hts hz hG hM hS ls hl
  have hF : CallFix p m c cX11_makes 2 s args lw_all RX11 := ⟨hx, hb, hml, hown, hts⟩
  have hl : lv_has ls 2 [(0, .ref (el 1 k)), (1, .ref (el 0 j))] := hl
  have hwb := hW.b
  obtain ⟨⟨a9, ha9, ea9⟩, ⟨b9, hb9, eb9⟩, -, h59⟩ := hW.en (i := k) (by omega)
  by_cases h5 : ar 5 k = 1
  · have hen := hPp.enA (k := k) (by omega) ea9 eb9 (by omega) (by omega) h5
    refine lv_aload_n hx hb dX11_makes_0 rfl (lv_at hl 0 rfl) ?_
    refine kF (k9 := 0) (n9 := 0) (x := enM "to" "()LTownPurse$Account;") hF hG hz hM hS [] [] (metX4_to hen) (va_cwF 0 hts (lw_app (lw_q4 q557 q437 q439 q39) (lw_meth q441)) rfl rfl rfl (hG.fw 0 rfl) (by decide +kernel) ⟨(Nat.le_of_ble_eq_true rfl), (Nat.le_of_ble_eq_true rfl)⟩) hen rfl rfl hl.1 rfl (Nat.le_of_ble_eq_true rfl) dX11_makes_1 rfl rfl (Nat.le_of_ble_eq_true rfl) (Nat.le_of_ble_eq_true rfl) (fun _ _ _ _ _ h9 _ _ _ _ _ => h9.elim) (fun v9 M9_1 H locs hp9 hM9_1 hS => ?_)
    obtain ⟨r_1, rfl, r_1_e, rfl⟩ := hp9
    have hM := hM9_1
    subst r_1_e
    refine W.eq (g2 := F0 m 6 ls [.ref (el 0 a9)]) rfl ?_
    refine lv_aload_n hx hb dX11_makes_6 rfl (lv_at hl 1 rfl) ?_
    refine kV (k9 := 0) (n9 := 0) hF hG hz hM hS [.ref (el 0 j)] [] (metX2_isUnder hPp hW (b := j) (by omega) 13 a9 (by omega) (by omega)) (cwV 1 hts (lw_V q558 q559 q560 q22 q561) rfl rfl rfl (by decide +kernel) ⟨(Nat.le_of_ble_eq_true rfl), (Nat.le_of_ble_eq_true rfl)⟩) (k_recv hG hM (PicP.ac hPp (k := a9) (by omega)) (ci := 1) rfl) rfl hl.1 rfl (Nat.le_of_ble_eq_true rfl) dX11_makes_7 rfl rfl (Nat.le_of_ble_eq_true rfl) (Nat.le_of_ble_eq_true rfl) (fun _ _ _ _ _ h9 _ _ _ _ _ => h9.elim) (fun v9 M9_2 H locs hp9 hM9_2 hS => ?_)
    obtain ⟨r_2, rfl, b_3, rfl⟩ := hp9
    have hM := hM9_2
    rcases b_3 with ⟨b_3, rfl⟩ | ⟨b_3, rfl⟩
    · refine W.eq (g2 := F0 m 10 ls [.int 1]) rfl ?_
      refine lv_if_eq (tgt := 22) hx hb dX11_makes_10 (by decide) (fun c9 => absurd c9 (by decide)) (fun _ => ?_)
      refine lv_aload_n hx hb dX11_makes_13 rfl (lv_at hl 0 rfl) ?_
      refine kF (k9 := 0) (n9 := 0) (x := enM "amount" "()I") hF hG hz hM hS [] [] (metX4_amount hen) (va_cwF 0 hts (lw_app (lw_q4 q564 q466 q468 q39) (lw_meth q470)) rfl rfl rfl (hG.fw 3 rfl) (by decide +kernel) ⟨(Nat.le_of_ble_eq_true rfl), (Nat.le_of_ble_eq_true rfl)⟩) hen rfl rfl hl.1 rfl (Nat.le_of_ble_eq_true rfl) dX11_makes_14 rfl rfl (Nat.le_of_ble_eq_true rfl) (Nat.le_of_ble_eq_true rfl) (fun _ _ _ _ _ h9 _ _ _ _ _ => h9.elim) (fun v9 M9_3 H locs hp9 hM9_3 hS => ?_)
      obtain ⟨r_4, rfl, r_4_e, rfl⟩ := hp9
      have hM := hM9_3
      subst r_4_e
      refine W.eq (g2 := F0 m 19 ls [.int (ar 4 k)]) rfl ?_
      refine lv_goto (tgt := 23) hx hb dX11_makes_19 (by decide) ?_
      refine lv_aload_n hx hb dX11_makes_23 rfl (lv_at hl 0 rfl) ?_
      refine kF (k9 := 0) (n9 := 0) (x := enM "from" "()LTownPurse$Account;") hF hG hz hM hS [] [.int (ar 4 k)] (metX4_from hen) (va_cwF 0 hts (lw_app (lw_q4 q566 q485 q487 q39) (lw_meth q489)) rfl rfl rfl (hG.fw 1 rfl) (by decide +kernel) ⟨(Nat.le_of_ble_eq_true rfl), (Nat.le_of_ble_eq_true rfl)⟩) hen rfl rfl hl.1 rfl (Nat.le_of_ble_eq_true rfl) dX11_makes_24 rfl rfl (Nat.le_of_ble_eq_true rfl) (Nat.le_of_ble_eq_true rfl) (fun _ _ _ _ _ h9 _ _ _ _ _ => h9.elim) (fun v9 M9_4 H locs hp9 hM9_4 hS => ?_)
      obtain ⟨r_5, rfl, r_5_e, rfl⟩ := hp9
      have hM := hM9_4
      subst r_5_e
      refine W.eq (g2 := F0 m 29 ls [.ref (el 0 b9), .int (ar 4 k)]) rfl ?_
      refine lv_aload_n hx hb dX11_makes_29 rfl (lv_at hl 1 rfl) ?_
      refine kV (k9 := 0) (n9 := 0) hF hG hz hM hS [.ref (el 0 j)] [.int (ar 4 k)] (metX2_isUnder hPp hW (b := j) (by omega) 13 b9 (by omega) (by omega)) (cwV 1 hts (lw_V q558 q559 q560 q22 q561) rfl rfl rfl (by decide +kernel) ⟨(Nat.le_of_ble_eq_true rfl), (Nat.le_of_ble_eq_true rfl)⟩) (k_recv hG hM (PicP.ac hPp (k := b9) (by omega)) (ci := 1) rfl) rfl hl.1 rfl (Nat.le_of_ble_eq_true rfl) dX11_makes_30 rfl rfl (Nat.le_of_ble_eq_true rfl) (Nat.le_of_ble_eq_true rfl) (fun _ _ _ _ _ h9 _ _ _ _ _ => h9.elim) (fun v9 M9_5 H locs hp9 hM9_5 hS => ?_)
      obtain ⟨r_6, rfl, b_7, rfl⟩ := hp9
      have hM := hM9_5
      rcases b_7 with ⟨b_7, rfl⟩ | ⟨b_7, rfl⟩
      · refine W.eq (g2 := F0 m 33 ls [.int 1, .int (ar 4 k)]) rfl ?_
        refine lv_if_eq (tgt := 45) hx hb dX11_makes_33 (by decide) (fun c9 => absurd c9 (by decide)) (fun _ => ?_)
        refine lv_aload_n hx hb dX11_makes_36 rfl (lv_at hl 0 rfl) ?_
        refine kF (k9 := 0) (n9 := 0) (x := enM "amount" "()I") hF hG hz hM hS [] [.int (ar 4 k)] (metX4_amount hen) (va_cwF 0 hts (lw_app (lw_q4 q564 q466 q468 q39) (lw_meth q470)) rfl rfl rfl (hG.fw 3 rfl) (by decide +kernel) ⟨(Nat.le_of_ble_eq_true rfl), (Nat.le_of_ble_eq_true rfl)⟩) hen rfl rfl hl.1 rfl (Nat.le_of_ble_eq_true rfl) dX11_makes_37 rfl rfl (Nat.le_of_ble_eq_true rfl) (Nat.le_of_ble_eq_true rfl) (fun _ _ _ _ _ h9 _ _ _ _ _ => h9.elim) (fun v9 M9_6 H locs hp9 hM9_6 hS => ?_)
        obtain ⟨r_8, rfl, r_8_e, rfl⟩ := hp9
        have hM := hM9_6
        subst r_8_e
        refine W.eq (g2 := F0 m 42 ls [.int (ar 4 k), .int (ar 4 k)]) rfl ?_
        refine lv_goto (tgt := 46) hx hb dX11_makes_42 (by decide) ?_
        refine lv_isub hx hb dX11_makes_46 ?_
        have ha9 : ((ar 4 k) - (ar 4 k)) = (if und (ar 0) (ar 2 k) (nI j) = true then ar 4 k else 0) - (if und (ar 0) (ar 3 k) (nI j) = true then ar 4 k else 0) := by simp [ea9, eb9, (eq_true h5), b_3, b_7]
        exact k_iret hx hb hr rfl hlocks hG hz hM hS (Nat.le_of_ble_eq_true rfl) (Nat.le_of_ble_eq_true rfl) dX11_makes_47 ⟨_, rfl, ha9, rfl⟩
      · refine W.eq (g2 := F0 m 33 ls [.int 0, .int (ar 4 k)]) rfl ?_
        refine lv_if_eq (tgt := 45) hx hb dX11_makes_33 (by decide) (fun _ => ?_) (fun c9 => absurd (by decide) c9)
        refine lv_iconst (v := 0) hx hb dX11_makes_45 (by decide) ?_
        refine lv_isub hx hb dX11_makes_46 ?_
        have ha9 : ((ar 4 k) - 0) = (if und (ar 0) (ar 2 k) (nI j) = true then ar 4 k else 0) - (if und (ar 0) (ar 3 k) (nI j) = true then ar 4 k else 0) := by simp [ea9, eb9, (eq_true h5), b_3, b_7]
        exact k_iret hx hb hr rfl hlocks hG hz hM hS (Nat.le_of_ble_eq_true rfl) (Nat.le_of_ble_eq_true rfl) dX11_makes_47 ⟨_, rfl, ha9, rfl⟩
    · refine W.eq (g2 := F0 m 10 ls [.int 0]) rfl ?_
      refine lv_if_eq (tgt := 22) hx hb dX11_makes_10 (by decide) (fun _ => ?_) (fun c9 => absurd (by decide) c9)
      refine lv_iconst (v := 0) hx hb dX11_makes_22 (by decide) ?_
      refine lv_aload_n hx hb dX11_makes_23 rfl (lv_at hl 0 rfl) ?_
      refine kF (k9 := 0) (n9 := 0) (x := enM "from" "()LTownPurse$Account;") hF hG hz hM hS [] [.int 0] (metX4_from hen) (va_cwF 0 hts (lw_app (lw_q4 q566 q485 q487 q39) (lw_meth q489)) rfl rfl rfl (hG.fw 1 rfl) (by decide +kernel) ⟨(Nat.le_of_ble_eq_true rfl), (Nat.le_of_ble_eq_true rfl)⟩) hen rfl rfl hl.1 rfl (Nat.le_of_ble_eq_true rfl) dX11_makes_24 rfl rfl (Nat.le_of_ble_eq_true rfl) (Nat.le_of_ble_eq_true rfl) (fun _ _ _ _ _ h9 _ _ _ _ _ => h9.elim) (fun v9 M9_7 H locs hp9 hM9_7 hS => ?_)
      obtain ⟨r_9, rfl, r_9_e, rfl⟩ := hp9
      have hM := hM9_7
      subst r_9_e
      refine W.eq (g2 := F0 m 29 ls [.ref (el 0 b9), .int 0]) rfl ?_
      refine lv_aload_n hx hb dX11_makes_29 rfl (lv_at hl 1 rfl) ?_
      refine kV (k9 := 0) (n9 := 0) hF hG hz hM hS [.ref (el 0 j)] [.int 0] (metX2_isUnder hPp hW (b := j) (by omega) 13 b9 (by omega) (by omega)) (cwV 1 hts (lw_V q558 q559 q560 q22 q561) rfl rfl rfl (by decide +kernel) ⟨(Nat.le_of_ble_eq_true rfl), (Nat.le_of_ble_eq_true rfl)⟩) (k_recv hG hM (PicP.ac hPp (k := b9) (by omega)) (ci := 1) rfl) rfl hl.1 rfl (Nat.le_of_ble_eq_true rfl) dX11_makes_30 rfl rfl (Nat.le_of_ble_eq_true rfl) (Nat.le_of_ble_eq_true rfl) (fun _ _ _ _ _ h9 _ _ _ _ _ => h9.elim) (fun v9 M9_8 H locs hp9 hM9_8 hS => ?_)
      obtain ⟨r_10, rfl, b_11, rfl⟩ := hp9
      have hM := hM9_8
      rcases b_11 with ⟨b_11, rfl⟩ | ⟨b_11, rfl⟩
      · refine W.eq (g2 := F0 m 33 ls [.int 1, .int 0]) rfl ?_
        refine lv_if_eq (tgt := 45) hx hb dX11_makes_33 (by decide) (fun c9 => absurd c9 (by decide)) (fun _ => ?_)
        refine lv_aload_n hx hb dX11_makes_36 rfl (lv_at hl 0 rfl) ?_
        refine kF (k9 := 0) (n9 := 0) (x := enM "amount" "()I") hF hG hz hM hS [] [.int 0] (metX4_amount hen) (va_cwF 0 hts (lw_app (lw_q4 q564 q466 q468 q39) (lw_meth q470)) rfl rfl rfl (hG.fw 3 rfl) (by decide +kernel) ⟨(Nat.le_of_ble_eq_true rfl), (Nat.le_of_ble_eq_true rfl)⟩) hen rfl rfl hl.1 rfl (Nat.le_of_ble_eq_true rfl) dX11_makes_37 rfl rfl (Nat.le_of_ble_eq_true rfl) (Nat.le_of_ble_eq_true rfl) (fun _ _ _ _ _ h9 _ _ _ _ _ => h9.elim) (fun v9 M9_9 H locs hp9 hM9_9 hS => ?_)
        obtain ⟨r_12, rfl, r_12_e, rfl⟩ := hp9
        have hM := hM9_9
        subst r_12_e
        refine W.eq (g2 := F0 m 42 ls [.int (ar 4 k), .int 0]) rfl ?_
        refine lv_goto (tgt := 46) hx hb dX11_makes_42 (by decide) ?_
        refine lv_isub hx hb dX11_makes_46 ?_
        have ha9 : ((0 : Int32) - (ar 4 k)) = (if und (ar 0) (ar 2 k) (nI j) = true then ar 4 k else 0) - (if und (ar 0) (ar 3 k) (nI j) = true then ar 4 k else 0) := by simp [ea9, eb9, (eq_true h5), b_3, b_11]
        exact k_iret hx hb hr rfl hlocks hG hz hM hS (Nat.le_of_ble_eq_true rfl) (Nat.le_of_ble_eq_true rfl) dX11_makes_47 ⟨_, rfl, ha9, rfl⟩
      · refine W.eq (g2 := F0 m 33 ls [.int 0, .int 0]) rfl ?_
        refine lv_if_eq (tgt := 45) hx hb dX11_makes_33 (by decide) (fun _ => ?_) (fun c9 => absurd (by decide) c9)
        refine lv_iconst (v := 0) hx hb dX11_makes_45 (by decide) ?_
        refine lv_isub hx hb dX11_makes_46 ?_
        have ha9 : ((0 : Int32) - 0) = (if und (ar 0) (ar 2 k) (nI j) = true then ar 4 k else 0) - (if und (ar 0) (ar 3 k) (nI j) = true then ar 4 k else 0) := by simp [ea9, eb9, (eq_true h5), b_3, b_11]
        exact k_iret hx hb hr rfl hlocks hG hz hM hS (Nat.le_of_ble_eq_true rfl) (Nat.le_of_ble_eq_true rfl) dX11_makes_47 ⟨_, rfl, ha9, rfl⟩
  · have hen := hPp.enB (k := k) (by omega) ea9 eb9 (by omega) (by omega) h5
    refine lv_aload_n hx hb dX11_makes_0 rfl (lv_at hl 0 rfl) ?_
    refine kF (k9 := 0) (n9 := 0) (x := enM "to" "()LTownPurse$Account;") hF hG hz hM hS [] [] (metX5_to hen) (va_cwF 0 hts (lw_app (lw_q4 q557 q443 q445 q40) (lw_meth q447)) rfl rfl rfl (hG.fw 5 rfl) (by decide +kernel) ⟨(Nat.le_of_ble_eq_true rfl), (Nat.le_of_ble_eq_true rfl)⟩) hen rfl rfl hl.1 rfl (Nat.le_of_ble_eq_true rfl) dX11_makes_1 rfl rfl (Nat.le_of_ble_eq_true rfl) (Nat.le_of_ble_eq_true rfl) (fun _ _ _ _ _ h9 _ _ _ _ _ => h9.elim) (fun v9 M9_10 H locs hp9 hM9_10 hS => ?_)
    obtain ⟨r_13, rfl, r_13_e, rfl⟩ := hp9
    have hM := hM9_10
    subst r_13_e
    refine W.eq (g2 := F0 m 6 ls [.ref (el 0 a9)]) rfl ?_
    refine lv_aload_n hx hb dX11_makes_6 rfl (lv_at hl 1 rfl) ?_
    refine kV (k9 := 0) (n9 := 0) hF hG hz hM hS [.ref (el 0 j)] [] (metX2_isUnder hPp hW (b := j) (by omega) 13 a9 (by omega) (by omega)) (cwV 1 hts (lw_V q558 q559 q560 q22 q561) rfl rfl rfl (by decide +kernel) ⟨(Nat.le_of_ble_eq_true rfl), (Nat.le_of_ble_eq_true rfl)⟩) (k_recv hG hM (PicP.ac hPp (k := a9) (by omega)) (ci := 1) rfl) rfl hl.1 rfl (Nat.le_of_ble_eq_true rfl) dX11_makes_7 rfl rfl (Nat.le_of_ble_eq_true rfl) (Nat.le_of_ble_eq_true rfl) (fun _ _ _ _ _ h9 _ _ _ _ _ => h9.elim) (fun v9 M9_11 H locs hp9 hM9_11 hS => ?_)
    obtain ⟨r_14, rfl, b_15, rfl⟩ := hp9
    have hM := hM9_11
    rcases b_15 with ⟨b_15, rfl⟩ | ⟨b_15, rfl⟩
    · refine W.eq (g2 := F0 m 10 ls [.int 1]) rfl ?_
      refine lv_if_eq (tgt := 22) hx hb dX11_makes_10 (by decide) (fun c9 => absurd c9 (by decide)) (fun _ => ?_)
      refine lv_aload_n hx hb dX11_makes_13 rfl (lv_at hl 0 rfl) ?_
      refine kF (k9 := 0) (n9 := 0) (x := enM "amount" "()I") hF hG hz hM hS [] [] (metX5_amount hen) (va_cwF 0 hts (lw_app (lw_q4 q564 q471 q473 q40) (lw_meth q475)) rfl rfl rfl (hG.fw 8 rfl) (by decide +kernel) ⟨(Nat.le_of_ble_eq_true rfl), (Nat.le_of_ble_eq_true rfl)⟩) hen rfl rfl hl.1 rfl (Nat.le_of_ble_eq_true rfl) dX11_makes_14 rfl rfl (Nat.le_of_ble_eq_true rfl) (Nat.le_of_ble_eq_true rfl) (fun _ _ _ _ _ h9 _ _ _ _ _ => h9.elim) (fun v9 M9_12 H locs hp9 hM9_12 hS => ?_)
      obtain ⟨r_16, rfl, r_16_e, rfl⟩ := hp9
      have hM := hM9_12
      subst r_16_e
      refine W.eq (g2 := F0 m 19 ls [.int (ar 4 k)]) rfl ?_
      refine lv_goto (tgt := 23) hx hb dX11_makes_19 (by decide) ?_
      refine lv_aload_n hx hb dX11_makes_23 rfl (lv_at hl 0 rfl) ?_
      refine kF (k9 := 0) (n9 := 0) (x := enM "from" "()LTownPurse$Account;") hF hG hz hM hS [] [.int (ar 4 k)] (metX5_from hen) (va_cwF 0 hts (lw_app (lw_q4 q566 q490 q492 q40) (lw_meth q494)) rfl rfl rfl (hG.fw 6 rfl) (by decide +kernel) ⟨(Nat.le_of_ble_eq_true rfl), (Nat.le_of_ble_eq_true rfl)⟩) hen rfl rfl hl.1 rfl (Nat.le_of_ble_eq_true rfl) dX11_makes_24 rfl rfl (Nat.le_of_ble_eq_true rfl) (Nat.le_of_ble_eq_true rfl) (fun _ _ _ _ _ h9 _ _ _ _ _ => h9.elim) (fun v9 M9_13 H locs hp9 hM9_13 hS => ?_)
      obtain ⟨r_17, rfl, r_17_e, rfl⟩ := hp9
      have hM := hM9_13
      subst r_17_e
      refine W.eq (g2 := F0 m 29 ls [.ref (el 0 b9), .int (ar 4 k)]) rfl ?_
      refine lv_aload_n hx hb dX11_makes_29 rfl (lv_at hl 1 rfl) ?_
      refine kV (k9 := 0) (n9 := 0) hF hG hz hM hS [.ref (el 0 j)] [.int (ar 4 k)] (metX2_isUnder hPp hW (b := j) (by omega) 13 b9 (by omega) (by omega)) (cwV 1 hts (lw_V q558 q559 q560 q22 q561) rfl rfl rfl (by decide +kernel) ⟨(Nat.le_of_ble_eq_true rfl), (Nat.le_of_ble_eq_true rfl)⟩) (k_recv hG hM (PicP.ac hPp (k := b9) (by omega)) (ci := 1) rfl) rfl hl.1 rfl (Nat.le_of_ble_eq_true rfl) dX11_makes_30 rfl rfl (Nat.le_of_ble_eq_true rfl) (Nat.le_of_ble_eq_true rfl) (fun _ _ _ _ _ h9 _ _ _ _ _ => h9.elim) (fun v9 M9_14 H locs hp9 hM9_14 hS => ?_)
      obtain ⟨r_18, rfl, b_19, rfl⟩ := hp9
      have hM := hM9_14
      rcases b_19 with ⟨b_19, rfl⟩ | ⟨b_19, rfl⟩
      · refine W.eq (g2 := F0 m 33 ls [.int 1, .int (ar 4 k)]) rfl ?_
        refine lv_if_eq (tgt := 45) hx hb dX11_makes_33 (by decide) (fun c9 => absurd c9 (by decide)) (fun _ => ?_)
        refine lv_aload_n hx hb dX11_makes_36 rfl (lv_at hl 0 rfl) ?_
        refine kF (k9 := 0) (n9 := 0) (x := enM "amount" "()I") hF hG hz hM hS [] [.int (ar 4 k)] (metX5_amount hen) (va_cwF 0 hts (lw_app (lw_q4 q564 q471 q473 q40) (lw_meth q475)) rfl rfl rfl (hG.fw 8 rfl) (by decide +kernel) ⟨(Nat.le_of_ble_eq_true rfl), (Nat.le_of_ble_eq_true rfl)⟩) hen rfl rfl hl.1 rfl (Nat.le_of_ble_eq_true rfl) dX11_makes_37 rfl rfl (Nat.le_of_ble_eq_true rfl) (Nat.le_of_ble_eq_true rfl) (fun _ _ _ _ _ h9 _ _ _ _ _ => h9.elim) (fun v9 M9_15 H locs hp9 hM9_15 hS => ?_)
        obtain ⟨r_20, rfl, r_20_e, rfl⟩ := hp9
        have hM := hM9_15
        subst r_20_e
        refine W.eq (g2 := F0 m 42 ls [.int (ar 4 k), .int (ar 4 k)]) rfl ?_
        refine lv_goto (tgt := 46) hx hb dX11_makes_42 (by decide) ?_
        refine lv_isub hx hb dX11_makes_46 ?_
        have ha9 : ((ar 4 k) - (ar 4 k)) = (if und (ar 0) (ar 2 k) (nI j) = true then ar 4 k else 0) - (if und (ar 0) (ar 3 k) (nI j) = true then ar 4 k else 0) := by simp [ea9, eb9, h5, b_15, b_19]
        exact k_iret hx hb hr rfl hlocks hG hz hM hS (Nat.le_of_ble_eq_true rfl) (Nat.le_of_ble_eq_true rfl) dX11_makes_47 ⟨_, rfl, ha9, rfl⟩
      · refine W.eq (g2 := F0 m 33 ls [.int 0, .int (ar 4 k)]) rfl ?_
        refine lv_if_eq (tgt := 45) hx hb dX11_makes_33 (by decide) (fun _ => ?_) (fun c9 => absurd (by decide) c9)
        refine lv_iconst (v := 0) hx hb dX11_makes_45 (by decide) ?_
        refine lv_isub hx hb dX11_makes_46 ?_
        have ha9 : ((ar 4 k) - 0) = (if und (ar 0) (ar 2 k) (nI j) = true then ar 4 k else 0) - (if und (ar 0) (ar 3 k) (nI j) = true then ar 4 k else 0) := by simp [ea9, eb9, h5, b_15, b_19]
        exact k_iret hx hb hr rfl hlocks hG hz hM hS (Nat.le_of_ble_eq_true rfl) (Nat.le_of_ble_eq_true rfl) dX11_makes_47 ⟨_, rfl, ha9, rfl⟩
    · refine W.eq (g2 := F0 m 10 ls [.int 0]) rfl ?_
      refine lv_if_eq (tgt := 22) hx hb dX11_makes_10 (by decide) (fun _ => ?_) (fun c9 => absurd (by decide) c9)
      refine lv_iconst (v := 0) hx hb dX11_makes_22 (by decide) ?_
      refine lv_aload_n hx hb dX11_makes_23 rfl (lv_at hl 0 rfl) ?_
      refine kF (k9 := 0) (n9 := 0) (x := enM "from" "()LTownPurse$Account;") hF hG hz hM hS [] [.int 0] (metX5_from hen) (va_cwF 0 hts (lw_app (lw_q4 q566 q490 q492 q40) (lw_meth q494)) rfl rfl rfl (hG.fw 6 rfl) (by decide +kernel) ⟨(Nat.le_of_ble_eq_true rfl), (Nat.le_of_ble_eq_true rfl)⟩) hen rfl rfl hl.1 rfl (Nat.le_of_ble_eq_true rfl) dX11_makes_24 rfl rfl (Nat.le_of_ble_eq_true rfl) (Nat.le_of_ble_eq_true rfl) (fun _ _ _ _ _ h9 _ _ _ _ _ => h9.elim) (fun v9 M9_16 H locs hp9 hM9_16 hS => ?_)
      obtain ⟨r_21, rfl, r_21_e, rfl⟩ := hp9
      have hM := hM9_16
      subst r_21_e
      refine W.eq (g2 := F0 m 29 ls [.ref (el 0 b9), .int 0]) rfl ?_
      refine lv_aload_n hx hb dX11_makes_29 rfl (lv_at hl 1 rfl) ?_
      refine kV (k9 := 0) (n9 := 0) hF hG hz hM hS [.ref (el 0 j)] [.int 0] (metX2_isUnder hPp hW (b := j) (by omega) 13 b9 (by omega) (by omega)) (cwV 1 hts (lw_V q558 q559 q560 q22 q561) rfl rfl rfl (by decide +kernel) ⟨(Nat.le_of_ble_eq_true rfl), (Nat.le_of_ble_eq_true rfl)⟩) (k_recv hG hM (PicP.ac hPp (k := b9) (by omega)) (ci := 1) rfl) rfl hl.1 rfl (Nat.le_of_ble_eq_true rfl) dX11_makes_30 rfl rfl (Nat.le_of_ble_eq_true rfl) (Nat.le_of_ble_eq_true rfl) (fun _ _ _ _ _ h9 _ _ _ _ _ => h9.elim) (fun v9 M9_17 H locs hp9 hM9_17 hS => ?_)
      obtain ⟨r_22, rfl, b_23, rfl⟩ := hp9
      have hM := hM9_17
      rcases b_23 with ⟨b_23, rfl⟩ | ⟨b_23, rfl⟩
      · refine W.eq (g2 := F0 m 33 ls [.int 1, .int 0]) rfl ?_
        refine lv_if_eq (tgt := 45) hx hb dX11_makes_33 (by decide) (fun c9 => absurd c9 (by decide)) (fun _ => ?_)
        refine lv_aload_n hx hb dX11_makes_36 rfl (lv_at hl 0 rfl) ?_
        refine kF (k9 := 0) (n9 := 0) (x := enM "amount" "()I") hF hG hz hM hS [] [.int 0] (metX5_amount hen) (va_cwF 0 hts (lw_app (lw_q4 q564 q471 q473 q40) (lw_meth q475)) rfl rfl rfl (hG.fw 8 rfl) (by decide +kernel) ⟨(Nat.le_of_ble_eq_true rfl), (Nat.le_of_ble_eq_true rfl)⟩) hen rfl rfl hl.1 rfl (Nat.le_of_ble_eq_true rfl) dX11_makes_37 rfl rfl (Nat.le_of_ble_eq_true rfl) (Nat.le_of_ble_eq_true rfl) (fun _ _ _ _ _ h9 _ _ _ _ _ => h9.elim) (fun v9 M9_18 H locs hp9 hM9_18 hS => ?_)
        obtain ⟨r_24, rfl, r_24_e, rfl⟩ := hp9
        have hM := hM9_18
        subst r_24_e
        refine W.eq (g2 := F0 m 42 ls [.int (ar 4 k), .int 0]) rfl ?_
        refine lv_goto (tgt := 46) hx hb dX11_makes_42 (by decide) ?_
        refine lv_isub hx hb dX11_makes_46 ?_
        have ha9 : ((0 : Int32) - (ar 4 k)) = (if und (ar 0) (ar 2 k) (nI j) = true then ar 4 k else 0) - (if und (ar 0) (ar 3 k) (nI j) = true then ar 4 k else 0) := by simp [ea9, eb9, h5, b_15, b_23]
        exact k_iret hx hb hr rfl hlocks hG hz hM hS (Nat.le_of_ble_eq_true rfl) (Nat.le_of_ble_eq_true rfl) dX11_makes_47 ⟨_, rfl, ha9, rfl⟩
      · refine W.eq (g2 := F0 m 33 ls [.int 0, .int 0]) rfl ?_
        refine lv_if_eq (tgt := 45) hx hb dX11_makes_33 (by decide) (fun _ => ?_) (fun c9 => absurd (by decide) c9)
        refine lv_iconst (v := 0) hx hb dX11_makes_45 (by decide) ?_
        refine lv_isub hx hb dX11_makes_46 ?_
        have ha9 : ((0 : Int32) - 0) = (if und (ar 0) (ar 2 k) (nI j) = true then ar 4 k else 0) - (if und (ar 0) (ar 3 k) (nI j) = true then ar 4 k else 0) := by simp [ea9, eb9, h5, b_15, b_23]
        exact k_iret hx hb hr rfl hlocks hG hz hM hS (Nat.le_of_ble_eq_true rfl) (Nat.le_of_ble_eq_true rfl) dX11_makes_47 ⟨_, rfl, ha9, rfl⟩
set_option maxHeartbeats 4000000 in
set_option maxRecDepth 100000 in
theorem metX1_balance {l : Launch} {z : Nat} {E : EE} {M : MM} (hl0 : l.stackTraces = false) {u0 : Nat} {la : Nat → Nat} {el : Nat → Nat → Nat} {K : Kp} {cn : Nat → Nat} {lim : Int32} {ar : Nat → Nat → Int32} (hPp : PicP E M u0 la el K cn lim ar) (hW : WF cn lim ar) (hSm : Sm K cn ar) (p0 p1 : Int32) : Kt l yX1_balance (ws_ yX1_balance cX1_balance 6 (some .int)) ({ frames := 50, cells := 30, slots := 2000, locals := 1500 } : Room) z E [.ref u0, .int p0, .int p1] M (pI (fun r M' => pPost E M u0 la (tBalance cn p0 p1) (balF ar p0 p1 (cn 1)) (cn) (lim) (ar) r M')) (xP xIO xIA xIO (tBalance cn p0 p1)) 30 2000 := by
  refine k_body RX1 (by decide) rfl (Nat.le_of_ble_eq_true rfl) ?_
  intro p e s m args below meth c hx hb hr hml hown hlocks hname hno hts hz hG hM hS ls hl
  have hF : CallFix p m c cX1_balance 6 s args lw_all RX1 := ⟨hx, hb, hml, hown, hts⟩
  have hl : lv_has ls 6 [(0, .ref u0), (1, .int p0), (2, .int p1)] := hl
  have hfr : Fr kP M M := Fr.rf
  have hwb := hW.b
  refine lv_aload_n hx hb dX1_balance_0 rfl (lv_at hl 0 rfl) ?_
  refine r_get (ci := 0) hF in_X1 hG hM hPp.pu rfl 0 (by decide) q174 (fun _ h => h) (.ref (la 0)) rfl dX1_balance_1 ?_
  refine lv_iload_n hx hb dX1_balance_4 rfl (lv_at hl 1 rfl) ?_
  refine kS (k9 := 1) (n9 := 6) hF hG hz hM hS [.ref (la 0), .int p0] [] (metX1_at hl0 hPp 0 (by decide) (by omega) p0) (va_cwS 2 hts (lw_S q290 q291 q18 q292) rfl rfl rfl (by decide +kernel) ⟨(Nat.le_of_ble_eq_true rfl), (Nat.le_of_ble_eq_true rfl)⟩) rfl hl.1 rfl (Nat.le_of_ble_eq_true rfl) dX1_balance_5 rfl rfl (Nat.le_of_ble_eq_true rfl) (Nat.le_of_ble_eq_true rfl) (fun cx9 ce9 q9 H locs hx9 hM hS hc1 hc2 hc3 => k_out hno hlocks hG hz hM hS hc1 hc2 hc3 (Or.inl ⟨hx9.1, by simp [tBalance, hx9.2]⟩) (Nat.le_of_ble_eq_true rfl) (Nat.le_of_ble_eq_true rfl)) (fun v9 M9_1 H locs hp9 hM9_1 hS => ?_)
  obtain ⟨r_1, rfl, j0, hj0, rfl, rfl, rfl⟩ := hp9
  have hM := hM9_1
  have hnj0 : nx (nI j0) = j0 := nI_clamp (by omega)
  have hbj0 : inB (cn 0) (nI j0) = true := inB_of hj0 (by omega)
  refine W.eq (g2 := F0 m 8 ls [.ref (el 0 j0)]) rfl ?_
  refine r_cast (ci := 1) hF hG hM (PicP.ac hPp (k := j0) (by omega)) rfl q79 dX1_balance_8 ?_
  refine lv_astore_n (lv' := [(3, .ref (el 0 j0)), (0, .ref u0), (1, .int (nI j0)), (2, .int p1)]) hx hb dX1_balance_11 rfl hl (by decide) rfl (fun ls hl => ?_)
  refine lv_iload_n hx hb dX1_balance_12 rfl (lv_at hl 3 rfl) ?_
  refine kS (k9 := 2) (n9 := 12) hF hG hz hM hS [.int p1] [] (metX1_checkPeriod hl0 p1) (va_cwS 1 hts (lw_S q538 q539 q18 q540) rfl rfl rfl (by decide +kernel) ⟨(Nat.le_of_ble_eq_true rfl), (Nat.le_of_ble_eq_true rfl)⟩) rfl hl.1 rfl (Nat.le_of_ble_eq_true rfl) dX1_balance_13 rfl rfl (Nat.le_of_ble_eq_true rfl) (Nat.le_of_ble_eq_true rfl) (fun cx9 ce9 q9 H locs hx9 hM hS hc1 hc2 hc3 => k_out hno hlocks hG hz hM hS hc1 hc2 hc3 (Or.inr (Or.inl ⟨hx9.1, by simp [tBalance, hnj0, hbj0, hx9.2]⟩)) (Nat.le_of_ble_eq_true rfl) (Nat.le_of_ble_eq_true rfl)) (fun v9 M9_2 H locs hp9 hM9_2 hS => ?_)
  obtain ⟨rfl, h_2, rfl⟩ := hp9
  have hM := hM9_2
  refine W.eq (g2 := F0 m 16 ls []) rfl ?_
  obtain ⟨t1, ht1, rfl⟩ := inR_13 h_2
  refine lv_iconst (v := 0) hx hb dX1_balance_16 (by decide) ?_
  refine lv_istore (lv' := [(4, .int 0), (3, .ref (el 0 j0)), (0, .ref u0), (1, .int (nI j0)), (2, .int (nI t1))]) hx hb dX1_balance_17 hl (by decide) rfl (fun ls hl => ?_)
  refine lv_iconst (v := 0) hx hb dX1_balance_19 (by decide) ?_
  refine lv_istore (lv' := [(5, .int 0), (4, .int 0), (3, .ref (el 0 j0)), (0, .ref u0), (1, .int (nI j0)), (2, .int (nI t1))]) hx hb dX1_balance_20 hl (by decide) rfl (fun ls hl => ?_)
  have loop : ∀ (n k : Nat), k ≤ (t1 + 1) → (t1 + 1) - k < n → ∀ (H : Heap) (locs : List Loc), Mod z E M H → va_S (zA z) s.heap H locs → ∀ (ls : Array Slot), lv_has ls 6 [(5, .int (nI k)), (4, .int (suF (ksc K j0) k)), (3, .ref (el 0 j0)), (0, .ref u0), (1, .int (nI j0)), (2, .int (nI t1))] → W p l e ({ frames := 50, cells := 30, slots := 2000, locals := 1500 } : Room) s m args below meth c H locs 2 12 (vx_MQ below (Qg z E (pI (fun r M' => pPost E M u0 la (tBalance cn (nI j0) (nI t1)) (balF ar (nI j0) (nI t1) (cn 1)) (cn) (lim) (ar) r M'))) (XCm z E M (xP xIO xIA xIO (tBalance cn (nI j0) (nI t1)))) args s 30 2000 (zA z)) (F0 m 22 ls []) := by
    intro n
    induction n with
    | zero => intro k h1 h2; omega
    | succ n ih =>
      intro k hk1 hk2 H locs hM hS ls hl
      refine lv_iload hx hb dX1_balance_22 (lv_at hl 0 rfl) ?_
      refine lv_iload_n hx hb dX1_balance_24 rfl (lv_at hl 5 rfl) ?_
      refine lv_icmp_gt (tgt := 46) hx hb dX1_balance_25 (by decide) (fun c_3 => ?_) (fun c_3 => ?_)
      · have c_3R := c_3
        have c_3 : t1 < k := (nI_ltI (a := t1) (b := k) (by omega) (by omega)).mp c_3R
        have c_3B : ¬ (k ≤ t1) := by omega
        have c_3RB := Int32.not_le.mpr c_3R
        refine lv_iload hx hb dX1_balance_46 (lv_at hl 1 rfl) ?_
        have ht9 : tBalance cn (nI j0) (nI t1) = (0 : Int32) := by simp [tBalance, hnj0, hbj0, h_2, c_3, c_3B, c_3R, c_3RB]
        have ha9 : (suF (ksc K j0) k) = balF ar (nI j0) (nI t1) (cn 1) := by (rw [show k = t1 + 1 by omega]; exact bal_eq hW hSm hj0 ht1)
        have er9 : ar = ar := by rfl
        have ec9 : cn = cn := by rfl
        exact k_iret hx hb hr rfl hlocks hG hz hM hS (Nat.le_of_ble_eq_true rfl) (Nat.le_of_ble_eq_true rfl) dX1_balance_48 ⟨_, rfl, pPost.ok ht9 ha9 hPp (hSm.same (K' := K) (cn' := cn) (ar' := ar) rfl rfl rfl rfl rfl rfl rfl rfl) ec9 er9 hfr⟩
      · have c_3R := c_3
        have c_3 : ¬ (t1 < k) := fun h9 => c_3R ((nI_ltI (a := t1) (b := k) (by omega) (by omega)).mpr h9)
        have c_3B : k ≤ t1 := by omega
        have c_3RB := Int32.not_lt.mp c_3R
        refine lv_iload hx hb dX1_balance_28 (lv_at hl 1 rfl) ?_
        refine lv_aload_n hx hb dX1_balance_30 rfl (lv_at hl 2 rfl) ?_
        refine r_getN (ci := 1) hF in_X2 hG hM (PicP.ac hPp (k := j0) (by omega)) rfl 1 (by decide) q87 (fun _ h => h) (.ref (ksm K j0)) rfl dX1_balance_31 ?_
        refine lv_iload hx hb dX1_balance_34 (lv_at hl 0 rfl) ?_
        refine r_ialdN (n := 13) (f := (ksc K j0)) k hF hG hM (PicP.sm hPp (k := j0) (by omega)) (by omega) (by decide) rfl dX1_balance_36 ?_
        refine lv_iadd hx hb dX1_balance_37 ?_
        refine lv_istore (lv' := [(4, .int ((suF (ksc K j0) k) + ((ksc K j0) k))), (5, .int (nI k)), (3, .ref (el 0 j0)), (0, .ref u0), (1, .int (nI j0)), (2, .int (nI t1))]) hx hb dX1_balance_38 hl (by decide) rfl (fun ls hl => ?_)
        refine lv_iinc (v := (nI (k + 1))) (lv' := [(5, .int (nI (k + 1))), (4, .int ((suF (ksc K j0) k) + ((ksc K j0) k))), (3, .ref (el 0 j0)), (0, .ref u0), (1, .int (nI j0)), (2, .int (nI t1))]) hx hb dX1_balance_40 hl (k := 1) rfl (by rw [← nI_1]; rfl) (by decide) rfl (fun ls hl => ?_)
        refine lv_goto (tgt := 22) hx hb dX1_balance_43 (by decide) ?_
        have e_4 : ((suF (ksc K j0) k) + ((ksc K j0) k)) = (suF (ksc K j0) (k + 1)) := by rfl
        rw [e_4] at hl
        exact ih (k + 1) (by omega) (by omega) _ _ hM hS ls (lv_sub hl [0, 1, 2, 3, 4, 5] rfl)
  exact loop ((t1 + 1) + 1) 0 (Nat.zero_le _) (by omega) _ _ hM hS ls (lv_sub hl [0, 1, 2, 3, 4, 5] rfl)
set_option maxHeartbeats 4000000 in
set_option maxRecDepth 100000 in
theorem metX1_balanceByEntries {l : Launch} {z : Nat} {E : EE} {M : MM} (hl0 : l.stackTraces = false) {u0 : Nat} {la : Nat → Nat} {el : Nat → Nat → Nat} {K : Kp} {cn : Nat → Nat} {lim : Int32} {ar : Nat → Nat → Int32} (hPp : PicP E M u0 la el K cn lim ar) (hW : WF cn lim ar) (hSm : Sm K cn ar) (p0 p1 : Int32) : Kt l yX1_balanceByEntries (ws_ yX1_balanceByEntries cX1_balanceByEntries 7 (some .int)) ({ frames := 50, cells := 30, slots := 2000, locals := 1500 } : Room) z E [.ref u0, .int p0, .int p1] M (pI (fun r M' => pPost E M u0 la (tBalance cn p0 p1) (balF ar p0 p1 (cn 1)) (cn) (lim) (ar) r M')) (xP xIO xIA xIO (tBalance cn p0 p1)) 30 2000 := by
  refine k_body RX1 (by decide) rfl (Nat.le_of_ble_eq_true rfl) ?_
  intro p e s m args below meth c hx hb hr hml hown hlocks hname hno hts hz hG hM hS ls hl
  have hF : CallFix p m c cX1_balanceByEntries 7 s args lw_all RX1 := ⟨hx, hb, hml, hown, hts⟩
  have hl : lv_has ls 7 [(0, .ref u0), (1, .int p0), (2, .int p1)] := hl
  have hfr : Fr kP M M := Fr.rf
  have hwb := hW.b
  refine lv_aload_n hx hb dX1_balanceByEntries_0 rfl (lv_at hl 0 rfl) ?_
  refine r_get (ci := 0) hF in_X1 hG hM hPp.pu rfl 0 (by decide) q174 (fun _ h => h) (.ref (la 0)) rfl dX1_balanceByEntries_1 ?_
  refine lv_iload_n hx hb dX1_balanceByEntries_4 rfl (lv_at hl 1 rfl) ?_
  refine kS (k9 := 1) (n9 := 6) hF hG hz hM hS [.ref (la 0), .int p0] [] (metX1_at hl0 hPp 0 (by decide) (by omega) p0) (va_cwS 2 hts (lw_S q290 q291 q18 q292) rfl rfl rfl (by decide +kernel) ⟨(Nat.le_of_ble_eq_true rfl), (Nat.le_of_ble_eq_true rfl)⟩) rfl hl.1 rfl (Nat.le_of_ble_eq_true rfl) dX1_balanceByEntries_5 rfl rfl (Nat.le_of_ble_eq_true rfl) (Nat.le_of_ble_eq_true rfl) (fun cx9 ce9 q9 H locs hx9 hM hS hc1 hc2 hc3 => k_out hno hlocks hG hz hM hS hc1 hc2 hc3 (Or.inl ⟨hx9.1, by simp [tBalance, hx9.2]⟩) (Nat.le_of_ble_eq_true rfl) (Nat.le_of_ble_eq_true rfl)) (fun v9 M9_1 H locs hp9 hM9_1 hS => ?_)
  obtain ⟨r_1, rfl, j0, hj0, rfl, rfl, rfl⟩ := hp9
  have hM := hM9_1
  have hnj0 : nx (nI j0) = j0 := nI_clamp (by omega)
  have hbj0 : inB (cn 0) (nI j0) = true := inB_of hj0 (by omega)
  refine W.eq (g2 := F0 m 8 ls [.ref (el 0 j0)]) rfl ?_
  refine r_cast (ci := 1) hF hG hM (PicP.ac hPp (k := j0) (by omega)) rfl q79 dX1_balanceByEntries_8 ?_
  refine lv_astore_n (lv' := [(3, .ref (el 0 j0)), (0, .ref u0), (1, .int (nI j0)), (2, .int p1)]) hx hb dX1_balanceByEntries_11 rfl hl (by decide) rfl (fun ls hl => ?_)
  refine lv_iload_n hx hb dX1_balanceByEntries_12 rfl (lv_at hl 3 rfl) ?_
  refine kS (k9 := 2) (n9 := 12) hF hG hz hM hS [.int p1] [] (metX1_checkPeriod hl0 p1) (va_cwS 1 hts (lw_S q538 q539 q18 q540) rfl rfl rfl (by decide +kernel) ⟨(Nat.le_of_ble_eq_true rfl), (Nat.le_of_ble_eq_true rfl)⟩) rfl hl.1 rfl (Nat.le_of_ble_eq_true rfl) dX1_balanceByEntries_13 rfl rfl (Nat.le_of_ble_eq_true rfl) (Nat.le_of_ble_eq_true rfl) (fun cx9 ce9 q9 H locs hx9 hM hS hc1 hc2 hc3 => k_out hno hlocks hG hz hM hS hc1 hc2 hc3 (Or.inr (Or.inl ⟨hx9.1, by simp [tBalance, hnj0, hbj0, hx9.2]⟩)) (Nat.le_of_ble_eq_true rfl) (Nat.le_of_ble_eq_true rfl)) (fun v9 M9_2 H locs hp9 hM9_2 hS => ?_)
  obtain ⟨rfl, h_2, rfl⟩ := hp9
  have hM := hM9_2
  refine W.eq (g2 := F0 m 16 ls []) rfl ?_
  refine lv_iconst (v := 0) hx hb dX1_balanceByEntries_16 (by decide) ?_
  refine lv_istore (lv' := [(4, .int 0), (3, .ref (el 0 j0)), (0, .ref u0), (1, .int (nI j0)), (2, .int p1)]) hx hb dX1_balanceByEntries_17 hl (by decide) rfl (fun ls hl => ?_)
  refine lv_iconst (v := 0) hx hb dX1_balanceByEntries_19 (by decide) ?_
  refine lv_istore (lv' := [(5, .int 0), (4, .int 0), (3, .ref (el 0 j0)), (0, .ref u0), (1, .int (nI j0)), (2, .int p1)]) hx hb dX1_balanceByEntries_20 hl (by decide) rfl (fun ls hl => ?_)
  have loop : ∀ (n k : Nat), k ≤ (cn 1) → (cn 1) - k < n → ∀ (H : Heap) (locs : List Loc), Mod z E M H → va_S (zA z) s.heap H locs → ∀ (ls : Array Slot), lv_has ls 7 [(5, .int (nI k)), (4, .int (balF ar (nI j0) p1 k)), (3, .ref (el 0 j0)), (0, .ref u0), (1, .int (nI j0)), (2, .int p1)] → W p l e ({ frames := 50, cells := 30, slots := 2000, locals := 1500 } : Room) s m args below meth c H locs 2 12 (vx_MQ below (Qg z E (pI (fun r M' => pPost E M u0 la (tBalance cn (nI j0) p1) (balF ar (nI j0) p1 (cn 1)) (cn) (lim) (ar) r M'))) (XCm z E M (xP xIO xIA xIO (tBalance cn (nI j0) p1))) args s 30 2000 (zA z)) (F0 m 22 ls []) := by
    intro n
    induction n with
    | zero => intro k h1 h2; omega
    | succ n ih =>
      intro k hk1 hk2 H locs hM hS ls hl
      refine lv_iload hx hb dX1_balanceByEntries_22 (lv_at hl 0 rfl) ?_
      refine lv_aload_n hx hb dX1_balanceByEntries_24 rfl (lv_at hl 3 rfl) ?_
      refine r_get (ci := 0) hF in_X1 hG hM hPp.pu rfl 1 (by decide) q175 (fun _ h => h) (.ref (la 1)) rfl dX1_balanceByEntries_25 ?_
      refine kV (k9 := 2) (n9 := 12) hF hG hz hM hS [] [.int (nI k)] (metJ2_size (cap := 0) (g := fun _ => none) (hPp.li 1 (by decide))) (cwV 0 hts (lw_V q201 q202 q203 q21 q204) rfl rfl rfl (by decide +kernel) ⟨(Nat.le_of_ble_eq_true rfl), (Nat.le_of_ble_eq_true rfl)⟩) (k_recv hG hM (hPp.li 1 (by decide)) (ci := 6) rfl) rfl hl.1 rfl (Nat.le_of_ble_eq_true rfl) dX1_balanceByEntries_28 rfl rfl (Nat.le_of_ble_eq_true rfl) (Nat.le_of_ble_eq_true rfl) (fun _ _ _ _ _ h9 _ _ _ _ _ => h9.elim) (fun v9 M9_3 H locs hp9 hM9_3 hS => ?_)
      obtain ⟨r_3, rfl, r_3_e, rfl⟩ := hp9
      have hM := hM9_3
      subst r_3_e
      refine W.eq (g2 := F0 m 31 ls [.int (nI (cn 1)), .int (nI k)]) rfl ?_
      refine lv_icmp_ge (tgt := 82) hx hb dX1_balanceByEntries_31 (by decide) (fun c_4 => ?_) (fun c_4 => ?_)
      · have c_4R := c_4
        have c_4 : (cn 1) ≤ k := (nI_leI (a := (cn 1)) (b := k) (by omega) (by omega)).mp c_4R
        have c_4B : ¬ (k < (cn 1)) := by omega
        have c_4RB := Int32.not_lt.mpr c_4R
        refine lv_iload hx hb dX1_balanceByEntries_82 (lv_at hl 1 rfl) ?_
        have ht9 : tBalance cn (nI j0) p1 = (0 : Int32) := by simp [tBalance, hnj0, hbj0, h_2, c_4, c_4B, c_4R, c_4RB]
        have ha9 : (balF ar (nI j0) p1 k) = balF ar (nI j0) p1 (cn 1) := by (rw [show k = cn 1 by omega])
        have er9 : ar = ar := by rfl
        have ec9 : cn = cn := by rfl
        exact k_iret hx hb hr rfl hlocks hG hz hM hS (Nat.le_of_ble_eq_true rfl) (Nat.le_of_ble_eq_true rfl) dX1_balanceByEntries_84 ⟨_, rfl, pPost.ok ht9 ha9 hPp (hSm.same (K' := K) (cn' := cn) (ar' := ar) rfl rfl rfl rfl rfl rfl rfl rfl) ec9 er9 hfr⟩
      · have c_4R := c_4
        have c_4 : ¬ ((cn 1) ≤ k) := fun h9 => c_4R ((nI_leI (a := (cn 1)) (b := k) (by omega) (by omega)).mpr h9)
        have c_4B : k < (cn 1) := by omega
        have c_4RB := Int32.not_le.mp c_4R
        refine lv_aload_n hx hb dX1_balanceByEntries_34 rfl (lv_at hl 3 rfl) ?_
        refine r_get (ci := 0) hF in_X1 hG hM hPp.pu rfl 1 (by decide) q175 (fun _ h => h) (.ref (la 1)) rfl dX1_balanceByEntries_35 ?_
        refine lv_iload hx hb dX1_balanceByEntries_38 (lv_at hl 0 rfl) ?_
        have g_5 : k < (cn 1) := by omega
        refine kV (k9 := 2) (n9 := 12) hF hG hz hM hS [.int (nI k)] [] (metJ2_get (hPp.li 1 (by decide)) (hPp.dat 1 (by decide) g_5).1 k (hPp.gel 1 (by decide) g_5) g_5 (hPp.dat 1 (by decide) g_5).2.1 (hPp.dat 1 (by decide) g_5).2.2) (cwV 1 hts (lw_V q317 q318 q319 q21 q320) rfl rfl rfl (by decide +kernel) ⟨(Nat.le_of_ble_eq_true rfl), (Nat.le_of_ble_eq_true rfl)⟩) (k_recv hG hM (hPp.li 1 (by decide)) (ci := 6) rfl) rfl hl.1 rfl (Nat.le_of_ble_eq_true rfl) dX1_balanceByEntries_40 rfl rfl (Nat.le_of_ble_eq_true rfl) (Nat.le_of_ble_eq_true rfl) (fun _ _ _ _ _ h9 _ _ _ _ _ => h9.elim) (fun v9 M9_4 H locs hp9 hM9_4 hS => ?_)
        obtain ⟨r_6, rfl, r_6_e, rfl⟩ := hp9
        have hM := hM9_4
        subst r_6_e
        refine W.eq (g2 := F0 m 43 ls [.ref (el 1 k)]) rfl ?_
        obtain ⟨⟨a9, ha9, ea9⟩, ⟨b9, hb9, eb9⟩, -, h59⟩ := hW.en (i := k) (by omega)
        by_cases h5 : ar 5 k = 1
        · have hen := hPp.enA (k := k) (by omega) ea9 eb9 (by omega) (by omega) h5
          refine r_castF (ci := 2) hF hG hM hen rfl q509 q436 dX1_balanceByEntries_43 ?_
          refine lv_astore (lv' := [(6, .ref (el 1 k)), (5, .int (nI k)), (4, .int (balF ar (nI j0) p1 k)), (3, .ref (el 0 j0)), (0, .ref u0), (1, .int (nI j0)), (2, .int p1)]) hx hb dX1_balanceByEntries_46 hl (by decide) rfl (fun ls hl => ?_)
          refine lv_iload hx hb dX1_balanceByEntries_48 (lv_at hl 2 rfl) ?_
          refine lv_aload hx hb dX1_balanceByEntries_50 (lv_at hl 0 rfl) ?_
          refine kF (k9 := 2) (n9 := 12) (x := enM "period" "()I") hF hG hz hM hS [] [.int (balF ar (nI j0) p1 k)] (metX4_period hen) (va_cwF 0 hts (lw_app (lw_q4 q449 q452 q454 q39) (lw_meth q456)) rfl rfl rfl (hG.fw 2 rfl) (by decide +kernel) ⟨(Nat.le_of_ble_eq_true rfl), (Nat.le_of_ble_eq_true rfl)⟩) hen rfl rfl hl.1 rfl (Nat.le_of_ble_eq_true rfl) dX1_balanceByEntries_52 rfl rfl (Nat.le_of_ble_eq_true rfl) (Nat.le_of_ble_eq_true rfl) (fun _ _ _ _ _ h9 _ _ _ _ _ => h9.elim) (fun v9 M9_5 H locs hp9 hM9_5 hS => ?_)
          obtain ⟨r_7, rfl, r_7_e, rfl⟩ := hp9
          have hM := hM9_5
          subst r_7_e
          refine W.eq (g2 := F0 m 57 ls [.int (ar 1 k), .int (balF ar (nI j0) p1 k)]) rfl ?_
          refine lv_iload_n hx hb dX1_balanceByEntries_57 rfl (lv_at hl 6 rfl) ?_
          refine lv_icmp_gt (tgt := 72) hx hb dX1_balanceByEntries_58 (by decide) (fun c_8 => ?_) (fun c_8 => ?_)
          · have c_8B := Int32.not_le.mpr c_8
            refine lv_iconst (v := 0) hx hb dX1_balanceByEntries_72 (by decide) ?_
            refine lv_iadd hx hb dX1_balanceByEntries_73 ?_
            refine lv_istore (lv' := [(4, .int ((balF ar (nI j0) p1 k) + 0)), (6, .ref (el 1 k)), (5, .int (nI k)), (3, .ref (el 0 j0)), (0, .ref u0), (1, .int (nI j0)), (2, .int p1)]) hx hb dX1_balanceByEntries_74 hl (by decide) rfl (fun ls hl => ?_)
            refine lv_iinc (v := (nI (k + 1))) (lv' := [(5, .int (nI (k + 1))), (4, .int ((balF ar (nI j0) p1 k) + 0)), (6, .ref (el 1 k)), (3, .ref (el 0 j0)), (0, .ref u0), (1, .int (nI j0)), (2, .int p1)]) hx hb dX1_balanceByEntries_76 hl (k := 2) rfl (by rw [← nI_1]; rfl) (by decide) rfl (fun ls hl => ?_)
            refine lv_goto (tgt := 22) hx hb dX1_balanceByEntries_79 (by decide) ?_
            have e_9 : ((balF ar (nI j0) p1 k) + 0) = (balF ar (nI j0) p1 (k + 1)) := by (simp [balF, Int32.sub_eq_add_neg, Int32.add_assoc, hnj0, hbj0, h_2, c_4, c_4B, c_4R, c_4RB, (eq_true h5), c_8, c_8B]; done)
            rw [e_9] at hl
            exact ih (k + 1) (by omega) (by omega) _ _ hM hS ls (lv_sub hl [0, 1, 3, 4, 5, 6] rfl)
          · have c_8B := Int32.not_lt.mp c_8
            refine lv_aload hx hb dX1_balanceByEntries_61 (lv_at hl 0 rfl) ?_
            refine lv_aload_n hx hb dX1_balanceByEntries_63 rfl (lv_at hl 3 rfl) ?_
            refine kD (k9 := 2) (n9 := 12) (y := yX11_makes) (x := yX11_makes) hF hG hz hM hS [.ref (el 0 j0)] [.int (balF ar (nI j0) p1 k)] (metX11_makes hPp hW (k := k) (j := j0) (by omega) (by omega)) q549 q553 q968 q555 (by decide +kernel) hG.1.2.2.2.1.1 rfl rfl ⟨(Nat.le_of_ble_eq_true rfl), (Nat.le_of_ble_eq_true rfl)⟩ hen rfl rfl hl.1 rfl (Nat.le_of_ble_eq_true rfl) dX1_balanceByEntries_64 rfl rfl (Nat.le_of_ble_eq_true rfl) (Nat.le_of_ble_eq_true rfl) (fun _ _ _ _ _ h9 _ _ _ _ _ => h9.elim) (fun v9 M9_6 H locs hp9 hM9_6 hS => ?_)
            obtain ⟨r_10, rfl, r_10_e, rfl⟩ := hp9
            have hM := hM9_6
            subst r_10_e
            refine W.eq (g2 := F0 m 69 ls [.int ((if und (ar 0) (ar 2 k) (nI j0) = true then ar 4 k else 0) - (if und (ar 0) (ar 3 k) (nI j0) = true then ar 4 k else 0)), .int (balF ar (nI j0) p1 k)]) rfl ?_
            refine lv_goto (tgt := 73) hx hb dX1_balanceByEntries_69 (by decide) ?_
            refine lv_iadd hx hb dX1_balanceByEntries_73 ?_
            refine lv_istore (lv' := [(4, .int ((balF ar (nI j0) p1 k) + ((if und (ar 0) (ar 2 k) (nI j0) = true then ar 4 k else 0) - (if und (ar 0) (ar 3 k) (nI j0) = true then ar 4 k else 0)))), (6, .ref (el 1 k)), (5, .int (nI k)), (3, .ref (el 0 j0)), (0, .ref u0), (1, .int (nI j0)), (2, .int p1)]) hx hb dX1_balanceByEntries_74 hl (by decide) rfl (fun ls hl => ?_)
            refine lv_iinc (v := (nI (k + 1))) (lv' := [(5, .int (nI (k + 1))), (4, .int ((balF ar (nI j0) p1 k) + ((if und (ar 0) (ar 2 k) (nI j0) = true then ar 4 k else 0) - (if und (ar 0) (ar 3 k) (nI j0) = true then ar 4 k else 0)))), (6, .ref (el 1 k)), (3, .ref (el 0 j0)), (0, .ref u0), (1, .int (nI j0)), (2, .int p1)]) hx hb dX1_balanceByEntries_76 hl (k := 2) rfl (by rw [← nI_1]; rfl) (by decide) rfl (fun ls hl => ?_)
            refine lv_goto (tgt := 22) hx hb dX1_balanceByEntries_79 (by decide) ?_
            have e_11 : ((balF ar (nI j0) p1 k) + ((if und (ar 0) (ar 2 k) (nI j0) = true then ar 4 k else 0) - (if und (ar 0) (ar 3 k) (nI j0) = true then ar 4 k else 0))) = (balF ar (nI j0) p1 (k + 1)) := by (simp [balF, Int32.sub_eq_add_neg, Int32.add_assoc, hnj0, hbj0, h_2, c_4, c_4B, c_4R, c_4RB, (eq_true h5), c_8, c_8B]; done)
            rw [e_11] at hl
            exact ih (k + 1) (by omega) (by omega) _ _ hM hS ls (lv_sub hl [0, 1, 3, 4, 5, 6] rfl)
        · have hen := hPp.enB (k := k) (by omega) ea9 eb9 (by omega) (by omega) h5
          refine r_castF (ci := 3) hF hG hM hen rfl q509 q442 dX1_balanceByEntries_43 ?_
          refine lv_astore (lv' := [(6, .ref (el 1 k)), (5, .int (nI k)), (4, .int (balF ar (nI j0) p1 k)), (3, .ref (el 0 j0)), (0, .ref u0), (1, .int (nI j0)), (2, .int p1)]) hx hb dX1_balanceByEntries_46 hl (by decide) rfl (fun ls hl => ?_)
          refine lv_iload hx hb dX1_balanceByEntries_48 (lv_at hl 2 rfl) ?_
          refine lv_aload hx hb dX1_balanceByEntries_50 (lv_at hl 0 rfl) ?_
          refine kF (k9 := 2) (n9 := 12) (x := enM "period" "()I") hF hG hz hM hS [] [.int (balF ar (nI j0) p1 k)] (metX5_period hen) (va_cwF 0 hts (lw_app (lw_q4 q449 q457 q459 q40) (lw_meth q461)) rfl rfl rfl (hG.fw 7 rfl) (by decide +kernel) ⟨(Nat.le_of_ble_eq_true rfl), (Nat.le_of_ble_eq_true rfl)⟩) hen rfl rfl hl.1 rfl (Nat.le_of_ble_eq_true rfl) dX1_balanceByEntries_52 rfl rfl (Nat.le_of_ble_eq_true rfl) (Nat.le_of_ble_eq_true rfl) (fun _ _ _ _ _ h9 _ _ _ _ _ => h9.elim) (fun v9 M9_7 H locs hp9 hM9_7 hS => ?_)
          obtain ⟨r_12, rfl, r_12_e, rfl⟩ := hp9
          have hM := hM9_7
          subst r_12_e
          refine W.eq (g2 := F0 m 57 ls [.int (ar 1 k), .int (balF ar (nI j0) p1 k)]) rfl ?_
          refine lv_iload_n hx hb dX1_balanceByEntries_57 rfl (lv_at hl 6 rfl) ?_
          refine lv_icmp_gt (tgt := 72) hx hb dX1_balanceByEntries_58 (by decide) (fun c_13 => ?_) (fun c_13 => ?_)
          · have c_13B := Int32.not_le.mpr c_13
            refine lv_iconst (v := 0) hx hb dX1_balanceByEntries_72 (by decide) ?_
            refine lv_iadd hx hb dX1_balanceByEntries_73 ?_
            refine lv_istore (lv' := [(4, .int ((balF ar (nI j0) p1 k) + 0)), (6, .ref (el 1 k)), (5, .int (nI k)), (3, .ref (el 0 j0)), (0, .ref u0), (1, .int (nI j0)), (2, .int p1)]) hx hb dX1_balanceByEntries_74 hl (by decide) rfl (fun ls hl => ?_)
            refine lv_iinc (v := (nI (k + 1))) (lv' := [(5, .int (nI (k + 1))), (4, .int ((balF ar (nI j0) p1 k) + 0)), (6, .ref (el 1 k)), (3, .ref (el 0 j0)), (0, .ref u0), (1, .int (nI j0)), (2, .int p1)]) hx hb dX1_balanceByEntries_76 hl (k := 2) rfl (by rw [← nI_1]; rfl) (by decide) rfl (fun ls hl => ?_)
            refine lv_goto (tgt := 22) hx hb dX1_balanceByEntries_79 (by decide) ?_
            have e_14 : ((balF ar (nI j0) p1 k) + 0) = (balF ar (nI j0) p1 (k + 1)) := by (simp [balF, Int32.sub_eq_add_neg, Int32.add_assoc, hnj0, hbj0, h_2, c_4, c_4B, c_4R, c_4RB, h5, c_13, c_13B]; done)
            rw [e_14] at hl
            exact ih (k + 1) (by omega) (by omega) _ _ hM hS ls (lv_sub hl [0, 1, 3, 4, 5, 6] rfl)
          · have c_13B := Int32.not_lt.mp c_13
            refine lv_aload hx hb dX1_balanceByEntries_61 (lv_at hl 0 rfl) ?_
            refine lv_aload_n hx hb dX1_balanceByEntries_63 rfl (lv_at hl 3 rfl) ?_
            refine kD (k9 := 2) (n9 := 12) (y := yX11_makes) (x := yX11_makes) hF hG hz hM hS [.ref (el 0 j0)] [.int (balF ar (nI j0) p1 k)] (metX11_makes hPp hW (k := k) (j := j0) (by omega) (by omega)) q549 q553 q968 q555 (by decide +kernel) hG.1.2.2.2.1.2 rfl rfl ⟨(Nat.le_of_ble_eq_true rfl), (Nat.le_of_ble_eq_true rfl)⟩ hen rfl rfl hl.1 rfl (Nat.le_of_ble_eq_true rfl) dX1_balanceByEntries_64 rfl rfl (Nat.le_of_ble_eq_true rfl) (Nat.le_of_ble_eq_true rfl) (fun _ _ _ _ _ h9 _ _ _ _ _ => h9.elim) (fun v9 M9_8 H locs hp9 hM9_8 hS => ?_)
            obtain ⟨r_15, rfl, r_15_e, rfl⟩ := hp9
            have hM := hM9_8
            subst r_15_e
            refine W.eq (g2 := F0 m 69 ls [.int ((if und (ar 0) (ar 2 k) (nI j0) = true then ar 4 k else 0) - (if und (ar 0) (ar 3 k) (nI j0) = true then ar 4 k else 0)), .int (balF ar (nI j0) p1 k)]) rfl ?_
            refine lv_goto (tgt := 73) hx hb dX1_balanceByEntries_69 (by decide) ?_
            refine lv_iadd hx hb dX1_balanceByEntries_73 ?_
            refine lv_istore (lv' := [(4, .int ((balF ar (nI j0) p1 k) + ((if und (ar 0) (ar 2 k) (nI j0) = true then ar 4 k else 0) - (if und (ar 0) (ar 3 k) (nI j0) = true then ar 4 k else 0)))), (6, .ref (el 1 k)), (5, .int (nI k)), (3, .ref (el 0 j0)), (0, .ref u0), (1, .int (nI j0)), (2, .int p1)]) hx hb dX1_balanceByEntries_74 hl (by decide) rfl (fun ls hl => ?_)
            refine lv_iinc (v := (nI (k + 1))) (lv' := [(5, .int (nI (k + 1))), (4, .int ((balF ar (nI j0) p1 k) + ((if und (ar 0) (ar 2 k) (nI j0) = true then ar 4 k else 0) - (if und (ar 0) (ar 3 k) (nI j0) = true then ar 4 k else 0)))), (6, .ref (el 1 k)), (3, .ref (el 0 j0)), (0, .ref u0), (1, .int (nI j0)), (2, .int p1)]) hx hb dX1_balanceByEntries_76 hl (k := 2) rfl (by rw [← nI_1]; rfl) (by decide) rfl (fun ls hl => ?_)
            refine lv_goto (tgt := 22) hx hb dX1_balanceByEntries_79 (by decide) ?_
            have e_16 : ((balF ar (nI j0) p1 k) + ((if und (ar 0) (ar 2 k) (nI j0) = true then ar 4 k else 0) - (if und (ar 0) (ar 3 k) (nI j0) = true then ar 4 k else 0))) = (balF ar (nI j0) p1 (k + 1)) := by (simp [balF, Int32.sub_eq_add_neg, Int32.add_assoc, hnj0, hbj0, h_2, c_4, c_4B, c_4R, c_4RB, h5, c_13, c_13B]; done)
            rw [e_16] at hl
            exact ih (k + 1) (by omega) (by omega) _ _ hM hS ls (lv_sub hl [0, 1, 3, 4, 5, 6] rfl)
  exact loop ((cn 1) + 1) 0 (Nat.zero_le _) (by omega) _ _ hM hS ls (lv_sub hl [0, 1, 2, 3, 4, 5] rfl)
