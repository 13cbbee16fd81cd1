/-! THE REFERENCE, contract by contract (printed by gen_model.py) -/
set_option maxHeartbeats 4000000 in
set_option maxRecDepth 100000 in
theorem metX3_thrown {l : Launch} {z : Nat} {E : EE} {M : MM} {m0 : Nat} {aa : Nat → Nat} {cn : Nat → Nat} {lim th : Int32} {ar : Nat → Nat → Int32} (hPm : PicM E M m0 aa cn lim th ar) : Kt l yX3_thrown (ws_ yX3_thrown cX3_thrown 1 (some .int)) ({ frames := 10, cells := 0, slots := 0, locals := 300 } : Room) z E [.ref m0] M (pI (fun r M' => r = th ∧ M = M')) xNo 0 0 := by
  refine k_body RX3 (by decide) rfl (Nat.le_of_ble_eq_true rfl) ?_
  intro p e s m args below meth c hx hb hr hml hown hlocks hname hno hts hz hG hM hS ls hl
  have hF : CallFix p m c cX3_thrown 1 s args lw_all RX3 := ⟨hx, hb, hml, hown, hts⟩
  have hl : lv_has ls 1 [(0, .ref m0)] := hl
  have hfr : Fr kM M M := Fr.rf
  refine lv_aload_n hx hb dX3_thrown_0 rfl (lv_at hl 0 rfl) ?_
  refine r_get (ci := 7) hF in_X3 hG hM hPm.1 rfl 28 (by decide) q785 (fun _ h => h) (.int th) rfl dX3_thrown_1 ?_
  exact k_iret hx hb hr rfl hlocks hG hz hM hS (Nat.le_of_ble_eq_true rfl) (Nat.le_of_ble_eq_true rfl) dX3_thrown_4 ⟨_, rfl, rfl, rfl⟩
set_option maxHeartbeats 4000000 in
set_option maxRecDepth 100000 in
theorem metX3_in {l : Launch} {z : Nat} {E : EE} {M : MM} (p0 p1 p2 : Int32) : Kt l yX3_in (ws_ yX3_in cX3_in 3 (some .boolean)) ({ frames := 10, cells := 0, slots := 0, locals := 300 } : Room) z E [.int p0, .int p1, .int p2] M (pI (fun r M' => bRes (inR p0 p1 p2) r ∧ M = M')) xNo 0 0 := by
  refine k_body RX3 (by decide) rfl (Nat.le_of_ble_eq_true rfl) ?_
  intro p e s m args below meth c hx hb hr hml hown hlocks hname hno hts hz hG hM hS ls hl
  have hF : CallFix p m c cX3_in 3 s args lw_all RX3 := ⟨hx, hb, hml, hown, hts⟩
  have hl : lv_has ls 3 [(0, .int p0), (1, .int p1), (2, .int p2)] := hl
  refine lv_iload_n hx hb dX3_in_0 rfl (lv_at hl 0 rfl) ?_
  refine lv_iload_n hx hb dX3_in_1 rfl (lv_at hl 1 rfl) ?_
  refine lv_icmp_lt (tgt := 14) hx hb dX3_in_2 (by decide) (fun c_1 => ?_) (fun c_1 => ?_)
  · have c_1B := Int32.not_le.mpr c_1
    refine lv_iconst (v := 0) hx hb dX3_in_14 (by decide) ?_
    exact k_iret hx hb hr rfl hlocks hG hz hM hS (Nat.le_of_ble_eq_true rfl) (Nat.le_of_ble_eq_true rfl) dX3_in_15 ⟨_, rfl, Or.inr ⟨inR_f1 c_1, rfl⟩, rfl⟩
  · have c_1B := Int32.not_lt.mp c_1
    refine lv_iload_n hx hb dX3_in_5 rfl (lv_at hl 0 rfl) ?_
    refine lv_iload_n hx hb dX3_in_6 rfl (lv_at hl 2 rfl) ?_
    refine lv_icmp_gt (tgt := 14) hx hb dX3_in_7 (by decide) (fun c_2 => ?_) (fun c_2 => ?_)
    · have c_2B := Int32.not_le.mpr c_2
      refine lv_iconst (v := 0) hx hb dX3_in_14 (by decide) ?_
      exact k_iret hx hb hr rfl hlocks hG hz hM hS (Nat.le_of_ble_eq_true rfl) (Nat.le_of_ble_eq_true rfl) dX3_in_15 ⟨_, rfl, Or.inr ⟨inR_f2 c_1 c_2, rfl⟩, rfl⟩
    · have c_2B := Int32.not_lt.mp c_2
      refine lv_iconst (v := 1) hx hb dX3_in_10 (by decide) ?_
      refine lv_goto (tgt := 15) hx hb dX3_in_11 (by decide) ?_
      exact k_iret hx hb hr rfl hlocks hG hz hM hS (Nat.le_of_ble_eq_true rfl) (Nat.le_of_ble_eq_true rfl) dX3_in_15 ⟨_, rfl, Or.inl ⟨inR_t c_1 c_2, rfl⟩, rfl⟩
set_option maxHeartbeats 4000000 in
set_option maxRecDepth 100000 in
theorem metX3_isAccount {l : Launch} {z : Nat} {E : EE} {M : MM} {m0 : Nat} {aa : Nat → Nat} {cn : Nat → Nat} {lim th : Int32} {ar : Nat → Nat → Int32} (hPm : PicM E M m0 aa cn lim th ar) (hW : WF cn lim ar) (p0 : Int32) : Kt l yX3_isAccount (ws_ yX3_isAccount cX3_isAccount 2 (some .boolean)) ({ frames := 20, cells := 0, slots := 0, locals := 600 } : Room) z E [.ref m0, .int p0] M (pI (fun r M' => bRes (inB (cn 0) p0) r ∧ M = M')) xNo 0 0 := by
  refine k_body RX3 (by decide) rfl (Nat.le_of_ble_eq_true rfl) ?_
  intro p e s m args below meth c hx hb hr hml hown hlocks hname hno hts hz hG hM hS ls hl
  have hF : CallFix p m c cX3_isAccount 2 s args lw_all RX3 := ⟨hx, hb, hml, hown, hts⟩
  have hl : lv_has ls 2 [(0, .ref m0), (1, .int p0)] := hl
  have hfr : Fr kM M M := Fr.rf
  have hwb := hW.b
  refine lv_iload_n hx hb dX3_isAccount_0 rfl (lv_at hl 1 rfl) ?_
  refine lv_iconst (v := 0) hx hb dX3_isAccount_1 (by decide) ?_
  refine lv_aload_n hx hb dX3_isAccount_2 rfl (lv_at hl 0 rfl) ?_
  refine r_get (ci := 7) hF in_X3 hG hM hPm.1 rfl 0 (by decide) q757 (fun _ h => h) (.int (nI (cn 0))) rfl dX3_isAccount_3 ?_
  refine lv_iconst (v := 1) hx hb dX3_isAccount_6 (by decide) ?_
  refine lv_isub hx hb dX3_isAccount_7 ?_
  refine kS (k9 := 0) (n9 := 0) hF hG hz hM hS [.int p0, .int 0, .int ((nI (cn 0)) - 1)] [] (metX3_in p0 0 ((nI (cn 0)) - 1)) (va_cwS 3 hts (lw_S q857 q858 q27 q859) rfl rfl rfl (by decide +kernel) ⟨(Nat.le_of_ble_eq_true rfl), (Nat.le_of_ble_eq_true rfl)⟩) rfl hl.1 rfl (Nat.le_of_ble_eq_true rfl) dX3_isAccount_8 rfl rfl (Nat.le_of_ble_eq_true rfl) (Nat.le_of_ble_eq_true rfl) (fun _ _ _ _ _ h9 _ _ _ _ _ => h9.elim) (fun v9 M9_1 H locs hp9 hM9_1 hS => ?_)
  obtain ⟨r_1, rfl, b_2, rfl⟩ := hp9
  have hM := hM9_1
  rcases b_2 with ⟨b_2, rfl⟩ | ⟨b_2, rfl⟩
  · refine W.eq (g2 := F0 m 11 ls [.int 1]) rfl ?_
    exact k_iret hx hb hr rfl hlocks hG hz hM hS (Nat.le_of_ble_eq_true rfl) (Nat.le_of_ble_eq_true rfl) dX3_isAccount_11 ⟨_, rfl, Or.inl ⟨(inB_inR (by omega)).symm.trans b_2, rfl⟩, rfl⟩
  · refine W.eq (g2 := F0 m 11 ls [.int 0]) rfl ?_
    exact k_iret hx hb hr rfl hlocks hG hz hM hS (Nat.le_of_ble_eq_true rfl) (Nat.le_of_ble_eq_true rfl) dX3_isAccount_11 ⟨_, rfl, Or.inr ⟨(inB_inR (by omega)).symm.trans b_2, rfl⟩, rfl⟩
set_option maxHeartbeats 4000000 in
set_option maxRecDepth 100000 in
theorem metX3_fails {l : Launch} {z : Nat} {E : EE} {M : MM} {m0 : Nat} {aa : Nat → Nat} {cn : Nat → Nat} {lim th : Int32} {ar : Nat → Nat → Int32} (hPm : PicM E M m0 aa cn lim th ar) (p0 : Int32) : Kt l yX3_fails (ws_ yX3_fails cX3_fails 2 (some .int)) ({ frames := 10, cells := 0, slots := 0, locals := 300 } : Room) z E [.ref m0, .int p0] M (pI (fun r M' => r = 0 ∧ PicM E M' m0 aa cn lim p0 ar ∧ Fr kM M M')) xNo 0 0 := by
  refine k_body RX3 (by decide) rfl (Nat.le_of_ble_eq_true rfl) ?_
  intro p e s m args below meth c hx hb hr hml hown hlocks hname hno hts hz hG hM hS ls hl
  have hF : CallFix p m c cX3_fails 2 s args lw_all RX3 := ⟨hx, hb, hml, hown, hts⟩
  have hl : lv_has ls 2 [(0, .ref m0), (1, .int p0)] := hl
  have hfr : Fr kM M M := Fr.rf
  refine lv_aload_n hx hb dX3_fails_0 rfl (lv_at hl 0 rfl) ?_
  refine lv_iload_n hx hb dX3_fails_1 rfl (lv_at hl 1 rfl) ?_
  refine r_put (ci := 7) (ty := .int) (v := .int p0) hF in_X3 tyX3 tyX3_ok nmX3 hG hM hS hPm.1 rfl 28 (by decide) q785 (fun _ h => h) rfl (by decide +kernel) rfl rfl (Nat.le_of_ble_eq_true rfl) dX3_fails_2 (fun H locs hM hS => ?_)
  obtain ⟨M_1, hM, hPm, hfr⟩ := PicM.stepF (cn' := cn) (lim' := lim) (th' := p0) hPm hfr hM
  refine lv_iconst (v := 0) hx hb dX3_fails_5 (by decide) ?_
  exact k_iret hx hb hr rfl hlocks hG hz hM hS (Nat.le_of_ble_eq_true rfl) (Nat.le_of_ble_eq_true rfl) dX3_fails_6 ⟨_, rfl, rfl, hPm, hfr⟩
set_option maxHeartbeats 4000000 in
set_option maxRecDepth 100000 in
theorem metX3_addAccount {l : Launch} {z : Nat} {E : EE} {M : MM} {m0 : Nat} {aa : Nat → Nat} {cn : Nat → Nat} {lim th : Int32} {ar : Nat → Nat → Int32} (hPm : PicM E M m0 aa cn lim th ar) (hW : WF cn lim ar) (p0 : Int32) : Kt l yX3_addAccount (ws_ yX3_addAccount cX3_addAccount 2 (some .int)) ({ frames := 40, cells := 0, slots := 0, locals := 1200 } : Room) z E [.ref m0, .int p0] M (pI (fun r M' => mPost E M m0 aa (tAddAccount cn p0) (nI (cn 0)) cn lim ar (cUp cn 0) (lim) (rAddAccount cn ar p0) r M')) xNo 0 0 := by
  refine k_body RX3 (by decide) rfl (Nat.le_of_ble_eq_true rfl) ?_
  intro p e s m args below meth c hx hb hr hml hown hlocks hname hno hts hz hG hM hS ls hl
  have hF : CallFix p m c cX3_addAccount 2 s args lw_all RX3 := ⟨hx, hb, hml, hown, hts⟩
  have hl : lv_has ls 2 [(0, .ref m0), (1, .int p0)] := hl
  have hfr : Fr kM M M := Fr.rf
  have hwb := hW.b
  refine lv_aload_n hx hb dX3_addAccount_0 rfl (lv_at hl 0 rfl) ?_
  refine lv_iload_n hx hb dX3_addAccount_1 rfl (lv_at hl 1 rfl) ?_
  refine lv_iconst (v := -1) hx hb dX3_addAccount_2 (by decide) ?_
  refine lv_icmp_eq (tgt := 18) hx hb dX3_addAccount_3 (by decide) (fun c_1 => ?_) (fun c_1 => ?_)
  · refine lv_aload_n hx hb dX3_addAccount_18 rfl (lv_at hl 0 rfl) ?_
    refine r_get (ci := 7) hF in_X3 hG hM hPm.1 rfl 0 (by decide) q757 (fun _ h => h) (.int (nI (cn 0))) rfl dX3_addAccount_19 ?_
    refine lv_bipush (v := 14) hx hb dX3_addAccount_22 (by decide) ?_
    refine lv_icmp_ne (tgt := 31) hx hb dX3_addAccount_24 (by decide) (fun c_2 => ?_) (fun c_2 => ?_)
    · have c_2R := c_2
      have c_2 : ¬ ((cn 0) = 14) := fun h9 => c_2R ((nI_eq (a := (cn 0)) (b := 14) (by omega) (by omega)).mpr h9)
      refine lv_iconst (v := 0) hx hb dX3_addAccount_31 (by decide) ?_
      refine r_put (ci := 7) (ty := .int) (v := .int 0) hF in_X3 tyX3 tyX3_ok nmX3 hG hM hS hPm.1 rfl 28 (by decide) q785 (fun _ h => h) rfl (by decide +kernel) rfl rfl (Nat.le_of_ble_eq_true rfl) dX3_addAccount_32 (fun H locs hM hS => ?_)
      obtain ⟨M_3, hM, hPm, hfr⟩ := PicM.stepF (cn' := cn) (lim' := lim) (th' := 0) hPm hfr hM
      refine lv_aload_n hx hb dX3_addAccount_35 rfl (lv_at hl 0 rfl) ?_
      refine r_get (ci := 7) hF in_X3 hG hM hPm.1 rfl 28 (by decide) q785 (fun _ h => h) (.int 0) rfl dX3_addAccount_36 ?_
      refine lv_if_le (tgt := 44) hx hb dX3_addAccount_39 (by decide) (fun _ => ?_) (fun c9 => absurd (by decide) c9)
      refine lv_aload_n hx hb dX3_addAccount_44 rfl (lv_at hl 0 rfl) ?_
      refine r_get (ci := 7) hF in_X3 hG hM hPm.1 rfl 1 (by decide) q758 (fun _ h => h) (.ref (aa 0)) rfl dX3_addAccount_45 ?_
      refine lv_aload_n hx hb dX3_addAccount_48 rfl (lv_at hl 0 rfl) ?_
      refine r_get (ci := 7) hF in_X3 hG hM hPm.1 rfl 0 (by decide) q757 (fun _ h => h) (.int (nI (cn 0))) rfl dX3_addAccount_49 ?_
      refine lv_iload_n hx hb dX3_addAccount_52 rfl (lv_at hl 1 rfl) ?_
      refine r_iast (n := 14) (f := (ar 0)) (cn 0) hF hG hM hS hPm.a0 (by omega) (by decide) rfl dX3_addAccount_53 (fun H locs hM hS => ?_)
      obtain ⟨M_4, hM, hPm, hfr⟩ := PicM.stepA 0 (by decide) hPm hfr hM
      refine lv_aload_n hx hb dX3_addAccount_54 rfl (lv_at hl 0 rfl) ?_
      refine lv_dup hx hb dX3_addAccount_55 rfl ?_
      refine r_get (ci := 7) hF in_X3 hG hM hPm.1 rfl 0 (by decide) q757 (fun _ h => h) (.int (nI (cn 0))) rfl dX3_addAccount_56 ?_
      refine lv_iconst (v := 1) hx hb dX3_addAccount_59 (by decide) ?_
      refine lv_iadd hx hb dX3_addAccount_60 ?_
      rw [nI_1]
      refine r_put (ci := 7) (ty := .int) (v := .int (nI ((cn 0) + 1))) hF in_X3 tyX3 tyX3_ok nmX3 hG hM hS hPm.1 rfl 0 (by decide) q757 (fun _ h => h) rfl (by decide +kernel) rfl rfl (Nat.le_of_ble_eq_true rfl) dX3_addAccount_61 (fun H locs hM hS => ?_)
      obtain ⟨M_5, hM, hPm, hfr⟩ := PicM.stepF (cn' := (cUp cn 0)) (lim' := lim) (th' := 0) hPm hfr hM
      refine lv_aload_n hx hb dX3_addAccount_64 rfl (lv_at hl 0 rfl) ?_
      refine r_get (ci := 7) hF in_X3 hG hM hPm.1 rfl 0 (by decide) q757 (fun _ h => h) (.int (nI ((cn 0) + 1))) rfl dX3_addAccount_65 ?_
      refine lv_iconst (v := 1) hx hb dX3_addAccount_68 (by decide) ?_
      refine lv_isub hx hb dX3_addAccount_69 ?_
      have ht9 : tAddAccount cn p0 = (0 : Int32) := by simp [tAddAccount, (eq_true c_1), c_2, c_2R]
      have ha9 : ((nI ((cn 0) + 1)) - 1) = nI (cn 0) := by exact nI_pred _
      have er9 : rAddAccount cn ar p0 = (va_up ar 0 (upd (ar 0) (cn 0) p0)) := by first | rfl | (simp only [rAddAccount, (eq_true c_1), c_2, c_2R]; done) | (simp only [rAddAccount, (eq_true c_1), c_2, c_2R]; rfl) | simp [rAddAccount, (eq_true c_1), c_2, c_2R]
      have ec9 : cUp cn 0 = (cUp cn 0) := by first | rfl | (simp only [rAddAccount, (eq_true c_1), c_2, c_2R]; done) | (simp only [rAddAccount, (eq_true c_1), c_2, c_2R]; rfl) | simp [rAddAccount, (eq_true c_1), c_2, c_2R]
      exact k_iret hx hb hr rfl hlocks hG hz hM hS (Nat.le_of_ble_eq_true rfl) (Nat.le_of_ble_eq_true rfl) dX3_addAccount_70 ⟨_, rfl, mPost.ok ht9 ha9 (by rw [ec9, er9]; exact hPm) hfr⟩
    · have c_2R := c_2
      have c_2 : (cn 0) = 14 := (nI_eq (a := (cn 0)) (b := 14) (by omega) (by omega)).mp c_2R
      refine lv_iconst (v := 2) hx hb dX3_addAccount_27 (by decide) ?_
      refine lv_goto (tgt := 32) hx hb dX3_addAccount_28 (by decide) ?_
      refine r_put (ci := 7) (ty := .int) (v := .int 2) hF in_X3 tyX3 tyX3_ok nmX3 hG hM hS hPm.1 rfl 28 (by decide) q785 (fun _ h => h) rfl (by decide +kernel) rfl rfl (Nat.le_of_ble_eq_true rfl) dX3_addAccount_32 (fun H locs hM hS => ?_)
      obtain ⟨M_6, hM, hPm, hfr⟩ := PicM.stepF (cn' := cn) (lim' := lim) (th' := 2) hPm hfr hM
      refine lv_aload_n hx hb dX3_addAccount_35 rfl (lv_at hl 0 rfl) ?_
      refine r_get (ci := 7) hF in_X3 hG hM hPm.1 rfl 28 (by decide) q785 (fun _ h => h) (.int 2) rfl dX3_addAccount_36 ?_
      refine lv_if_le (tgt := 44) hx hb dX3_addAccount_39 (by decide) (fun c9 => absurd c9 (by decide)) (fun _ => ?_)
      refine lv_iconst (v := 0) hx hb dX3_addAccount_42 (by decide) ?_
      have ht9 : tAddAccount cn p0 = (2 : Int32) := by simp [tAddAccount, (eq_true c_1), (eq_true c_2), (eq_true c_2R)]
      exact k_iret hx hb hr rfl hlocks hG hz hM hS (Nat.le_of_ble_eq_true rfl) (Nat.le_of_ble_eq_true rfl) dX3_addAccount_43 ⟨_, rfl, mPost.bad ht9 (by decide) hPm hfr⟩
  · refine lv_aload_n hx hb dX3_addAccount_6 rfl (lv_at hl 0 rfl) ?_
    refine lv_iload_n hx hb dX3_addAccount_7 rfl (lv_at hl 1 rfl) ?_
    refine kV (k9 := 0) (n9 := 0) hF hG hz hM hS [.int p0] [.ref m0] (metX3_isAccount hPm hW p0) (cwV 1 hts (lw_V q853 q855 qs9 q27 q856) rfl rfl rfl (by decide +kernel) ⟨(Nat.le_of_ble_eq_true rfl), (Nat.le_of_ble_eq_true rfl)⟩) (k_recv hG hM hPm.1 (ci := 7) rfl) rfl hl.1 rfl (Nat.le_of_ble_eq_true rfl) dX3_addAccount_8 rfl rfl (Nat.le_of_ble_eq_true rfl) (Nat.le_of_ble_eq_true rfl) (fun _ _ _ _ _ h9 _ _ _ _ _ => h9.elim) (fun v9 M9_1 H locs hp9 hM9_1 hS => ?_)
    obtain ⟨r_7, rfl, b_8, rfl⟩ := hp9
    have hM := hM9_1
    rcases b_8 with ⟨b_8, rfl⟩ | ⟨b_8, rfl⟩
    · refine W.eq (g2 := F0 m 11 ls [.int 1, .ref m0]) rfl ?_
      refine lv_if_ne (tgt := 18) hx hb dX3_addAccount_11 (by decide) (fun _ => ?_) (fun c9 => absurd c9 (by decide))
      refine lv_aload_n hx hb dX3_addAccount_18 rfl (lv_at hl 0 rfl) ?_
      refine r_get (ci := 7) hF in_X3 hG hM hPm.1 rfl 0 (by decide) q757 (fun _ h => h) (.int (nI (cn 0))) rfl dX3_addAccount_19 ?_
      refine lv_bipush (v := 14) hx hb dX3_addAccount_22 (by decide) ?_
      refine lv_icmp_ne (tgt := 31) hx hb dX3_addAccount_24 (by decide) (fun c_9 => ?_) (fun c_9 => ?_)
      · have c_9R := c_9
        have c_9 : ¬ ((cn 0) = 14) := fun h9 => c_9R ((nI_eq (a := (cn 0)) (b := 14) (by omega) (by omega)).mpr h9)
        refine lv_iconst (v := 0) hx hb dX3_addAccount_31 (by decide) ?_
        refine r_put (ci := 7) (ty := .int) (v := .int 0) hF in_X3 tyX3 tyX3_ok nmX3 hG hM hS hPm.1 rfl 28 (by decide) q785 (fun _ h => h) rfl (by decide +kernel) rfl rfl (Nat.le_of_ble_eq_true rfl) dX3_addAccount_32 (fun H locs hM hS => ?_)
        obtain ⟨M_10, hM, hPm, hfr⟩ := PicM.stepF (cn' := cn) (lim' := lim) (th' := 0) hPm hfr hM
        refine lv_aload_n hx hb dX3_addAccount_35 rfl (lv_at hl 0 rfl) ?_
        refine r_get (ci := 7) hF in_X3 hG hM hPm.1 rfl 28 (by decide) q785 (fun _ h => h) (.int 0) rfl dX3_addAccount_36 ?_
        refine lv_if_le (tgt := 44) hx hb dX3_addAccount_39 (by decide) (fun _ => ?_) (fun c9 => absurd (by decide) c9)
        refine lv_aload_n hx hb dX3_addAccount_44 rfl (lv_at hl 0 rfl) ?_
        refine r_get (ci := 7) hF in_X3 hG hM hPm.1 rfl 1 (by decide) q758 (fun _ h => h) (.ref (aa 0)) rfl dX3_addAccount_45 ?_
        refine lv_aload_n hx hb dX3_addAccount_48 rfl (lv_at hl 0 rfl) ?_
        refine r_get (ci := 7) hF in_X3 hG hM hPm.1 rfl 0 (by decide) q757 (fun _ h => h) (.int (nI (cn 0))) rfl dX3_addAccount_49 ?_
        refine lv_iload_n hx hb dX3_addAccount_52 rfl (lv_at hl 1 rfl) ?_
        refine r_iast (n := 14) (f := (ar 0)) (cn 0) hF hG hM hS hPm.a0 (by omega) (by decide) rfl dX3_addAccount_53 (fun H locs hM hS => ?_)
        obtain ⟨M_11, hM, hPm, hfr⟩ := PicM.stepA 0 (by decide) hPm hfr hM
        refine lv_aload_n hx hb dX3_addAccount_54 rfl (lv_at hl 0 rfl) ?_
        refine lv_dup hx hb dX3_addAccount_55 rfl ?_
        refine r_get (ci := 7) hF in_X3 hG hM hPm.1 rfl 0 (by decide) q757 (fun _ h => h) (.int (nI (cn 0))) rfl dX3_addAccount_56 ?_
        refine lv_iconst (v := 1) hx hb dX3_addAccount_59 (by decide) ?_
        refine lv_iadd hx hb dX3_addAccount_60 ?_
        rw [nI_1]
        refine r_put (ci := 7) (ty := .int) (v := .int (nI ((cn 0) + 1))) hF in_X3 tyX3 tyX3_ok nmX3 hG hM hS hPm.1 rfl 0 (by decide) q757 (fun _ h => h) rfl (by decide +kernel) rfl rfl (Nat.le_of_ble_eq_true rfl) dX3_addAccount_61 (fun H locs hM hS => ?_)
        obtain ⟨M_12, hM, hPm, hfr⟩ := PicM.stepF (cn' := (cUp cn 0)) (lim' := lim) (th' := 0) hPm hfr hM
        refine lv_aload_n hx hb dX3_addAccount_64 rfl (lv_at hl 0 rfl) ?_
        refine r_get (ci := 7) hF in_X3 hG hM hPm.1 rfl 0 (by decide) q757 (fun _ h => h) (.int (nI ((cn 0) + 1))) rfl dX3_addAccount_65 ?_
        refine lv_iconst (v := 1) hx hb dX3_addAccount_68 (by decide) ?_
        refine lv_isub hx hb dX3_addAccount_69 ?_
        have ht9 : tAddAccount cn p0 = (0 : Int32) := by simp [tAddAccount, c_1, b_8, c_9, c_9R]
        have ha9 : ((nI ((cn 0) + 1)) - 1) = nI (cn 0) := by exact nI_pred _
        have er9 : rAddAccount cn ar p0 = (va_up ar 0 (upd (ar 0) (cn 0) p0)) := by first | rfl | (simp only [rAddAccount, c_1, b_8, c_9, c_9R]; done) | (simp only [rAddAccount, c_1, b_8, c_9, c_9R]; rfl) | simp [rAddAccount, c_1, b_8, c_9, c_9R]
        have ec9 : cUp cn 0 = (cUp cn 0) := by first | rfl | (simp only [rAddAccount, c_1, b_8, c_9, c_9R]; done) | (simp only [rAddAccount, c_1, b_8, c_9, c_9R]; rfl) | simp [rAddAccount, c_1, b_8, c_9, c_9R]
        exact k_iret hx hb hr rfl hlocks hG hz hM hS (Nat.le_of_ble_eq_true rfl) (Nat.le_of_ble_eq_true rfl) dX3_addAccount_70 ⟨_, rfl, mPost.ok ht9 ha9 (by rw [ec9, er9]; exact hPm) hfr⟩
      · have c_9R := c_9
        have c_9 : (cn 0) = 14 := (nI_eq (a := (cn 0)) (b := 14) (by omega) (by omega)).mp c_9R
        refine lv_iconst (v := 2) hx hb dX3_addAccount_27 (by decide) ?_
        refine lv_goto (tgt := 32) hx hb dX3_addAccount_28 (by decide) ?_
        refine r_put (ci := 7) (ty := .int) (v := .int 2) hF in_X3 tyX3 tyX3_ok nmX3 hG hM hS hPm.1 rfl 28 (by decide) q785 (fun _ h => h) rfl (by decide +kernel) rfl rfl (Nat.le_of_ble_eq_true rfl) dX3_addAccount_32 (fun H locs hM hS => ?_)
        obtain ⟨M_13, hM, hPm, hfr⟩ := PicM.stepF (cn' := cn) (lim' := lim) (th' := 2) hPm hfr hM
        refine lv_aload_n hx hb dX3_addAccount_35 rfl (lv_at hl 0 rfl) ?_
        refine r_get (ci := 7) hF in_X3 hG hM hPm.1 rfl 28 (by decide) q785 (fun _ h => h) (.int 2) rfl dX3_addAccount_36 ?_
        refine lv_if_le (tgt := 44) hx hb dX3_addAccount_39 (by decide) (fun c9 => absurd c9 (by decide)) (fun _ => ?_)
        refine lv_iconst (v := 0) hx hb dX3_addAccount_42 (by decide) ?_
        have ht9 : tAddAccount cn p0 = (2 : Int32) := by simp [tAddAccount, c_1, b_8, (eq_true c_9), (eq_true c_9R)]
        exact k_iret hx hb hr rfl hlocks hG hz hM hS (Nat.le_of_ble_eq_true rfl) (Nat.le_of_ble_eq_true rfl) dX3_addAccount_43 ⟨_, rfl, mPost.bad ht9 (by decide) hPm hfr⟩
    · refine W.eq (g2 := F0 m 11 ls [.int 0, .ref m0]) rfl ?_
      refine lv_if_ne (tgt := 18) hx hb dX3_addAccount_11 (by decide) (fun c9 => absurd c9 (by decide)) (fun _ => ?_)
      refine lv_iconst (v := 1) hx hb dX3_addAccount_14 (by decide) ?_
      refine lv_goto (tgt := 32) hx hb dX3_addAccount_15 (by decide) ?_
      refine r_put (ci := 7) (ty := .int) (v := .int 1) hF in_X3 tyX3 tyX3_ok nmX3 hG hM hS hPm.1 rfl 28 (by decide) q785 (fun _ h => h) rfl (by decide +kernel) rfl rfl (Nat.le_of_ble_eq_true rfl) dX3_addAccount_32 (fun H locs hM hS => ?_)
      obtain ⟨M_14, hM, hPm, hfr⟩ := PicM.stepF (cn' := cn) (lim' := lim) (th' := 1) hPm hfr hM
      refine lv_aload_n hx hb dX3_addAccount_35 rfl (lv_at hl 0 rfl) ?_
      refine r_get (ci := 7) hF in_X3 hG hM hPm.1 rfl 28 (by decide) q785 (fun _ h => h) (.int 1) rfl dX3_addAccount_36 ?_
      refine lv_if_le (tgt := 44) hx hb dX3_addAccount_39 (by decide) (fun c9 => absurd c9 (by decide)) (fun _ => ?_)
      refine lv_iconst (v := 0) hx hb dX3_addAccount_42 (by decide) ?_
      have ht9 : tAddAccount cn p0 = (1 : Int32) := by simp [tAddAccount, c_1, b_8]
      exact k_iret hx hb hr rfl hlocks hG hz hM hS (Nat.le_of_ble_eq_true rfl) (Nat.le_of_ble_eq_true rfl) dX3_addAccount_43 ⟨_, rfl, mPost.bad ht9 (by decide) hPm hfr⟩
set_option maxHeartbeats 4000000 in
set_option maxRecDepth 100000 in
theorem metX3_enters {l : Launch} {z : Nat} {E : EE} {M : MM} {m0 : Nat} {aa : Nat → Nat} {cn : Nat → Nat} {lim th : Int32} {ar : Nat → Nat → Int32} (hPm : PicM E M m0 aa cn lim th ar) (p0 p1 p2 p3 : Int32) (he : cn 1 < 120) : Kt l yX3_enters (ws_ yX3_enters cX3_enters 5 (some .int)) ({ frames := 10, cells := 0, slots := 0, locals := 300 } : Room) z E [.ref m0, .int p0, .int p1, .int p2, .int p3] M (pI (fun r M' => r = nI (cn 1) ∧ PicM E M' m0 aa (cUp cn 1) lim th (rEnters cn ar (lateOf cn p0) p1 p2 p3) ∧ Fr kM M M')) xNo 0 0 := by
  refine k_body RX3 (by decide) rfl (Nat.le_of_ble_eq_true rfl) ?_
  intro p e s m args below meth c hx hb hr hml hown hlocks hname hno hts hz hG hM hS ls hl
  have hF : CallFix p m c cX3_enters 5 s args lw_all RX3 := ⟨hx, hb, hml, hown, hts⟩
  have hl : lv_has ls 5 [(0, .ref m0), (1, .int p0), (2, .int p1), (3, .int p2), (4, .int p3)] := hl
  have hfr : Fr kM M M := Fr.rf
  refine lv_aload_n hx hb dX3_enters_0 rfl (lv_at hl 0 rfl) ?_
  refine r_get (ci := 7) hF in_X3 hG hM hPm.1 rfl 4 (by decide) q761 (fun _ h => h) (.ref (aa 1)) rfl dX3_enters_1 ?_
  refine lv_aload_n hx hb dX3_enters_4 rfl (lv_at hl 0 rfl) ?_
  refine r_get (ci := 7) hF in_X3 hG hM hPm.1 rfl 3 (by decide) q760 (fun _ h => h) (.int (nI (cn 1))) rfl dX3_enters_5 ?_
  refine lv_aload_n hx hb dX3_enters_8 rfl (lv_at hl 0 rfl) ?_
  refine r_get (ci := 7) hF in_X3 hG hM hPm.1 rfl 2 (by decide) q759 (fun _ h => h) (.int (nI (cn 4))) rfl dX3_enters_9 ?_
  refine r_iast (n := 120) (f := (ar 1)) (cn 1) hF hG hM hS hPm.a1 (by omega) (by decide) rfl dX3_enters_12 (fun H locs hM hS => ?_)
  obtain ⟨M_1, hM, hPm, hfr⟩ := PicM.stepA 1 (by decide) hPm hfr hM
  refine lv_aload_n hx hb dX3_enters_13 rfl (lv_at hl 0 rfl) ?_
  refine r_get (ci := 7) hF in_X3 hG hM hPm.1 rfl 8 (by decide) q765 (fun _ h => h) (.ref (aa 5)) rfl dX3_enters_14 ?_
  refine lv_aload_n hx hb dX3_enters_17 rfl (lv_at hl 0 rfl) ?_
  refine r_get (ci := 7) hF in_X3 hG hM hPm.1 rfl 3 (by decide) q760 (fun _ h => h) (.int (nI (cn 1))) rfl dX3_enters_18 ?_
  refine lv_iload_n hx hb dX3_enters_21 rfl (lv_at hl 1 rfl) ?_
  refine lv_aload_n hx hb dX3_enters_22 rfl (lv_at hl 0 rfl) ?_
  refine r_get (ci := 7) hF in_X3 hG hM hPm.1 rfl 2 (by decide) q759 (fun _ h => h) (.int (nI (cn 4))) rfl dX3_enters_23 ?_
  refine lv_icmp_ge (tgt := 33) hx hb dX3_enters_26 (by decide) (fun c_2 => ?_) (fun c_2 => ?_)
  · have c_2B := Int32.not_lt.mpr c_2
    refine lv_iconst (v := 0) hx hb dX3_enters_33 (by decide) ?_
    refine r_iast (n := 120) (f := (ar 5)) (cn 1) hF hG hM hS hPm.a5 (by omega) (by decide) rfl dX3_enters_34 (fun H locs hM hS => ?_)
    obtain ⟨M_3, hM, hPm, hfr⟩ := PicM.stepA 5 (by decide) hPm hfr hM
    refine lv_aload_n hx hb dX3_enters_35 rfl (lv_at hl 0 rfl) ?_
    refine r_get (ci := 7) hF in_X3 hG hM hPm.1 rfl 5 (by decide) q762 (fun _ h => h) (.ref (aa 2)) rfl dX3_enters_36 ?_
    refine lv_aload_n hx hb dX3_enters_39 rfl (lv_at hl 0 rfl) ?_
    refine r_get (ci := 7) hF in_X3 hG hM hPm.1 rfl 3 (by decide) q760 (fun _ h => h) (.int (nI (cn 1))) rfl dX3_enters_40 ?_
    refine lv_iload_n hx hb dX3_enters_43 rfl (lv_at hl 2 rfl) ?_
    refine r_iast (n := 120) (f := (ar 2)) (cn 1) hF hG hM hS hPm.a2 (by omega) (by decide) rfl dX3_enters_44 (fun H locs hM hS => ?_)
    obtain ⟨M_4, hM, hPm, hfr⟩ := PicM.stepA 2 (by decide) hPm hfr hM
    refine lv_aload_n hx hb dX3_enters_45 rfl (lv_at hl 0 rfl) ?_
    refine r_get (ci := 7) hF in_X3 hG hM hPm.1 rfl 6 (by decide) q763 (fun _ h => h) (.ref (aa 3)) rfl dX3_enters_46 ?_
    refine lv_aload_n hx hb dX3_enters_49 rfl (lv_at hl 0 rfl) ?_
    refine r_get (ci := 7) hF in_X3 hG hM hPm.1 rfl 3 (by decide) q760 (fun _ h => h) (.int (nI (cn 1))) rfl dX3_enters_50 ?_
    refine lv_iload_n hx hb dX3_enters_53 rfl (lv_at hl 3 rfl) ?_
    refine r_iast (n := 120) (f := (ar 3)) (cn 1) hF hG hM hS hPm.a3 (by omega) (by decide) rfl dX3_enters_54 (fun H locs hM hS => ?_)
    obtain ⟨M_5, hM, hPm, hfr⟩ := PicM.stepA 3 (by decide) hPm hfr hM
    refine lv_aload_n hx hb dX3_enters_55 rfl (lv_at hl 0 rfl) ?_
    refine r_get (ci := 7) hF in_X3 hG hM hPm.1 rfl 7 (by decide) q764 (fun _ h => h) (.ref (aa 4)) rfl dX3_enters_56 ?_
    refine lv_aload_n hx hb dX3_enters_59 rfl (lv_at hl 0 rfl) ?_
    refine r_get (ci := 7) hF in_X3 hG hM hPm.1 rfl 3 (by decide) q760 (fun _ h => h) (.int (nI (cn 1))) rfl dX3_enters_60 ?_
    refine lv_iload hx hb dX3_enters_63 (lv_at hl 4 rfl) ?_
    refine r_iast (n := 120) (f := (ar 4)) (cn 1) hF hG hM hS hPm.a4 (by omega) (by decide) rfl dX3_enters_65 (fun H locs hM hS => ?_)
    obtain ⟨M_6, hM, hPm, hfr⟩ := PicM.stepA 4 (by decide) hPm hfr hM
    refine lv_aload_n hx hb dX3_enters_66 rfl (lv_at hl 0 rfl) ?_
    refine lv_dup hx hb dX3_enters_67 rfl ?_
    refine r_get (ci := 7) hF in_X3 hG hM hPm.1 rfl 3 (by decide) q760 (fun _ h => h) (.int (nI (cn 1))) rfl dX3_enters_68 ?_
    refine lv_iconst (v := 1) hx hb dX3_enters_71 (by decide) ?_
    refine lv_iadd hx hb dX3_enters_72 ?_
    rw [nI_1]
    refine r_put (ci := 7) (ty := .int) (v := .int (nI ((cn 1) + 1))) hF in_X3 tyX3 tyX3_ok nmX3 hG hM hS hPm.1 rfl 3 (by decide) q760 (fun _ h => h) rfl (by decide +kernel) rfl rfl (Nat.le_of_ble_eq_true rfl) dX3_enters_73 (fun H locs hM hS => ?_)
    obtain ⟨M_7, hM, hPm, hfr⟩ := PicM.stepF (cn' := (cUp cn 1)) (lim' := lim) (th' := th) hPm hfr hM
    refine lv_aload_n hx hb dX3_enters_76 rfl (lv_at hl 0 rfl) ?_
    refine r_get (ci := 7) hF in_X3 hG hM hPm.1 rfl 3 (by decide) q760 (fun _ h => h) (.int (nI ((cn 1) + 1))) rfl dX3_enters_77 ?_
    refine lv_iconst (v := 1) hx hb dX3_enters_80 (by decide) ?_
    refine lv_isub hx hb dX3_enters_81 ?_
    have er9 : lateOf cn p0 = 0 := lateOf_0 c_2
    exact k_iret hx hb hr rfl hlocks hG hz hM hS (Nat.le_of_ble_eq_true rfl) (Nat.le_of_ble_eq_true rfl) dX3_enters_82 ⟨_, rfl, nI_pred _, (by rw [er9]; exact hPm), hfr⟩
  · have c_2B := Int32.not_le.mp c_2
    refine lv_iconst (v := 1) hx hb dX3_enters_29 (by decide) ?_
    refine lv_goto (tgt := 34) hx hb dX3_enters_30 (by decide) ?_
    refine r_iast (n := 120) (f := (ar 5)) (cn 1) hF hG hM hS hPm.a5 (by omega) (by decide) rfl dX3_enters_34 (fun H locs hM hS => ?_)
    obtain ⟨M_8, hM, hPm, hfr⟩ := PicM.stepA 5 (by decide) hPm hfr hM
    refine lv_aload_n hx hb dX3_enters_35 rfl (lv_at hl 0 rfl) ?_
    refine r_get (ci := 7) hF in_X3 hG hM hPm.1 rfl 5 (by decide) q762 (fun _ h => h) (.ref (aa 2)) rfl dX3_enters_36 ?_
    refine lv_aload_n hx hb dX3_enters_39 rfl (lv_at hl 0 rfl) ?_
    refine r_get (ci := 7) hF in_X3 hG hM hPm.1 rfl 3 (by decide) q760 (fun _ h => h) (.int (nI (cn 1))) rfl dX3_enters_40 ?_
    refine lv_iload_n hx hb dX3_enters_43 rfl (lv_at hl 2 rfl) ?_
    refine r_iast (n := 120) (f := (ar 2)) (cn 1) hF hG hM hS hPm.a2 (by omega) (by decide) rfl dX3_enters_44 (fun H locs hM hS => ?_)
    obtain ⟨M_9, hM, hPm, hfr⟩ := PicM.stepA 2 (by decide) hPm hfr hM
    refine lv_aload_n hx hb dX3_enters_45 rfl (lv_at hl 0 rfl) ?_
    refine r_get (ci := 7) hF in_X3 hG hM hPm.1 rfl 6 (by decide) q763 (fun _ h => h) (.ref (aa 3)) rfl dX3_enters_46 ?_
    refine lv_aload_n hx hb dX3_enters_49 rfl (lv_at hl 0 rfl) ?_
    refine r_get (ci := 7) hF in_X3 hG hM hPm.1 rfl 3 (by decide) q760 (fun _ h => h) (.int (nI (cn 1))) rfl dX3_enters_50 ?_
    refine lv_iload_n hx hb dX3_enters_53 rfl (lv_at hl 3 rfl) ?_
    refine r_iast (n := 120) (f := (ar 3)) (cn 1) hF hG hM hS hPm.a3 (by omega) (by decide) rfl dX3_enters_54 (fun H locs hM hS => ?_)
    obtain ⟨M_10, hM, hPm, hfr⟩ := PicM.stepA 3 (by decide) hPm hfr hM
    refine lv_aload_n hx hb dX3_enters_55 rfl (lv_at hl 0 rfl) ?_
    refine r_get (ci := 7) hF in_X3 hG hM hPm.1 rfl 7 (by decide) q764 (fun _ h => h) (.ref (aa 4)) rfl dX3_enters_56 ?_
    refine lv_aload_n hx hb dX3_enters_59 rfl (lv_at hl 0 rfl) ?_
    refine r_get (ci := 7) hF in_X3 hG hM hPm.1 rfl 3 (by decide) q760 (fun _ h => h) (.int (nI (cn 1))) rfl dX3_enters_60 ?_
    refine lv_iload hx hb dX3_enters_63 (lv_at hl 4 rfl) ?_
    refine r_iast (n := 120) (f := (ar 4)) (cn 1) hF hG hM hS hPm.a4 (by omega) (by decide) rfl dX3_enters_65 (fun H locs hM hS => ?_)
    obtain ⟨M_11, hM, hPm, hfr⟩ := PicM.stepA 4 (by decide) hPm hfr hM
    refine lv_aload_n hx hb dX3_enters_66 rfl (lv_at hl 0 rfl) ?_
    refine lv_dup hx hb dX3_enters_67 rfl ?_
    refine r_get (ci := 7) hF in_X3 hG hM hPm.1 rfl 3 (by decide) q760 (fun _ h => h) (.int (nI (cn 1))) rfl dX3_enters_68 ?_
    refine lv_iconst (v := 1) hx hb dX3_enters_71 (by decide) ?_
    refine lv_iadd hx hb dX3_enters_72 ?_
    rw [nI_1]
    refine r_put (ci := 7) (ty := .int) (v := .int (nI ((cn 1) + 1))) hF in_X3 tyX3 tyX3_ok nmX3 hG hM hS hPm.1 rfl 3 (by decide) q760 (fun _ h => h) rfl (by decide +kernel) rfl rfl (Nat.le_of_ble_eq_true rfl) dX3_enters_73 (fun H locs hM hS => ?_)
    obtain ⟨M_12, hM, hPm, hfr⟩ := PicM.stepF (cn' := (cUp cn 1)) (lim' := lim) (th' := th) hPm hfr hM
    refine lv_aload_n hx hb dX3_enters_76 rfl (lv_at hl 0 rfl) ?_
    refine r_get (ci := 7) hF in_X3 hG hM hPm.1 rfl 3 (by decide) q760 (fun _ h => h) (.int (nI ((cn 1) + 1))) rfl dX3_enters_77 ?_
    refine lv_iconst (v := 1) hx hb dX3_enters_80 (by decide) ?_
    refine lv_isub hx hb dX3_enters_81 ?_
    have er9 : lateOf cn p0 = 1 := lateOf_1 c_2
    exact k_iret hx hb hr rfl hlocks hG hz hM hS (Nat.le_of_ble_eq_true rfl) (Nat.le_of_ble_eq_true rfl) dX3_enters_82 ⟨_, rfl, nI_pred _, (by rw [er9]; exact hPm), hfr⟩
set_option maxHeartbeats 4000000 in
set_option maxRecDepth 100000 in
theorem metX3_enter {l : Launch} {z : Nat} {E : EE} {M : MM} {m0 : Nat} {aa : Nat → Nat} {cn : Nat → Nat} {lim th : Int32} {ar : Nat → Nat → Int32} (hPm : PicM E M m0 aa cn lim th ar) (hW : WF cn lim ar) (p0 p1 p2 p3 : Int32) : Kt l yX3_enter (ws_ yX3_enter cX3_enter 5 (some .int)) ({ frames := 40, cells := 0, slots := 0, locals := 1200 } : Room) z E [.ref m0, .int p0, .int p1, .int p2, .int p3] M (pI (fun r M' => mPost E M m0 aa (tEnter cn p0 p1 p2 p3) (nI (cn 1)) cn lim ar (cUp cn 1) (lim) (rEnters cn ar (lateOf cn p0) p1 p2 p3) r M')) xNo 0 0 := by
  refine k_body RX3 (by decide) rfl (Nat.le_of_ble_eq_true rfl) ?_
  intro p e s m args below meth c hx hb hr hml hown hlocks hname hno hts hz hG hM hS ls hl
  have hF : CallFix p m c cX3_enter 5 s args lw_all RX3 := ⟨hx, hb, hml, hown, hts⟩
  have hl : lv_has ls 5 [(0, .ref m0), (1, .int p0), (2, .int p1), (3, .int p2), (4, .int p3)] := hl
  have hfr : Fr kM M M := Fr.rf
  have hwb := hW.b
  refine lv_aload_n hx hb dX3_enter_0 rfl (lv_at hl 0 rfl) ?_
  refine lv_aload_n hx hb dX3_enter_1 rfl (lv_at hl 0 rfl) ?_
  refine lv_iload_n hx hb dX3_enter_2 rfl (lv_at hl 2 rfl) ?_
  refine kV (k9 := 0) (n9 := 0) hF hG hz hM hS [.int p1] [.ref m0] (metX3_isAccount hPm hW p1) (cwV 1 hts (lw_V q853 q855 qs9 q27 q856) rfl rfl rfl (by decide +kernel) ⟨(Nat.le_of_ble_eq_true rfl), (Nat.le_of_ble_eq_true rfl)⟩) (k_recv hG hM hPm.1 (ci := 7) rfl) rfl hl.1 rfl (Nat.le_of_ble_eq_true rfl) dX3_enter_3 rfl rfl (Nat.le_of_ble_eq_true rfl) (Nat.le_of_ble_eq_true rfl) (fun _ _ _ _ _ h9 _ _ _ _ _ => h9.elim) (fun v9 M9_1 H locs hp9 hM9_1 hS => ?_)
  obtain ⟨r_1, rfl, b_2, rfl⟩ := hp9
  have hM := hM9_1
  rcases b_2 with ⟨b_2, rfl⟩ | ⟨b_2, rfl⟩
  · refine W.eq (g2 := F0 m 6 ls [.int 1, .ref m0]) rfl ?_
    refine lv_if_eq (tgt := 17) hx hb dX3_enter_6 (by decide) (fun c9 => absurd c9 (by decide)) (fun _ => ?_)
    refine lv_aload_n hx hb dX3_enter_9 rfl (lv_at hl 0 rfl) ?_
    refine lv_iload_n hx hb dX3_enter_10 rfl (lv_at hl 3 rfl) ?_
    refine kV (k9 := 0) (n9 := 0) hF hG hz hM hS [.int p2] [.ref m0] (metX3_isAccount hPm hW p2) (cwV 1 hts (lw_V q853 q855 qs9 q27 q856) rfl rfl rfl (by decide +kernel) ⟨(Nat.le_of_ble_eq_true rfl), (Nat.le_of_ble_eq_true rfl)⟩) (k_recv hG hM hPm.1 (ci := 7) rfl) rfl hl.1 rfl (Nat.le_of_ble_eq_true rfl) dX3_enter_11 rfl rfl (Nat.le_of_ble_eq_true rfl) (Nat.le_of_ble_eq_true rfl) (fun _ _ _ _ _ h9 _ _ _ _ _ => h9.elim) (fun v9 M9_2 H locs hp9 hM9_2 hS => ?_)
    obtain ⟨r_3, rfl, b_4, rfl⟩ := hp9
    have hM := hM9_2
    rcases b_4 with ⟨b_4, rfl⟩ | ⟨b_4, rfl⟩
    · refine W.eq (g2 := F0 m 14 ls [.int 1, .ref m0]) rfl ?_
      refine lv_if_ne (tgt := 21) hx hb dX3_enter_14 (by decide) (fun _ => ?_) (fun c9 => absurd c9 (by decide))
      refine lv_iload_n hx hb dX3_enter_21 rfl (lv_at hl 1 rfl) ?_
      refine lv_iconst (v := 0) hx hb dX3_enter_22 (by decide) ?_
      refine lv_bipush (v := 12) hx hb dX3_enter_23 (by decide) ?_
      refine kS (k9 := 0) (n9 := 0) hF hG hz hM hS [.int p0, .int 0, .int 12] [.ref m0] (metX3_in p0 0 12) (va_cwS 3 hts (lw_S q857 q858 q27 q859) rfl rfl rfl (by decide +kernel) ⟨(Nat.le_of_ble_eq_true rfl), (Nat.le_of_ble_eq_true rfl)⟩) rfl hl.1 rfl (Nat.le_of_ble_eq_true rfl) dX3_enter_25 rfl rfl (Nat.le_of_ble_eq_true rfl) (Nat.le_of_ble_eq_true rfl) (fun _ _ _ _ _ h9 _ _ _ _ _ => h9.elim) (fun v9 M9_3 H locs hp9 hM9_3 hS => ?_)
      obtain ⟨r_5, rfl, b_6, rfl⟩ := hp9
      have hM := hM9_3
      rcases b_6 with ⟨b_6, rfl⟩ | ⟨b_6, rfl⟩
      · refine W.eq (g2 := F0 m 28 ls [.int 1, .ref m0]) rfl ?_
        refine lv_if_eq (tgt := 55) hx hb dX3_enter_28 (by decide) (fun c9 => absurd c9 (by decide)) (fun _ => ?_)
        refine lv_iload_n hx hb dX3_enter_31 rfl (lv_at hl 1 rfl) ?_
        refine lv_aload_n hx hb dX3_enter_32 rfl (lv_at hl 0 rfl) ?_
        refine r_get (ci := 7) hF in_X3 hG hM hPm.1 rfl 2 (by decide) q759 (fun _ h => h) (.int (nI (cn 4))) rfl dX3_enter_33 ?_
        refine lv_icmp_gt (tgt := 55) hx hb dX3_enter_36 (by decide) (fun c_7 => ?_) (fun c_7 => ?_)
        · have c_7B := Int32.not_le.mpr c_7
          refine lv_iconst (v := 2) hx hb dX3_enter_55 (by decide) ?_
          refine lv_goto (tgt := 82) hx hb dX3_enter_56 (by decide) ?_
          refine r_put (ci := 7) (ty := .int) (v := .int 2) hF in_X3 tyX3 tyX3_ok nmX3 hG hM hS hPm.1 rfl 28 (by decide) q785 (fun _ h => h) rfl (by decide +kernel) rfl rfl (Nat.le_of_ble_eq_true rfl) dX3_enter_82 (fun H locs hM hS => ?_)
          obtain ⟨M_8, hM, hPm, hfr⟩ := PicM.stepF (cn' := cn) (lim' := lim) (th' := 2) hPm hfr hM
          refine lv_aload_n hx hb dX3_enter_85 rfl (lv_at hl 0 rfl) ?_
          refine r_get (ci := 7) hF in_X3 hG hM hPm.1 rfl 28 (by decide) q785 (fun _ h => h) (.int 2) rfl dX3_enter_86 ?_
          refine lv_if_ne (tgt := 104) hx hb dX3_enter_89 (by decide) (fun _ => ?_) (fun c9 => absurd c9 (by decide))
          refine lv_iconst (v := 0) hx hb dX3_enter_104 (by decide) ?_
          have ht9 : tEnter cn p0 p1 p2 p3 = (2 : Int32) := by simp [tEnter, b_2, b_4, b_6, c_7, c_7B]
          exact k_iret hx hb hr rfl hlocks hG hz hM hS (Nat.le_of_ble_eq_true rfl) (Nat.le_of_ble_eq_true rfl) dX3_enter_105 ⟨_, rfl, mPost.bad ht9 (by decide) hPm hfr⟩
        · have c_7B := Int32.not_lt.mp c_7
          refine lv_iload hx hb dX3_enter_39 (lv_at hl 4 rfl) ?_
          refine lv_iconst (v := 1) hx hb dX3_enter_41 (by decide) ?_
          refine lv_ldc (v := 1000000) hx hb hown (hts _ q864) dX3_enter_42 ?_
          refine kS (k9 := 0) (n9 := 0) hF hG hz hM hS [.int p3, .int 1, .int 1000000] [.ref m0] (metX3_in p3 1 1000000) (va_cwS 3 hts (lw_S q857 q858 q27 q859) rfl rfl rfl (by decide +kernel) ⟨(Nat.le_of_ble_eq_true rfl), (Nat.le_of_ble_eq_true rfl)⟩) rfl hl.1 rfl (Nat.le_of_ble_eq_true rfl) dX3_enter_44 rfl rfl (Nat.le_of_ble_eq_true rfl) (Nat.le_of_ble_eq_true rfl) (fun _ _ _ _ _ h9 _ _ _ _ _ => h9.elim) (fun v9 M9_4 H locs hp9 hM9_4 hS => ?_)
          obtain ⟨r_9, rfl, b_10, rfl⟩ := hp9
          have hM := hM9_4
          rcases b_10 with ⟨b_10, rfl⟩ | ⟨b_10, rfl⟩
          · refine W.eq (g2 := F0 m 47 ls [.int 1, .ref m0]) rfl ?_
            refine lv_if_eq (tgt := 55) hx hb dX3_enter_47 (by decide) (fun c9 => absurd c9 (by decide)) (fun _ => ?_)
            refine lv_iload_n hx hb dX3_enter_50 rfl (lv_at hl 2 rfl) ?_
            refine lv_iload_n hx hb dX3_enter_51 rfl (lv_at hl 3 rfl) ?_
            refine lv_icmp_ne (tgt := 59) hx hb dX3_enter_52 (by decide) (fun c_11 => ?_) (fun c_11 => ?_)
            · refine lv_aload_n hx hb dX3_enter_59 rfl (lv_at hl 0 rfl) ?_
              refine r_get (ci := 7) hF in_X3 hG hM hPm.1 rfl 3 (by decide) q760 (fun _ h => h) (.int (nI (cn 1))) rfl dX3_enter_60 ?_
              refine lv_bipush (v := 120) hx hb dX3_enter_63 (by decide) ?_
              refine lv_icmp_eq (tgt := 77) hx hb dX3_enter_65 (by decide) (fun c_12 => ?_) (fun c_12 => ?_)
              · have c_12R := c_12
                have c_12 : (cn 1) = 120 := (nI_eq (a := (cn 1)) (b := 120) (by omega) (by omega)).mp c_12R
                refine lv_iconst (v := 3) hx hb dX3_enter_77 (by decide) ?_
                refine lv_goto (tgt := 82) hx hb dX3_enter_78 (by decide) ?_
                refine r_put (ci := 7) (ty := .int) (v := .int 3) hF in_X3 tyX3 tyX3_ok nmX3 hG hM hS hPm.1 rfl 28 (by decide) q785 (fun _ h => h) rfl (by decide +kernel) rfl rfl (Nat.le_of_ble_eq_true rfl) dX3_enter_82 (fun H locs hM hS => ?_)
                obtain ⟨M_13, hM, hPm, hfr⟩ := PicM.stepF (cn' := cn) (lim' := lim) (th' := 3) hPm hfr hM
                refine lv_aload_n hx hb dX3_enter_85 rfl (lv_at hl 0 rfl) ?_
                refine r_get (ci := 7) hF in_X3 hG hM hPm.1 rfl 28 (by decide) q785 (fun _ h => h) (.int 3) rfl dX3_enter_86 ?_
                refine lv_if_ne (tgt := 104) hx hb dX3_enter_89 (by decide) (fun _ => ?_) (fun c9 => absurd c9 (by decide))
                refine lv_iconst (v := 0) hx hb dX3_enter_104 (by decide) ?_
                have ht9 : tEnter cn p0 p1 p2 p3 = (3 : Int32) := by simp [tEnter, b_2, b_4, b_6, c_7, c_7B, b_10, c_11, (eq_true c_12), (eq_true c_12R)]
                exact k_iret hx hb hr rfl hlocks hG hz hM hS (Nat.le_of_ble_eq_true rfl) (Nat.le_of_ble_eq_true rfl) dX3_enter_105 ⟨_, rfl, mPost.bad ht9 (by decide) hPm hfr⟩
              · have c_12R := c_12
                have c_12 : ¬ ((cn 1) = 120) := fun h9 => c_12R ((nI_eq (a := (cn 1)) (b := 120) (by omega) (by omega)).mpr h9)
                refine lv_aload_n hx hb dX3_enter_68 rfl (lv_at hl 0 rfl) ?_
                refine r_get (ci := 7) hF in_X3 hG hM hPm.1 rfl 2 (by decide) q759 (fun _ h => h) (.int (nI (cn 4))) rfl dX3_enter_69 ?_
                refine lv_bipush (v := 12) hx hb dX3_enter_72 (by decide) ?_
                refine lv_icmp_le (tgt := 81) hx hb dX3_enter_74 (by decide) (fun c_14 => ?_) (fun c_14 => ?_)
                · have c_14R := c_14
                  have c_14 : (cn 4) ≤ 12 := (nI_leI (a := (cn 4)) (b := 12) (by omega) (by omega)).mp c_14R
                  have c_14B : ¬ (12 < (cn 4)) := by omega
                  have c_14RB := Int32.not_lt.mpr c_14R
                  refine lv_iconst (v := 0) hx hb dX3_enter_81 (by decide) ?_
                  refine r_put (ci := 7) (ty := .int) (v := .int 0) hF in_X3 tyX3 tyX3_ok nmX3 hG hM hS hPm.1 rfl 28 (by decide) q785 (fun _ h => h) rfl (by decide +kernel) rfl rfl (Nat.le_of_ble_eq_true rfl) dX3_enter_82 (fun H locs hM hS => ?_)
                  obtain ⟨M_15, hM, hPm, hfr⟩ := PicM.stepF (cn' := cn) (lim' := lim) (th' := 0) hPm hfr hM
                  refine lv_aload_n hx hb dX3_enter_85 rfl (lv_at hl 0 rfl) ?_
                  refine r_get (ci := 7) hF in_X3 hG hM hPm.1 rfl 28 (by decide) q785 (fun _ h => h) (.int 0) rfl dX3_enter_86 ?_
                  refine lv_if_ne (tgt := 104) hx hb dX3_enter_89 (by decide) (fun c9 => absurd c9 (by decide)) (fun _ => ?_)
                  refine lv_aload_n hx hb dX3_enter_92 rfl (lv_at hl 0 rfl) ?_
                  refine lv_iload_n hx hb dX3_enter_93 rfl (lv_at hl 1 rfl) ?_
                  refine lv_iload_n hx hb dX3_enter_94 rfl (lv_at hl 2 rfl) ?_
                  refine lv_iload_n hx hb dX3_enter_95 rfl (lv_at hl 3 rfl) ?_
                  refine lv_iload hx hb dX3_enter_96 (lv_at hl 4 rfl) ?_
                  refine kV (k9 := 0) (n9 := 0) hF hG hz hM hS [.int p0, .int p1, .int p2, .int p3] [] (metX3_enters hPm p0 p1 p2 p3 (show (cn 1) < 120 by omega)) (cwV 4 hts (lw_V q865 q867 qs10 q27 q868) rfl rfl rfl (by decide +kernel) ⟨(Nat.le_of_ble_eq_true rfl), (Nat.le_of_ble_eq_true rfl)⟩) (k_recv hG hM hPm.1 (ci := 7) rfl) rfl hl.1 rfl (Nat.le_of_ble_eq_true rfl) dX3_enter_98 rfl rfl (Nat.le_of_ble_eq_true rfl) (Nat.le_of_ble_eq_true rfl) (fun _ _ _ _ _ h9 _ _ _ _ _ => h9.elim) (fun v9 M9_5 H locs hp9 hM9_5 hS => ?_)
                  obtain ⟨r_16, rfl, r_16_e, hPm, hfr9⟩ := hp9
                  have hM := hM9_5
                  have hfr := hfr.tr hfr9
                  subst r_16_e
                  refine W.eq (g2 := F0 m 101 ls [.int (nI (cn 1))]) rfl ?_
                  refine lv_goto (tgt := 105) hx hb dX3_enter_101 (by decide) ?_
                  have ht9 : tEnter cn p0 p1 p2 p3 = (0 : Int32) := by simp [tEnter, b_2, b_4, b_6, c_7, c_7B, b_10, c_11, c_12, c_12R, c_14, c_14B, c_14R, c_14RB]
                  have ha9 : (nI (cn 1)) = nI (cn 1) := by first | rfl | (simp only [b_2, b_4, b_6, c_7, c_7B, b_10, c_11, c_12, c_12R, c_14, c_14B, c_14R, c_14RB]; done) | (simp only [b_2, b_4, b_6, c_7, c_7B, b_10, c_11, c_12, c_12R, c_14, c_14B, c_14R, c_14RB]; rfl) | simp [b_2, b_4, b_6, c_7, c_7B, b_10, c_11, c_12, c_12R, c_14, c_14B, c_14R, c_14RB]
                  have er9 : rEnters cn ar (lateOf cn p0) p1 p2 p3 = (rEnters cn ar (lateOf cn p0) p1 p2 p3) := by first | rfl | (simp only [b_2, b_4, b_6, c_7, c_7B, b_10, c_11, c_12, c_12R, c_14, c_14B, c_14R, c_14RB]; done) | (simp only [b_2, b_4, b_6, c_7, c_7B, b_10, c_11, c_12, c_12R, c_14, c_14B, c_14R, c_14RB]; rfl) | simp [b_2, b_4, b_6, c_7, c_7B, b_10, c_11, c_12, c_12R, c_14, c_14B, c_14R, c_14RB]
                  have ec9 : cUp cn 1 = (cUp cn 1) := by first | rfl | (simp only [b_2, b_4, b_6, c_7, c_7B, b_10, c_11, c_12, c_12R, c_14, c_14B, c_14R, c_14RB]; done) | (simp only [b_2, b_4, b_6, c_7, c_7B, b_10, c_11, c_12, c_12R, c_14, c_14B, c_14R, c_14RB]; rfl) | simp [b_2, b_4, b_6, c_7, c_7B, b_10, c_11, c_12, c_12R, c_14, c_14B, c_14R, c_14RB]
                  exact k_iret hx hb hr rfl hlocks hG hz hM hS (Nat.le_of_ble_eq_true rfl) (Nat.le_of_ble_eq_true rfl) dX3_enter_105 ⟨_, rfl, mPost.ok ht9 ha9 (by rw [ec9, er9]; exact hPm) hfr⟩
                · have c_14R := c_14
                  have c_14 : ¬ ((cn 4) ≤ 12) := fun h9 => c_14R ((nI_leI (a := (cn 4)) (b := 12) (by omega) (by omega)).mpr h9)
                  have c_14B : 12 < (cn 4) := by omega
                  have c_14RB := Int32.not_le.mp c_14R
                  refine lv_iconst (v := 3) hx hb dX3_enter_77 (by decide) ?_
                  refine lv_goto (tgt := 82) hx hb dX3_enter_78 (by decide) ?_
                  refine r_put (ci := 7) (ty := .int) (v := .int 3) hF in_X3 tyX3 tyX3_ok nmX3 hG hM hS hPm.1 rfl 28 (by decide) q785 (fun _ h => h) rfl (by decide +kernel) rfl rfl (Nat.le_of_ble_eq_true rfl) dX3_enter_82 (fun H locs hM hS => ?_)
                  obtain ⟨M_17, hM, hPm, hfr⟩ := PicM.stepF (cn' := cn) (lim' := lim) (th' := 3) hPm hfr hM
                  refine lv_aload_n hx hb dX3_enter_85 rfl (lv_at hl 0 rfl) ?_
                  refine r_get (ci := 7) hF in_X3 hG hM hPm.1 rfl 28 (by decide) q785 (fun _ h => h) (.int 3) rfl dX3_enter_86 ?_
                  refine lv_if_ne (tgt := 104) hx hb dX3_enter_89 (by decide) (fun _ => ?_) (fun c9 => absurd c9 (by decide))
                  refine lv_iconst (v := 0) hx hb dX3_enter_104 (by decide) ?_
                  have ht9 : tEnter cn p0 p1 p2 p3 = (3 : Int32) := by simp [tEnter, b_2, b_4, b_6, c_7, c_7B, b_10, c_11, c_12, c_12R, c_14, c_14B, c_14R, c_14RB]
                  exact k_iret hx hb hr rfl hlocks hG hz hM hS (Nat.le_of_ble_eq_true rfl) (Nat.le_of_ble_eq_true rfl) dX3_enter_105 ⟨_, rfl, mPost.bad ht9 (by decide) hPm hfr⟩
            · refine lv_iconst (v := 2) hx hb dX3_enter_55 (by decide) ?_
              refine lv_goto (tgt := 82) hx hb dX3_enter_56 (by decide) ?_
              refine r_put (ci := 7) (ty := .int) (v := .int 2) hF in_X3 tyX3 tyX3_ok nmX3 hG hM hS hPm.1 rfl 28 (by decide) q785 (fun _ h => h) rfl (by decide +kernel) rfl rfl (Nat.le_of_ble_eq_true rfl) dX3_enter_82 (fun H locs hM hS => ?_)
              obtain ⟨M_18, hM, hPm, hfr⟩ := PicM.stepF (cn' := cn) (lim' := lim) (th' := 2) hPm hfr hM
              refine lv_aload_n hx hb dX3_enter_85 rfl (lv_at hl 0 rfl) ?_
              refine r_get (ci := 7) hF in_X3 hG hM hPm.1 rfl 28 (by decide) q785 (fun _ h => h) (.int 2) rfl dX3_enter_86 ?_
              refine lv_if_ne (tgt := 104) hx hb dX3_enter_89 (by decide) (fun _ => ?_) (fun c9 => absurd c9 (by decide))
              refine lv_iconst (v := 0) hx hb dX3_enter_104 (by decide) ?_
              have ht9 : tEnter cn p0 p1 p2 p3 = (2 : Int32) := by simp [tEnter, b_2, b_4, b_6, c_7, c_7B, b_10, (eq_true c_11)]
              exact k_iret hx hb hr rfl hlocks hG hz hM hS (Nat.le_of_ble_eq_true rfl) (Nat.le_of_ble_eq_true rfl) dX3_enter_105 ⟨_, rfl, mPost.bad ht9 (by decide) hPm hfr⟩
          · refine W.eq (g2 := F0 m 47 ls [.int 0, .ref m0]) rfl ?_
            refine lv_if_eq (tgt := 55) hx hb dX3_enter_47 (by decide) (fun _ => ?_) (fun c9 => absurd (by decide) c9)
            refine lv_iconst (v := 2) hx hb dX3_enter_55 (by decide) ?_
            refine lv_goto (tgt := 82) hx hb dX3_enter_56 (by decide) ?_
            refine r_put (ci := 7) (ty := .int) (v := .int 2) hF in_X3 tyX3 tyX3_ok nmX3 hG hM hS hPm.1 rfl 28 (by decide) q785 (fun _ h => h) rfl (by decide +kernel) rfl rfl (Nat.le_of_ble_eq_true rfl) dX3_enter_82 (fun H locs hM hS => ?_)
            obtain ⟨M_19, hM, hPm, hfr⟩ := PicM.stepF (cn' := cn) (lim' := lim) (th' := 2) hPm hfr hM
            refine lv_aload_n hx hb dX3_enter_85 rfl (lv_at hl 0 rfl) ?_
            refine r_get (ci := 7) hF in_X3 hG hM hPm.1 rfl 28 (by decide) q785 (fun _ h => h) (.int 2) rfl dX3_enter_86 ?_
            refine lv_if_ne (tgt := 104) hx hb dX3_enter_89 (by decide) (fun _ => ?_) (fun c9 => absurd c9 (by decide))
            refine lv_iconst (v := 0) hx hb dX3_enter_104 (by decide) ?_
            have ht9 : tEnter cn p0 p1 p2 p3 = (2 : Int32) := by simp [tEnter, b_2, b_4, b_6, c_7, c_7B, b_10]
            exact k_iret hx hb hr rfl hlocks hG hz hM hS (Nat.le_of_ble_eq_true rfl) (Nat.le_of_ble_eq_true rfl) dX3_enter_105 ⟨_, rfl, mPost.bad ht9 (by decide) hPm hfr⟩
      · refine W.eq (g2 := F0 m 28 ls [.int 0, .ref m0]) rfl ?_
        refine lv_if_eq (tgt := 55) hx hb dX3_enter_28 (by decide) (fun _ => ?_) (fun c9 => absurd (by decide) c9)
        refine lv_iconst (v := 2) hx hb dX3_enter_55 (by decide) ?_
        refine lv_goto (tgt := 82) hx hb dX3_enter_56 (by decide) ?_
        refine r_put (ci := 7) (ty := .int) (v := .int 2) hF in_X3 tyX3 tyX3_ok nmX3 hG hM hS hPm.1 rfl 28 (by decide) q785 (fun _ h => h) rfl (by decide +kernel) rfl rfl (Nat.le_of_ble_eq_true rfl) dX3_enter_82 (fun H locs hM hS => ?_)
        obtain ⟨M_20, hM, hPm, hfr⟩ := PicM.stepF (cn' := cn) (lim' := lim) (th' := 2) hPm hfr hM
        refine lv_aload_n hx hb dX3_enter_85 rfl (lv_at hl 0 rfl) ?_
        refine r_get (ci := 7) hF in_X3 hG hM hPm.1 rfl 28 (by decide) q785 (fun _ h => h) (.int 2) rfl dX3_enter_86 ?_
        refine lv_if_ne (tgt := 104) hx hb dX3_enter_89 (by decide) (fun _ => ?_) (fun c9 => absurd c9 (by decide))
        refine lv_iconst (v := 0) hx hb dX3_enter_104 (by decide) ?_
        have ht9 : tEnter cn p0 p1 p2 p3 = (2 : Int32) := by simp [tEnter, b_2, b_4, b_6]
        exact k_iret hx hb hr rfl hlocks hG hz hM hS (Nat.le_of_ble_eq_true rfl) (Nat.le_of_ble_eq_true rfl) dX3_enter_105 ⟨_, rfl, mPost.bad ht9 (by decide) hPm hfr⟩
    · refine W.eq (g2 := F0 m 14 ls [.int 0, .ref m0]) rfl ?_
      refine lv_if_ne (tgt := 21) hx hb dX3_enter_14 (by decide) (fun c9 => absurd c9 (by decide)) (fun _ => ?_)
      refine lv_iconst (v := 1) hx hb dX3_enter_17 (by decide) ?_
      refine lv_goto (tgt := 82) hx hb dX3_enter_18 (by decide) ?_
      refine r_put (ci := 7) (ty := .int) (v := .int 1) hF in_X3 tyX3 tyX3_ok nmX3 hG hM hS hPm.1 rfl 28 (by decide) q785 (fun _ h => h) rfl (by decide +kernel) rfl rfl (Nat.le_of_ble_eq_true rfl) dX3_enter_82 (fun H locs hM hS => ?_)
      obtain ⟨M_21, hM, hPm, hfr⟩ := PicM.stepF (cn' := cn) (lim' := lim) (th' := 1) hPm hfr hM
      refine lv_aload_n hx hb dX3_enter_85 rfl (lv_at hl 0 rfl) ?_
      refine r_get (ci := 7) hF in_X3 hG hM hPm.1 rfl 28 (by decide) q785 (fun _ h => h) (.int 1) rfl dX3_enter_86 ?_
      refine lv_if_ne (tgt := 104) hx hb dX3_enter_89 (by decide) (fun _ => ?_) (fun c9 => absurd c9 (by decide))
      refine lv_iconst (v := 0) hx hb dX3_enter_104 (by decide) ?_
      have ht9 : tEnter cn p0 p1 p2 p3 = (1 : Int32) := by simp [tEnter, b_2, b_4]
      exact k_iret hx hb hr rfl hlocks hG hz hM hS (Nat.le_of_ble_eq_true rfl) (Nat.le_of_ble_eq_true rfl) dX3_enter_105 ⟨_, rfl, mPost.bad ht9 (by decide) hPm hfr⟩
  · refine W.eq (g2 := F0 m 6 ls [.int 0, .ref m0]) rfl ?_
    refine lv_if_eq (tgt := 17) hx hb dX3_enter_6 (by decide) (fun _ => ?_) (fun c9 => absurd (by decide) c9)
    refine lv_iconst (v := 1) hx hb dX3_enter_17 (by decide) ?_
    refine lv_goto (tgt := 82) hx hb dX3_enter_18 (by decide) ?_
    refine r_put (ci := 7) (ty := .int) (v := .int 1) hF in_X3 tyX3 tyX3_ok nmX3 hG hM hS hPm.1 rfl 28 (by decide) q785 (fun _ h => h) rfl (by decide +kernel) rfl rfl (Nat.le_of_ble_eq_true rfl) dX3_enter_82 (fun H locs hM hS => ?_)
    obtain ⟨M_22, hM, hPm, hfr⟩ := PicM.stepF (cn' := cn) (lim' := lim) (th' := 1) hPm hfr hM
    refine lv_aload_n hx hb dX3_enter_85 rfl (lv_at hl 0 rfl) ?_
    refine r_get (ci := 7) hF in_X3 hG hM hPm.1 rfl 28 (by decide) q785 (fun _ h => h) (.int 1) rfl dX3_enter_86 ?_
    refine lv_if_ne (tgt := 104) hx hb dX3_enter_89 (by decide) (fun _ => ?_) (fun c9 => absurd c9 (by decide))
    refine lv_iconst (v := 0) hx hb dX3_enter_104 (by decide) ?_
    have ht9 : tEnter cn p0 p1 p2 p3 = (1 : Int32) := by simp [tEnter, b_2]
    exact k_iret hx hb hr rfl hlocks hG hz hM hS (Nat.le_of_ble_eq_true rfl) (Nat.le_of_ble_eq_true rfl) dX3_enter_105 ⟨_, rfl, mPost.bad ht9 (by decide) hPm hfr⟩
set_option maxHeartbeats 4000000 in
set_option maxRecDepth 100000 in
theorem metX3_close {l : Launch} {z : Nat} {E : EE} {M : MM} {m0 : Nat} {aa : Nat → Nat} {cn : Nat → Nat} {lim th : Int32} {ar : Nat → Nat → Int32} (hPm : PicM E M m0 aa cn lim th ar) (hW : WF cn lim ar) : Kt l yX3_close (ws_ yX3_close cX3_close 1 (some .int)) ({ frames := 20, cells := 0, slots := 0, locals := 600 } : Room) z E [.ref m0] M (pI (fun r M' => mPost E M m0 aa (tClose cn) (nI (cn 4 + 1)) cn lim ar (cUp cn 4) (lim) (ar) r M')) xNo 0 0 := by
  refine k_body RX3 (by decide) rfl (Nat.le_of_ble_eq_true rfl) ?_
  intro p e s m args below meth c hx hb hr hml hown hlocks hname hno hts hz hG hM hS ls hl
  have hF : CallFix p m c cX3_close 1 s args lw_all RX3 := ⟨hx, hb, hml, hown, hts⟩
  have hl : lv_has ls 1 [(0, .ref m0)] := hl
  have hfr : Fr kM M M := Fr.rf
  have hwb := hW.b
  refine lv_aload_n hx hb dX3_close_0 rfl (lv_at hl 0 rfl) ?_
  refine lv_aload_n hx hb dX3_close_1 rfl (lv_at hl 0 rfl) ?_
  refine r_get (ci := 7) hF in_X3 hG hM hPm.1 rfl 2 (by decide) q759 (fun _ h => h) (.int (nI (cn 4))) rfl dX3_close_2 ?_
  refine lv_bipush (v := 12) hx hb dX3_close_5 (by decide) ?_
  refine lv_icmp_le (tgt := 14) hx hb dX3_close_7 (by decide) (fun c_1 => ?_) (fun c_1 => ?_)
  · have c_1R := c_1
    have c_1 : (cn 4) ≤ 12 := (nI_leI (a := (cn 4)) (b := 12) (by omega) (by omega)).mp c_1R
    have c_1B : ¬ (12 < (cn 4)) := by omega
    have c_1RB := Int32.not_lt.mpr c_1R
    refine lv_iconst (v := 0) hx hb dX3_close_14 (by decide) ?_
    refine r_put (ci := 7) (ty := .int) (v := .int 0) hF in_X3 tyX3 tyX3_ok nmX3 hG hM hS hPm.1 rfl 28 (by decide) q785 (fun _ h => h) rfl (by decide +kernel) rfl rfl (Nat.le_of_ble_eq_true rfl) dX3_close_15 (fun H locs hM hS => ?_)
    obtain ⟨M_2, hM, hPm, hfr⟩ := PicM.stepF (cn' := cn) (lim' := lim) (th' := 0) hPm hfr hM
    refine lv_aload_n hx hb dX3_close_18 rfl (lv_at hl 0 rfl) ?_
    refine lv_dup hx hb dX3_close_19 rfl ?_
    refine r_get (ci := 7) hF in_X3 hG hM hPm.1 rfl 2 (by decide) q759 (fun _ h => h) (.int (nI (cn 4))) rfl dX3_close_20 ?_
    refine lv_aload_n hx hb dX3_close_23 rfl (lv_at hl 0 rfl) ?_
    refine r_get (ci := 7) hF in_X3 hG hM hPm.1 rfl 28 (by decide) q785 (fun _ h => h) (.int 0) rfl dX3_close_24 ?_
    refine lv_if_ne (tgt := 34) hx hb dX3_close_27 (by decide) (fun c9 => absurd c9 (by decide)) (fun _ => ?_)
    refine lv_iconst (v := 1) hx hb dX3_close_30 (by decide) ?_
    refine lv_goto (tgt := 35) hx hb dX3_close_31 (by decide) ?_
    refine lv_iadd hx hb dX3_close_35 ?_
    rw [nI_1]
    refine r_put (ci := 7) (ty := .int) (v := .int (nI ((cn 4) + 1))) hF in_X3 tyX3 tyX3_ok nmX3 hG hM hS hPm.1 rfl 2 (by decide) q759 (fun _ h => h) rfl (by decide +kernel) rfl rfl (Nat.le_of_ble_eq_true rfl) dX3_close_36 (fun H locs hM hS => ?_)
    obtain ⟨M_3, hM, hPm, hfr⟩ := PicM.stepF (cn' := (cUp cn 4)) (lim' := lim) (th' := 0) hPm hfr hM
    refine lv_aload_n hx hb dX3_close_39 rfl (lv_at hl 0 rfl) ?_
    refine r_get (ci := 7) hF in_X3 hG hM hPm.1 rfl 28 (by decide) q785 (fun _ h => h) (.int 0) rfl dX3_close_40 ?_
    refine lv_if_ne (tgt := 53) hx hb dX3_close_43 (by decide) (fun c9 => absurd c9 (by decide)) (fun _ => ?_)
    refine lv_aload_n hx hb dX3_close_46 rfl (lv_at hl 0 rfl) ?_
    refine r_get (ci := 7) hF in_X3 hG hM hPm.1 rfl 2 (by decide) q759 (fun _ h => h) (.int (nI ((cn 4) + 1))) rfl dX3_close_47 ?_
    refine lv_goto (tgt := 54) hx hb dX3_close_50 (by decide) ?_
    have ht9 : tClose cn = (0 : Int32) := by simp [tClose, c_1, c_1B, c_1R, c_1RB]
    have ha9 : (nI ((cn 4) + 1)) = nI (cn 4 + 1) := by first | rfl | (simp only [c_1, c_1B, c_1R, c_1RB]; done) | (simp only [c_1, c_1B, c_1R, c_1RB]; rfl) | simp [c_1, c_1B, c_1R, c_1RB]
    have ec9 : cUp cn 4 = (cUp cn 4) := by first | rfl | (simp only [c_1, c_1B, c_1R, c_1RB]; done) | (simp only [c_1, c_1B, c_1R, c_1RB]; rfl) | simp [c_1, c_1B, c_1R, c_1RB]
    exact k_iret hx hb hr rfl hlocks hG hz hM hS (Nat.le_of_ble_eq_true rfl) (Nat.le_of_ble_eq_true rfl) dX3_close_54 ⟨_, rfl, mPost.ok ht9 ha9 (by rw [ec9]; exact hPm) hfr⟩
  · have c_1R := c_1
    have c_1 : ¬ ((cn 4) ≤ 12) := fun h9 => c_1R ((nI_leI (a := (cn 4)) (b := 12) (by omega) (by omega)).mpr h9)
    have c_1B : 12 < (cn 4) := by omega
    have c_1RB := Int32.not_le.mp c_1R
    refine lv_iconst (v := 1) hx hb dX3_close_10 (by decide) ?_
    refine lv_goto (tgt := 15) hx hb dX3_close_11 (by decide) ?_
    refine r_put (ci := 7) (ty := .int) (v := .int 1) hF in_X3 tyX3 tyX3_ok nmX3 hG hM hS hPm.1 rfl 28 (by decide) q785 (fun _ h => h) rfl (by decide +kernel) rfl rfl (Nat.le_of_ble_eq_true rfl) dX3_close_15 (fun H locs hM hS => ?_)
    obtain ⟨M_4, hM, hPm, hfr⟩ := PicM.stepF (cn' := cn) (lim' := lim) (th' := 1) hPm hfr hM
    refine lv_aload_n hx hb dX3_close_18 rfl (lv_at hl 0 rfl) ?_
    refine lv_dup hx hb dX3_close_19 rfl ?_
    refine r_get (ci := 7) hF in_X3 hG hM hPm.1 rfl 2 (by decide) q759 (fun _ h => h) (.int (nI (cn 4))) rfl dX3_close_20 ?_
    refine lv_aload_n hx hb dX3_close_23 rfl (lv_at hl 0 rfl) ?_
    refine r_get (ci := 7) hF in_X3 hG hM hPm.1 rfl 28 (by decide) q785 (fun _ h => h) (.int 1) rfl dX3_close_24 ?_
    refine lv_if_ne (tgt := 34) hx hb dX3_close_27 (by decide) (fun _ => ?_) (fun c9 => absurd c9 (by decide))
    refine lv_iconst (v := 0) hx hb dX3_close_34 (by decide) ?_
    refine lv_iadd hx hb dX3_close_35 ?_
    rw [Int32.add_zero]
    refine r_put (ci := 7) (ty := .int) (v := .int (nI (cn 4))) hF in_X3 tyX3 tyX3_ok nmX3 hG hM hS hPm.1 rfl 2 (by decide) q759 (fun _ h => h) rfl (by decide +kernel) rfl rfl (Nat.le_of_ble_eq_true rfl) dX3_close_36 (fun H locs hM hS => ?_)
    obtain ⟨M_5, hM, hPm, hfr⟩ := PicM.stepF (cn' := cn) (lim' := lim) (th' := 1) hPm hfr hM
    refine lv_aload_n hx hb dX3_close_39 rfl (lv_at hl 0 rfl) ?_
    refine r_get (ci := 7) hF in_X3 hG hM hPm.1 rfl 28 (by decide) q785 (fun _ h => h) (.int 1) rfl dX3_close_40 ?_
    refine lv_if_ne (tgt := 53) hx hb dX3_close_43 (by decide) (fun _ => ?_) (fun c9 => absurd c9 (by decide))
    refine lv_iconst (v := 0) hx hb dX3_close_53 (by decide) ?_
    have ht9 : tClose cn = (1 : Int32) := by simp [tClose, c_1, c_1B, c_1R, c_1RB]
    exact k_iret hx hb hr rfl hlocks hG hz hM hS (Nat.le_of_ble_eq_true rfl) (Nat.le_of_ble_eq_true rfl) dX3_close_54 ⟨_, rfl, mPost.bad ht9 (by decide) hPm hfr⟩
set_option maxHeartbeats 4000000 in
set_option maxRecDepth 100000 in
theorem metX3_period {l : Launch} {z : Nat} {E : EE} {M : MM} {m0 : Nat} {aa : Nat → Nat} {cn : Nat → Nat} {lim th : Int32} {ar : Nat → Nat → Int32} (hPm : PicM E M m0 aa cn lim th ar) (hW : WF cn lim ar) : Kt l yX3_period (ws_ yX3_period cX3_period 1 (some .int)) ({ frames := 20, cells := 0, slots := 0, locals := 600 } : Room) z E [.ref m0] M (pI (fun r M' => mPost E M m0 aa (0) (nI (cn 4)) cn lim ar (cn) (lim) (ar) r M')) xNo 0 0 := by
  refine k_body RX3 (by decide) rfl (Nat.le_of_ble_eq_true rfl) ?_
  intro p e s m args below meth c hx hb hr hml hown hlocks hname hno hts hz hG hM hS ls hl
  have hF : CallFix p m c cX3_period 1 s args lw_all RX3 := ⟨hx, hb, hml, hown, hts⟩
  have hl : lv_has ls 1 [(0, .ref m0)] := hl
  have hfr : Fr kM M M := Fr.rf
  have hwb := hW.b
  refine lv_aload_n hx hb dX3_period_0 rfl (lv_at hl 0 rfl) ?_
  refine lv_iconst (v := 0) hx hb dX3_period_1 (by decide) ?_
  refine r_put (ci := 7) (ty := .int) (v := .int 0) hF in_X3 tyX3 tyX3_ok nmX3 hG hM hS hPm.1 rfl 28 (by decide) q785 (fun _ h => h) rfl (by decide +kernel) rfl rfl (Nat.le_of_ble_eq_true rfl) dX3_period_2 (fun H locs hM hS => ?_)
  obtain ⟨M_1, hM, hPm, hfr⟩ := PicM.stepF (cn' := cn) (lim' := lim) (th' := 0) hPm hfr hM
  refine lv_aload_n hx hb dX3_period_5 rfl (lv_at hl 0 rfl) ?_
  refine r_get (ci := 7) hF in_X3 hG hM hPm.1 rfl 2 (by decide) q759 (fun _ h => h) (.int (nI (cn 4))) rfl dX3_period_6 ?_
  have ht9 : 0 = (0 : Int32) := by rfl
  have ha9 : (nI (cn 4)) = nI (cn 4) := by first | rfl | (simp only []; done) | (simp only []; rfl) | simp []
  exact k_iret hx hb hr rfl hlocks hG hz hM hS (Nat.le_of_ble_eq_true rfl) (Nat.le_of_ble_eq_true rfl) dX3_period_9 ⟨_, rfl, mPost.ok ht9 ha9 hPm hfr⟩
set_option maxHeartbeats 4000000 in
set_option maxRecDepth 100000 in
theorem metX3_entries {l : Launch} {z : Nat} {E : EE} {M : MM} {m0 : Nat} {aa : Nat → Nat} {cn : Nat → Nat} {lim th : Int32} {ar : Nat → Nat → Int32} (hPm : PicM E M m0 aa cn lim th ar) (hW : WF cn lim ar) : Kt l yX3_entries (ws_ yX3_entries cX3_entries 1 (some .int)) ({ frames := 20, cells := 0, slots := 0, locals := 600 } : Room) z E [.ref m0] M (pI (fun r M' => mPost E M m0 aa (0) (nI (cn 1)) cn lim ar (cn) (lim) (ar) r M')) xNo 0 0 := by
  refine k_body RX3 (by decide) rfl (Nat.le_of_ble_eq_true rfl) ?_
  intro p e s m args below meth c hx hb hr hml hown hlocks hname hno hts hz hG hM hS ls hl
  have hF : CallFix p m c cX3_entries 1 s args lw_all RX3 := ⟨hx, hb, hml, hown, hts⟩
  have hl : lv_has ls 1 [(0, .ref m0)] := hl
  have hfr : Fr kM M M := Fr.rf
  have hwb := hW.b
  refine lv_aload_n hx hb dX3_entries_0 rfl (lv_at hl 0 rfl) ?_
  refine lv_iconst (v := 0) hx hb dX3_entries_1 (by decide) ?_
  refine r_put (ci := 7) (ty := .int) (v := .int 0) hF in_X3 tyX3 tyX3_ok nmX3 hG hM hS hPm.1 rfl 28 (by decide) q785 (fun _ h => h) rfl (by decide +kernel) rfl rfl (Nat.le_of_ble_eq_true rfl) dX3_entries_2 (fun H locs hM hS => ?_)
  obtain ⟨M_1, hM, hPm, hfr⟩ := PicM.stepF (cn' := cn) (lim' := lim) (th' := 0) hPm hfr hM
  refine lv_aload_n hx hb dX3_entries_5 rfl (lv_at hl 0 rfl) ?_
  refine r_get (ci := 7) hF in_X3 hG hM hPm.1 rfl 3 (by decide) q760 (fun _ h => h) (.int (nI (cn 1))) rfl dX3_entries_6 ?_
  have ht9 : 0 = (0 : Int32) := by rfl
  have ha9 : (nI (cn 1)) = nI (cn 1) := by first | rfl | (simp only []; done) | (simp only []; rfl) | simp []
  exact k_iret hx hb hr rfl hlocks hG hz hM hS (Nat.le_of_ble_eq_true rfl) (Nat.le_of_ble_eq_true rfl) dX3_entries_9 ⟨_, rfl, mPost.ok ht9 ha9 hPm hfr⟩
set_option maxHeartbeats 4000000 in
set_option maxRecDepth 100000 in
theorem metX3_periodOf {l : Launch} {z : Nat} {E : EE} {M : MM} {m0 : Nat} {aa : Nat → Nat} {cn : Nat → Nat} {lim th : Int32} {ar : Nat → Nat → Int32} (hPm : PicM E M m0 aa cn lim th ar) (hW : WF cn lim ar) (p0 : Int32) : Kt l yX3_periodOf (ws_ yX3_periodOf cX3_periodOf 2 (some .int)) ({ frames := 20, cells := 0, slots := 0, locals := 600 } : Room) z E [.ref m0, .int p0] M (pI (fun r M' => mPost E M m0 aa (tEntry cn p0) (ar 1 (nx p0)) cn lim ar (cn) (lim) (ar) r M')) xNo 0 0 := by
  refine k_body RX3 (by decide) rfl (Nat.le_of_ble_eq_true rfl) ?_
  intro p e s m args below meth c hx hb hr hml hown hlocks hname hno hts hz hG hM hS ls hl
  have hF : CallFix p m c cX3_periodOf 2 s args lw_all RX3 := ⟨hx, hb, hml, hown, hts⟩
  have hl : lv_has ls 2 [(0, .ref m0), (1, .int p0)] := hl
  have hfr : Fr kM M M := Fr.rf
  have hwb := hW.b
  refine lv_aload_n hx hb dX3_periodOf_0 rfl (lv_at hl 0 rfl) ?_
  refine lv_iload_n hx hb dX3_periodOf_1 rfl (lv_at hl 1 rfl) ?_
  refine lv_iconst (v := 0) hx hb dX3_periodOf_2 (by decide) ?_
  refine lv_aload_n hx hb dX3_periodOf_3 rfl (lv_at hl 0 rfl) ?_
  refine r_get (ci := 7) hF in_X3 hG hM hPm.1 rfl 3 (by decide) q760 (fun _ h => h) (.int (nI (cn 1))) rfl dX3_periodOf_4 ?_
  refine lv_iconst (v := 1) hx hb dX3_periodOf_7 (by decide) ?_
  refine lv_isub hx hb dX3_periodOf_8 ?_
  refine kS (k9 := 0) (n9 := 0) hF hG hz hM hS [.int p0, .int 0, .int ((nI (cn 1)) - 1)] [.ref m0] (metX3_in p0 0 ((nI (cn 1)) - 1)) (va_cwS 3 hts (lw_S q857 q858 q27 q859) rfl rfl rfl (by decide +kernel) ⟨(Nat.le_of_ble_eq_true rfl), (Nat.le_of_ble_eq_true rfl)⟩) rfl hl.1 rfl (Nat.le_of_ble_eq_true rfl) dX3_periodOf_9 rfl rfl (Nat.le_of_ble_eq_true rfl) (Nat.le_of_ble_eq_true rfl) (fun _ _ _ _ _ h9 _ _ _ _ _ => h9.elim) (fun v9 M9_1 H locs hp9 hM9_1 hS => ?_)
  obtain ⟨r_1, rfl, b_2, rfl⟩ := hp9
  have hM := hM9_1
  rw [inB_inR (n := (cn 1)) (by omega)] at b_2
  rcases b_2 with ⟨b_2, rfl⟩ | ⟨b_2, rfl⟩
  · refine W.eq (g2 := F0 m 12 ls [.int 1, .ref m0]) rfl ?_
    obtain ⟨j0, hj0, rfl⟩ := inB_ex b_2 (by omega)
    have hnj0 : nx (nI j0) = j0 := nI_clamp (by omega)
    refine lv_if_eq (tgt := 19) hx hb dX3_periodOf_12 (by decide) (fun c9 => absurd c9 (by decide)) (fun _ => ?_)
    refine lv_iconst (v := 0) hx hb dX3_periodOf_15 (by decide) ?_
    refine lv_goto (tgt := 20) hx hb dX3_periodOf_16 (by decide) ?_
    refine r_put (ci := 7) (ty := .int) (v := .int 0) hF in_X3 tyX3 tyX3_ok nmX3 hG hM hS hPm.1 rfl 28 (by decide) q785 (fun _ h => h) rfl (by decide +kernel) rfl rfl (Nat.le_of_ble_eq_true rfl) dX3_periodOf_20 (fun H locs hM hS => ?_)
    obtain ⟨M_3, hM, hPm, hfr⟩ := PicM.stepF (cn' := cn) (lim' := lim) (th' := 0) hPm hfr hM
    refine lv_aload_n hx hb dX3_periodOf_23 rfl (lv_at hl 0 rfl) ?_
    refine r_get (ci := 7) hF in_X3 hG hM hPm.1 rfl 28 (by decide) q785 (fun _ h => h) (.int 0) rfl dX3_periodOf_24 ?_
    refine lv_if_ne (tgt := 39) hx hb dX3_periodOf_27 (by decide) (fun c9 => absurd c9 (by decide)) (fun _ => ?_)
    refine lv_aload_n hx hb dX3_periodOf_30 rfl (lv_at hl 0 rfl) ?_
    refine r_get (ci := 7) hF in_X3 hG hM hPm.1 rfl 4 (by decide) q761 (fun _ h => h) (.ref (aa 1)) rfl dX3_periodOf_31 ?_
    refine lv_iload_n hx hb dX3_periodOf_34 rfl (lv_at hl 1 rfl) ?_
    refine r_ialdN (n := 120) (f := (ar 1)) j0 hF hG hM hPm.a1 (by omega) (by decide) rfl dX3_periodOf_35 ?_
    refine lv_goto (tgt := 40) hx hb dX3_periodOf_36 (by decide) ?_
    have ht9 : tEntry cn (nI j0) = (0 : Int32) := by simp [tEntry, b_2, hnj0]
    have ha9 : ((ar 1) j0) = ar 1 (nx (nI j0)) := by first | rfl | (simp only [b_2, hnj0]; done) | (simp only [b_2, hnj0]; rfl) | simp [b_2, hnj0]
    exact k_iret hx hb hr rfl hlocks hG hz hM hS (Nat.le_of_ble_eq_true rfl) (Nat.le_of_ble_eq_true rfl) dX3_periodOf_40 ⟨_, rfl, mPost.ok ht9 ha9 hPm hfr⟩
  · refine W.eq (g2 := F0 m 12 ls [.int 0, .ref m0]) rfl ?_
    refine lv_if_eq (tgt := 19) hx hb dX3_periodOf_12 (by decide) (fun _ => ?_) (fun c9 => absurd (by decide) c9)
    refine lv_iconst (v := 1) hx hb dX3_periodOf_19 (by decide) ?_
    refine r_put (ci := 7) (ty := .int) (v := .int 1) hF in_X3 tyX3 tyX3_ok nmX3 hG hM hS hPm.1 rfl 28 (by decide) q785 (fun _ h => h) rfl (by decide +kernel) rfl rfl (Nat.le_of_ble_eq_true rfl) dX3_periodOf_20 (fun H locs hM hS => ?_)
    obtain ⟨M_4, hM, hPm, hfr⟩ := PicM.stepF (cn' := cn) (lim' := lim) (th' := 1) hPm hfr hM
    refine lv_aload_n hx hb dX3_periodOf_23 rfl (lv_at hl 0 rfl) ?_
    refine r_get (ci := 7) hF in_X3 hG hM hPm.1 rfl 28 (by decide) q785 (fun _ h => h) (.int 1) rfl dX3_periodOf_24 ?_
    refine lv_if_ne (tgt := 39) hx hb dX3_periodOf_27 (by decide) (fun _ => ?_) (fun c9 => absurd c9 (by decide))
    refine lv_iconst (v := 0) hx hb dX3_periodOf_39 (by decide) ?_
    have ht9 : tEntry cn p0 = (1 : Int32) := by simp [tEntry, b_2]
    exact k_iret hx hb hr rfl hlocks hG hz hM hS (Nat.le_of_ble_eq_true rfl) (Nat.le_of_ble_eq_true rfl) dX3_periodOf_40 ⟨_, rfl, mPost.bad ht9 (by decide) hPm hfr⟩
set_option maxHeartbeats 4000000 in
set_option maxRecDepth 100000 in
theorem metX3_isLate {l : Launch} {z : Nat} {E : EE} {M : MM} {m0 : Nat} {aa : Nat → Nat} {cn : Nat → Nat} {lim th : Int32} {ar : Nat → Nat → Int32} (hPm : PicM E M m0 aa cn lim th ar) (hW : WF cn lim ar) (p0 : Int32) : Kt l yX3_isLate (ws_ yX3_isLate cX3_isLate 2 (some .boolean)) ({ frames := 20, cells := 0, slots := 0, locals := 600 } : Room) z E [.ref m0, .int p0] M (pI (fun r M' => mPost E M m0 aa (tEntry cn p0) (if ar 5 (nx p0) = 1 then 1 else 0) cn lim ar (cn) (lim) (ar) r M')) xNo 0 0 := by
  refine k_body RX3 (by decide) rfl (Nat.le_of_ble_eq_true rfl) ?_
  intro p e s m args below meth c hx hb hr hml hown hlocks hname hno hts hz hG hM hS ls hl
  have hF : CallFix p m c cX3_isLate 2 s args lw_all RX3 := ⟨hx, hb, hml, hown, hts⟩
  have hl : lv_has ls 2 [(0, .ref m0), (1, .int p0)] := hl
  have hfr : Fr kM M M := Fr.rf
  have hwb := hW.b
  refine lv_aload_n hx hb dX3_isLate_0 rfl (lv_at hl 0 rfl) ?_
  refine lv_iload_n hx hb dX3_isLate_1 rfl (lv_at hl 1 rfl) ?_
  refine lv_iconst (v := 0) hx hb dX3_isLate_2 (by decide) ?_
  refine lv_aload_n hx hb dX3_isLate_3 rfl (lv_at hl 0 rfl) ?_
  refine r_get (ci := 7) hF in_X3 hG hM hPm.1 rfl 3 (by decide) q760 (fun _ h => h) (.int (nI (cn 1))) rfl dX3_isLate_4 ?_
  refine lv_iconst (v := 1) hx hb dX3_isLate_7 (by decide) ?_
  refine lv_isub hx hb dX3_isLate_8 ?_
  refine kS (k9 := 0) (n9 := 0) hF hG hz hM hS [.int p0, .int 0, .int ((nI (cn 1)) - 1)] [.ref m0] (metX3_in p0 0 ((nI (cn 1)) - 1)) (va_cwS 3 hts (lw_S q857 q858 q27 q859) rfl rfl rfl (by decide +kernel) ⟨(Nat.le_of_ble_eq_true rfl), (Nat.le_of_ble_eq_true rfl)⟩) rfl hl.1 rfl (Nat.le_of_ble_eq_true rfl) dX3_isLate_9 rfl rfl (Nat.le_of_ble_eq_true rfl) (Nat.le_of_ble_eq_true rfl) (fun _ _ _ _ _ h9 _ _ _ _ _ => h9.elim) (fun v9 M9_1 H locs hp9 hM9_1 hS => ?_)
  obtain ⟨r_1, rfl, b_2, rfl⟩ := hp9
  have hM := hM9_1
  rw [inB_inR (n := (cn 1)) (by omega)] at b_2
  rcases b_2 with ⟨b_2, rfl⟩ | ⟨b_2, rfl⟩
  · refine W.eq (g2 := F0 m 12 ls [.int 1, .ref m0]) rfl ?_
    obtain ⟨j0, hj0, rfl⟩ := inB_ex b_2 (by omega)
    have hnj0 : nx (nI j0) = j0 := nI_clamp (by omega)
    refine lv_if_eq (tgt := 19) hx hb dX3_isLate_12 (by decide) (fun c9 => absurd c9 (by decide)) (fun _ => ?_)
    refine lv_iconst (v := 0) hx hb dX3_isLate_15 (by decide) ?_
    refine lv_goto (tgt := 20) hx hb dX3_isLate_16 (by decide) ?_
    refine r_put (ci := 7) (ty := .int) (v := .int 0) hF in_X3 tyX3 tyX3_ok nmX3 hG hM hS hPm.1 rfl 28 (by decide) q785 (fun _ h => h) rfl (by decide +kernel) rfl rfl (Nat.le_of_ble_eq_true rfl) dX3_isLate_20 (fun H locs hM hS => ?_)
    obtain ⟨M_3, hM, hPm, hfr⟩ := PicM.stepF (cn' := cn) (lim' := lim) (th' := 0) hPm hfr hM
    refine lv_aload_n hx hb dX3_isLate_23 rfl (lv_at hl 0 rfl) ?_
    refine r_get (ci := 7) hF in_X3 hG hM hPm.1 rfl 28 (by decide) q785 (fun _ h => h) (.int 0) rfl dX3_isLate_24 ?_
    refine lv_if_ne (tgt := 44) hx hb dX3_isLate_27 (by decide) (fun c9 => absurd c9 (by decide)) (fun _ => ?_)
    refine lv_aload_n hx hb dX3_isLate_30 rfl (lv_at hl 0 rfl) ?_
    refine r_get (ci := 7) hF in_X3 hG hM hPm.1 rfl 8 (by decide) q765 (fun _ h => h) (.ref (aa 5)) rfl dX3_isLate_31 ?_
    refine lv_iload_n hx hb dX3_isLate_34 rfl (lv_at hl 1 rfl) ?_
    refine r_ialdN (n := 120) (f := (ar 5)) j0 hF hG hM hPm.a5 (by omega) (by decide) rfl dX3_isLate_35 ?_
    refine lv_iconst (v := 1) hx hb dX3_isLate_36 (by decide) ?_
    refine lv_icmp_ne (tgt := 44) hx hb dX3_isLate_37 (by decide) (fun c_4 => ?_) (fun c_4 => ?_)
    · refine lv_iconst (v := 0) hx hb dX3_isLate_44 (by decide) ?_
      have ht9 : tEntry cn (nI j0) = (0 : Int32) := by simp [tEntry, b_2, hnj0, c_4]
      have ha9 : (0 : Int32) = if ar 5 (nx (nI j0)) = 1 then 1 else 0 := by first | rfl | (simp only [b_2, hnj0, c_4]; done) | (simp only [b_2, hnj0, c_4]; rfl) | simp [b_2, hnj0, c_4]
      exact k_iret hx hb hr rfl hlocks hG hz hM hS (Nat.le_of_ble_eq_true rfl) (Nat.le_of_ble_eq_true rfl) dX3_isLate_45 ⟨_, rfl, mPost.ok ht9 ha9 hPm hfr⟩
    · refine lv_iconst (v := 1) hx hb dX3_isLate_40 (by decide) ?_
      refine lv_goto (tgt := 45) hx hb dX3_isLate_41 (by decide) ?_
      have ht9 : tEntry cn (nI j0) = (0 : Int32) := by simp [tEntry, b_2, hnj0, (eq_true c_4)]
      have ha9 : (1 : Int32) = if ar 5 (nx (nI j0)) = 1 then 1 else 0 := by first | rfl | (simp only [b_2, hnj0, (eq_true c_4)]; done) | (simp only [b_2, hnj0, (eq_true c_4)]; rfl) | simp [b_2, hnj0, (eq_true c_4)]
      exact k_iret hx hb hr rfl hlocks hG hz hM hS (Nat.le_of_ble_eq_true rfl) (Nat.le_of_ble_eq_true rfl) dX3_isLate_45 ⟨_, rfl, mPost.ok ht9 ha9 hPm hfr⟩
  · refine W.eq (g2 := F0 m 12 ls [.int 0, .ref m0]) rfl ?_
    refine lv_if_eq (tgt := 19) hx hb dX3_isLate_12 (by decide) (fun _ => ?_) (fun c9 => absurd (by decide) c9)
    refine lv_iconst (v := 1) hx hb dX3_isLate_19 (by decide) ?_
    refine r_put (ci := 7) (ty := .int) (v := .int 1) hF in_X3 tyX3 tyX3_ok nmX3 hG hM hS hPm.1 rfl 28 (by decide) q785 (fun _ h => h) rfl (by decide +kernel) rfl rfl (Nat.le_of_ble_eq_true rfl) dX3_isLate_20 (fun H locs hM hS => ?_)
    obtain ⟨M_5, hM, hPm, hfr⟩ := PicM.stepF (cn' := cn) (lim' := lim) (th' := 1) hPm hfr hM
    refine lv_aload_n hx hb dX3_isLate_23 rfl (lv_at hl 0 rfl) ?_
    refine r_get (ci := 7) hF in_X3 hG hM hPm.1 rfl 28 (by decide) q785 (fun _ h => h) (.int 1) rfl dX3_isLate_24 ?_
    refine lv_if_ne (tgt := 44) hx hb dX3_isLate_27 (by decide) (fun _ => ?_) (fun c9 => absurd c9 (by decide))
    refine lv_iconst (v := 0) hx hb dX3_isLate_44 (by decide) ?_
    have ht9 : tEntry cn p0 = (1 : Int32) := by simp [tEntry, b_2]
    exact k_iret hx hb hr rfl hlocks hG hz hM hS (Nat.le_of_ble_eq_true rfl) (Nat.le_of_ble_eq_true rfl) dX3_isLate_45 ⟨_, rfl, mPost.bad ht9 (by decide) hPm hfr⟩
set_option maxHeartbeats 4000000 in
set_option maxRecDepth 100000 in
theorem metX3_isUnder {l : Launch} {z : Nat} {E : EE} {M : MM} {m0 : Nat} {aa : Nat → Nat} {cn : Nat → Nat} {lim th : Int32} {ar : Nat → Nat → Int32} (hPm : PicM E M m0 aa cn lim th ar) (hW : WF cn lim ar) (p0 p1 : Int32) (h0 : ∃ j : Nat, j < cn 0 ∧ p0 = nI j) (h1 : ∃ j : Nat, j < cn 0 ∧ p1 = nI j) : Kt l yX3_isUnder (ws_ yX3_isUnder cX3_isUnder 4 (some .boolean)) ({ frames := 10, cells := 0, slots := 0, locals := 300 } : Room) z E [.ref m0, .int p0, .int p1] M (pI (fun r M' => bRes (und (ar 0) p0 p1) r ∧ M = M')) xNo 0 0 := by
  refine k_body RX3 (by decide) rfl (Nat.le_of_ble_eq_true rfl) ?_
  intro p e s m args below meth c hx hb hr hml hown hlocks hname hno hts hz hG hM hS ls hl
  have hF : CallFix p m c cX3_isUnder 4 s args lw_all RX3 := ⟨hx, hb, hml, hown, hts⟩
  have hl : lv_has ls 4 [(0, .ref m0), (1, .int p0), (2, .int p1)] := hl
  have hfr : Fr kM M M := Fr.rf
  have hwb := hW.b
  refine lv_iload_n hx hb dX3_isUnder_0 rfl (lv_at hl 1 rfl) ?_
  refine lv_istore_n (lv' := [(3, .int p0), (0, .ref m0), (1, .int p0), (2, .int p1)]) hx hb dX3_isUnder_1 rfl hl (by decide) rfl (fun ls hl => ?_)
  obtain ⟨b1, hb1, eb1⟩ := h1
  have loop : ∀ (f : Nat) (x : Int32), f ≤ 14 → (x = -1 ∨ ∃ j : Nat, j < f ∧ j < cn 0 ∧ x = nI j) → undF (ar 0) p1 (f + 1) x = und (ar 0) p0 p1 → ∀ (ls : Array Slot), lv_has ls 4 [(3, .int x), (0, .ref m0), (1, .int p0), (2, .int p1)] → W p l e ({ frames := 10, cells := 0, slots := 0, locals := 300 } : Room) s m args below meth c s.heap [] 0 0 (vx_MQ below (Qg z E (pI (fun r M' => bRes (und (ar 0) p0 p1) r ∧ M = M'))) (XCm z E M xNo) args s 0 0 (zA z)) (F0 m 2 ls []) := by
    intro f
    induction f with
    | zero =>
      intro x hf hx9 he ls hl
      rcases hx9 with hx9 | ⟨j, hj, hj2, hx9⟩
      · subst hx9
        refine lv_iload_n hx hb dX3_isUnder_2 rfl (lv_at hl 0 rfl) ?_
        refine lv_iconst (v := -1) hx hb dX3_isUnder_3 (by decide) ?_
        refine lv_icmp_eq (tgt := 22) hx hb dX3_isUnder_4 (by decide) (fun _ => ?_) (fun c9 => absurd (by decide) c9)
        refine lv_iload_n hx hb dX3_isUnder_22 rfl (lv_at hl 0 rfl) ?_
        refine lv_iload_n hx hb dX3_isUnder_23 rfl (lv_at hl 3 rfl) ?_
        refine lv_icmp_ne (tgt := 31) hx hb dX3_isUnder_24 (by decide) (fun c_1 => ?_) (fun c_1 => ?_)
        · refine lv_iconst (v := 0) hx hb dX3_isUnder_31 (by decide) ?_
          exact k_iret hx hb hr rfl hlocks hG hz hM hS (Nat.le_of_ble_eq_true rfl) (Nat.le_of_ble_eq_true rfl) dX3_isUnder_32 ⟨_, rfl, Or.inr ⟨he.symm.trans undF_m1, rfl⟩, rfl⟩
        · exact absurd (eb1.symm.trans c_1.symm) (nI_nm1 (by omega))
      · omega
    | succ f ih =>
      intro x hf hx9 he ls hl
      rcases hx9 with hx9 | ⟨j, hj, hj2, hx9⟩
      · subst hx9
        refine lv_iload_n hx hb dX3_isUnder_2 rfl (lv_at hl 0 rfl) ?_
        refine lv_iconst (v := -1) hx hb dX3_isUnder_3 (by decide) ?_
        refine lv_icmp_eq (tgt := 22) hx hb dX3_isUnder_4 (by decide) (fun _ => ?_) (fun c9 => absurd (by decide) c9)
        refine lv_iload_n hx hb dX3_isUnder_22 rfl (lv_at hl 0 rfl) ?_
        refine lv_iload_n hx hb dX3_isUnder_23 rfl (lv_at hl 3 rfl) ?_
        refine lv_icmp_ne (tgt := 31) hx hb dX3_isUnder_24 (by decide) (fun c_2 => ?_) (fun c_2 => ?_)
        · refine lv_iconst (v := 0) hx hb dX3_isUnder_31 (by decide) ?_
          exact k_iret hx hb hr rfl hlocks hG hz hM hS (Nat.le_of_ble_eq_true rfl) (Nat.le_of_ble_eq_true rfl) dX3_isUnder_32 ⟨_, rfl, Or.inr ⟨he.symm.trans undF_m1, rfl⟩, rfl⟩
        · exact absurd (eb1.symm.trans c_2.symm) (nI_nm1 (by omega))
      · subst hx9
        refine lv_iload_n hx hb dX3_isUnder_2 rfl (lv_at hl 0 rfl) ?_
        refine lv_iconst (v := -1) hx hb dX3_isUnder_3 (by decide) ?_
        refine lv_icmp_eq (tgt := 22) hx hb dX3_isUnder_4 (by decide) (fun c_3 => ?_) (fun c_3 => ?_)
        · exact absurd c_3 (nI_nm1 (by omega))
        · refine lv_iload_n hx hb dX3_isUnder_7 rfl (lv_at hl 0 rfl) ?_
          refine lv_iload_n hx hb dX3_isUnder_8 rfl (lv_at hl 3 rfl) ?_
          refine lv_icmp_eq (tgt := 22) hx hb dX3_isUnder_9 (by decide) (fun c_4 => ?_) (fun c_4 => ?_)
          · refine lv_iload_n hx hb dX3_isUnder_22 rfl (lv_at hl 0 rfl) ?_
            refine lv_iload_n hx hb dX3_isUnder_23 rfl (lv_at hl 3 rfl) ?_
            refine lv_icmp_ne (tgt := 31) hx hb dX3_isUnder_24 (by decide) (fun c9 => absurd c_4 c9) (fun _ => ?_)
            refine lv_iconst (v := 1) hx hb dX3_isUnder_27 (by decide) ?_
            refine lv_goto (tgt := 32) hx hb dX3_isUnder_28 (by decide) ?_
            exact k_iret hx hb hr rfl hlocks hG hz hM hS (Nat.le_of_ble_eq_true rfl) (Nat.le_of_ble_eq_true rfl) dX3_isUnder_32 ⟨_, rfl, Or.inl ⟨he.symm.trans (undF_eq (by omega) c_4), rfl⟩, rfl⟩
          · refine lv_aload_n hx hb dX3_isUnder_12 rfl (lv_at hl 1 rfl) ?_
            refine r_get (ci := 7) hF in_X3 hG hM hPm.1 rfl 1 (by decide) q758 (fun _ h => h) (.ref (aa 0)) rfl dX3_isUnder_13 ?_
            refine lv_iload_n hx hb dX3_isUnder_16 rfl (lv_at hl 0 rfl) ?_
            refine r_ialdN (n := 14) (f := (ar 0)) j hF hG hM hPm.a0 (by omega) (by decide) rfl dX3_isUnder_17 ?_
            refine lv_istore_n (lv' := [(3, .int ((ar 0) j)), (0, .ref m0), (1, .int p0), (2, .int p1)]) hx hb dX3_isUnder_18 rfl hl (by decide) rfl (fun ls hl => ?_)
            refine lv_goto (tgt := 2) hx hb dX3_isUnder_19 (by decide) ?_
            exact ih (ar 0 j) (by omega) (by
              rcases hW.ab hj2 with h9 | ⟨j9, h9, e9⟩
              · exact Or.inl h9
              · exact Or.inr ⟨j9, by omega, by omega, e9⟩) ((undF_up (by omega) c_4).symm.trans he) ls (lv_sub hl [0, 1, 2, 3] rfl)
  obtain ⟨a1, ha1, ea1⟩ := h0
  exact loop 14 p0 (by omega) (Or.inr ⟨a1, by omega, ha1, ea1⟩) rfl ls (lv_sub hl [0, 1, 2, 3] rfl)
set_option maxHeartbeats 4000000 in
set_option maxRecDepth 100000 in
theorem metX3_balanceOf {l : Launch} {z : Nat} {E : EE} {M : MM} {m0 : Nat} {aa : Nat → Nat} {cn : Nat → Nat} {lim th : Int32} {ar : Nat → Nat → Int32} (hPm : PicM E M m0 aa cn lim th ar) (hW : WF cn lim ar) (p0 p1 : Int32) : Kt l yX3_balanceOf (ws_ yX3_balanceOf cX3_balanceOf 5 (some .int)) ({ frames := 30, cells := 0, slots := 0, locals := 900 } : Room) z E [.ref m0, .int p0, .int p1] M (pI (fun r M' => mPost E M m0 aa (tBalance cn p0 p1) (balF ar p0 p1 (cn 1)) cn lim ar (cn) (lim) (ar) r M')) xNo 0 0 := by
  refine k_body RX3 (by decide) rfl (Nat.le_of_ble_eq_true rfl) ?_
  intro p e s m args below meth c hx hb hr hml hown hlocks hname hno hts hz hG hM hS ls hl
  have hF : CallFix p m c cX3_balanceOf 5 s args lw_all RX3 := ⟨hx, hb, hml, hown, hts⟩
  have hl : lv_has ls 5 [(0, .ref m0), (1, .int p0), (2, .int p1)] := hl
  have hfr : Fr kM M M := Fr.rf
  have hwb := hW.b
  refine lv_aload_n hx hb dX3_balanceOf_0 rfl (lv_at hl 0 rfl) ?_
  refine lv_aload_n hx hb dX3_balanceOf_1 rfl (lv_at hl 0 rfl) ?_
  refine lv_iload_n hx hb dX3_balanceOf_2 rfl (lv_at hl 1 rfl) ?_
  refine kV (k9 := 0) (n9 := 0) hF hG hz hM hS [.int p0] [.ref m0] (metX3_isAccount hPm hW p0) (cwV 1 hts (lw_V q853 q855 qs9 q27 q856) rfl rfl rfl (by decide +kernel) ⟨(Nat.le_of_ble_eq_true rfl), (Nat.le_of_ble_eq_true rfl)⟩) (k_recv hG hM hPm.1 (ci := 7) rfl) rfl hl.1 rfl (Nat.le_of_ble_eq_true rfl) dX3_balanceOf_3 rfl rfl (Nat.le_of_ble_eq_true rfl) (Nat.le_of_ble_eq_true rfl) (fun _ _ _ _ _ h9 _ _ _ _ _ => h9.elim) (fun v9 M9_1 H locs hp9 hM9_1 hS => ?_)
  obtain ⟨r_1, rfl, b_2, rfl⟩ := hp9
  have hM := hM9_1
  rcases b_2 with ⟨b_2, rfl⟩ | ⟨b_2, rfl⟩
  · refine W.eq (g2 := F0 m 6 ls [.int 1, .ref m0]) rfl ?_
    obtain ⟨j0, hj0, rfl⟩ := inB_ex b_2 (by omega)
    have hnj0 : nx (nI j0) = j0 := nI_clamp (by omega)
    refine lv_if_ne (tgt := 13) hx hb dX3_balanceOf_6 (by decide) (fun _ => ?_) (fun c9 => absurd c9 (by decide))
    refine lv_iload_n hx hb dX3_balanceOf_13 rfl (lv_at hl 2 rfl) ?_
    refine lv_iconst (v := 0) hx hb dX3_balanceOf_14 (by decide) ?_
    refine lv_bipush (v := 12) hx hb dX3_balanceOf_15 (by decide) ?_
    refine kS (k9 := 0) (n9 := 0) hF hG hz hM hS [.int p1, .int 0, .int 12] [.ref m0] (metX3_in p1 0 12) (va_cwS 3 hts (lw_S q857 q858 q27 q859) rfl rfl rfl (by decide +kernel) ⟨(Nat.le_of_ble_eq_true rfl), (Nat.le_of_ble_eq_true rfl)⟩) rfl hl.1 rfl (Nat.le_of_ble_eq_true rfl) dX3_balanceOf_17 rfl rfl (Nat.le_of_ble_eq_true rfl) (Nat.le_of_ble_eq_true rfl) (fun _ _ _ _ _ h9 _ _ _ _ _ => h9.elim) (fun v9 M9_2 H locs hp9 hM9_2 hS => ?_)
    obtain ⟨r_3, rfl, b_4, rfl⟩ := hp9
    have hM := hM9_2
    rcases b_4 with ⟨b_4, rfl⟩ | ⟨b_4, rfl⟩
    · refine W.eq (g2 := F0 m 20 ls [.int 1, .ref m0]) rfl ?_
      refine lv_if_ne (tgt := 27) hx hb dX3_balanceOf_20 (by decide) (fun _ => ?_) (fun c9 => absurd c9 (by decide))
      refine lv_iconst (v := 0) hx hb dX3_balanceOf_27 (by decide) ?_
      refine r_put (ci := 7) (ty := .int) (v := .int 0) hF in_X3 tyX3 tyX3_ok nmX3 hG hM hS hPm.1 rfl 28 (by decide) q785 (fun _ h => h) rfl (by decide +kernel) rfl rfl (Nat.le_of_ble_eq_true rfl) dX3_balanceOf_28 (fun H locs hM hS => ?_)
      obtain ⟨M_5, hM, hPm, hfr⟩ := PicM.stepF (cn' := cn) (lim' := lim) (th' := 0) hPm hfr hM
      refine lv_iconst (v := 0) hx hb dX3_balanceOf_31 (by decide) ?_
      refine lv_istore_n (lv' := [(3, .int 0), (0, .ref m0), (1, .int (nI j0)), (2, .int p1)]) hx hb dX3_balanceOf_32 rfl hl (by decide) rfl (fun ls hl => ?_)
      refine lv_iconst (v := 0) hx hb dX3_balanceOf_33 (by decide) ?_
      refine lv_istore (lv' := [(4, .int 0), (3, .int 0), (0, .ref m0), (1, .int (nI j0)), (2, .int p1)]) hx hb dX3_balanceOf_34 hl (by decide) rfl (fun ls hl => ?_)
      have loop : ∀ (n k : Nat), k ≤ (cn 1) → (cn 1) - k < n → ∀ (H : Heap) (locs : List Loc), Mod z E M_5 H → va_S (zA z) s.heap H locs → ∀ (ls : Array Slot), lv_has ls 5 [(4, .int (nI k)), (3, .int (balF ar (nI j0) p1 k)), (0, .ref m0), (1, .int (nI j0)), (2, .int p1)] → W p l e ({ frames := 30, cells := 0, slots := 0, locals := 900 } : Room) s m args below meth c H locs 0 0 (vx_MQ below (Qg z E (pI (fun r M' => mPost E M m0 aa (tBalance cn (nI j0) p1) (balF ar (nI j0) p1 (cn 1)) cn lim ar (cn) (lim) (ar) r M'))) (XCm z E M xNo) args s 0 0 (zA z)) (F0 m 36 ls []) := by
        intro n
        induction n with
        | zero => intro k h1 h2; omega
        | succ n ih =>
          intro k hk1 hk2 H locs hM hS ls hl
          refine lv_iload hx hb dX3_balanceOf_36 (lv_at hl 0 rfl) ?_
          refine lv_aload_n hx hb dX3_balanceOf_38 rfl (lv_at hl 2 rfl) ?_
          refine r_get (ci := 7) hF in_X3 hG hM hPm.1 rfl 3 (by decide) q760 (fun _ h => h) (.int (nI (cn 1))) rfl dX3_balanceOf_39 ?_
          refine lv_icmp_ge (tgt := 127) hx hb dX3_balanceOf_42 (by decide) (fun c_6 => ?_) (fun c_6 => ?_)
          · have c_6R := c_6
            have c_6 : (cn 1) ≤ k := (nI_leI (a := (cn 1)) (b := k) (by omega) (by omega)).mp c_6R
            have c_6B : ¬ (k < (cn 1)) := by omega
            have c_6RB := Int32.not_lt.mpr c_6R
            refine lv_iload_n hx hb dX3_balanceOf_127 rfl (lv_at hl 1 rfl) ?_
            have ht9 : tBalance cn (nI j0) p1 = (0 : Int32) := by simp [tBalance, b_2, hnj0, b_4, c_6, c_6B, c_6R, c_6RB]
            have ha9 : (balF ar (nI j0) p1 k) = balF ar (nI j0) p1 (cn 1) := by (have e8 : k = cn 1 := by omega); rw [e8]
            exact k_iret hx hb hr rfl hlocks hG hz hM hS (Nat.le_of_ble_eq_true rfl) (Nat.le_of_ble_eq_true rfl) dX3_balanceOf_128 ⟨_, rfl, mPost.ok ht9 ha9 hPm hfr⟩
          · have c_6R := c_6
            have c_6 : ¬ ((cn 1) ≤ k) := fun h9 => c_6R ((nI_leI (a := (cn 1)) (b := k) (by omega) (by omega)).mpr h9)
            have c_6B : k < (cn 1) := by omega
            have c_6RB := Int32.not_le.mp c_6R
            refine lv_aload_n hx hb dX3_balanceOf_45 rfl (lv_at hl 2 rfl) ?_
            refine r_get (ci := 7) hF in_X3 hG hM hPm.1 rfl 28 (by decide) q785 (fun _ h => h) (.int 0) rfl dX3_balanceOf_46 ?_
            refine lv_if_ne (tgt := 127) hx hb dX3_balanceOf_49 (by decide) (fun c9 => absurd c9 (by decide)) (fun _ => ?_)
            refine lv_aload_n hx hb dX3_balanceOf_52 rfl (lv_at hl 2 rfl) ?_
            refine r_get (ci := 7) hF in_X3 hG hM hPm.1 rfl 4 (by decide) q761 (fun _ h => h) (.ref (aa 1)) rfl dX3_balanceOf_53 ?_
            refine lv_iload hx hb dX3_balanceOf_56 (lv_at hl 0 rfl) ?_
            refine r_ialdN (n := 120) (f := (ar 1)) k hF hG hM hPm.a1 (by omega) (by decide) rfl dX3_balanceOf_58 ?_
            refine lv_iload_n hx hb dX3_balanceOf_59 rfl (lv_at hl 4 rfl) ?_
            refine lv_icmp_gt (tgt := 121) hx hb dX3_balanceOf_60 (by decide) (fun c_7 => ?_) (fun c_7 => ?_)
            · have c_7B := Int32.not_le.mpr c_7
              refine lv_iinc (v := (nI (k + 1))) (lv' := [(4, .int (nI (k + 1))), (3, .int (balF ar (nI j0) p1 k)), (0, .ref m0), (1, .int (nI j0)), (2, .int p1)]) hx hb dX3_balanceOf_121 hl (k := 0) rfl (by rw [← nI_1]; rfl) (by decide) rfl (fun ls hl => ?_)
              refine lv_goto (tgt := 36) hx hb dX3_balanceOf_124 (by decide) ?_
              have e_8 : (balF ar (nI j0) p1 k) = (balF ar (nI j0) p1 (k + 1)) := by first | rfl | (simp only [balF, b_2, hnj0, b_4, c_6, c_6B, c_6R, c_6RB, c_7, c_7B]; done) | (simp only [balF, b_2, hnj0, b_4, c_6, c_6B, c_6R, c_6RB, c_7, c_7B]; rfl) | simp [balF, b_2, hnj0, b_4, c_6, c_6B, c_6R, c_6RB, c_7, c_7B]
              rw [e_8] at hl
              exact ih (k + 1) (by omega) (by omega) _ _ hM hS ls (lv_sub hl [0, 1, 2, 3, 4] rfl)
            · have c_7B := Int32.not_lt.mp c_7
              refine lv_iload_n hx hb dX3_balanceOf_63 rfl (lv_at hl 1 rfl) ?_
              refine lv_aload_n hx hb dX3_balanceOf_64 rfl (lv_at hl 2 rfl) ?_
              refine lv_aload_n hx hb dX3_balanceOf_65 rfl (lv_at hl 2 rfl) ?_
              refine r_get (ci := 7) hF in_X3 hG hM hPm.1 rfl 5 (by decide) q762 (fun _ h => h) (.ref (aa 2)) rfl dX3_balanceOf_66 ?_
              refine lv_iload hx hb dX3_balanceOf_69 (lv_at hl 0 rfl) ?_
              refine r_ialdN (n := 120) (f := (ar 2)) k hF hG hM hPm.a2 (by omega) (by decide) rfl dX3_balanceOf_71 ?_
              refine lv_iload_n hx hb dX3_balanceOf_72 rfl (lv_at hl 3 rfl) ?_
              refine kV (k9 := 0) (n9 := 0) hF hG hz hM hS [.int ((ar 2) k), .int (nI j0)] [.int (balF ar (nI j0) p1 k)] (metX3_isUnder hPm hW ((ar 2) k) (nI j0) (hW.en (i := k) (by omega)).1 ⟨j0, by omega, rfl⟩) (cwV 2 hts (lw_V q897 q899 qs12 q27 q900) rfl rfl rfl (by decide +kernel) ⟨(Nat.le_of_ble_eq_true rfl), (Nat.le_of_ble_eq_true rfl)⟩) (k_recv hG hM hPm.1 (ci := 7) rfl) rfl hl.1 rfl (Nat.le_of_ble_eq_true rfl) dX3_balanceOf_73 rfl rfl (Nat.le_of_ble_eq_true rfl) (Nat.le_of_ble_eq_true rfl) (fun _ _ _ _ _ h9 _ _ _ _ _ => h9.elim) (fun v9 M9_3 H locs hp9 hM9_3 hS => ?_)
              obtain ⟨r_9, rfl, b_10, rfl⟩ := hp9
              have hM := hM9_3
              rcases b_10 with ⟨b_10, rfl⟩ | ⟨b_10, rfl⟩
              · refine W.eq (g2 := F0 m 76 ls [.int 1, .int (balF ar (nI j0) p1 k)]) rfl ?_
                refine lv_if_eq (tgt := 89) hx hb dX3_balanceOf_76 (by decide) (fun c9 => absurd c9 (by decide)) (fun _ => ?_)
                refine lv_aload_n hx hb dX3_balanceOf_79 rfl (lv_at hl 2 rfl) ?_
                refine r_get (ci := 7) hF in_X3 hG hM hPm.1 rfl 7 (by decide) q764 (fun _ h => h) (.ref (aa 4)) rfl dX3_balanceOf_80 ?_
                refine lv_iload hx hb dX3_balanceOf_83 (lv_at hl 0 rfl) ?_
                refine r_ialdN (n := 120) (f := (ar 4)) k hF hG hM hPm.a4 (by omega) (by decide) rfl dX3_balanceOf_85 ?_
                refine lv_goto (tgt := 90) hx hb dX3_balanceOf_86 (by decide) ?_
                refine lv_iadd hx hb dX3_balanceOf_90 ?_
                refine lv_istore_n (lv' := [(3, .int ((balF ar (nI j0) p1 k) + ((ar 4) k))), (4, .int (nI k)), (0, .ref m0), (1, .int (nI j0)), (2, .int p1)]) hx hb dX3_balanceOf_91 rfl hl (by decide) rfl (fun ls hl => ?_)
                refine lv_iload_n hx hb dX3_balanceOf_92 rfl (lv_at hl 0 rfl) ?_
                refine lv_aload_n hx hb dX3_balanceOf_93 rfl (lv_at hl 2 rfl) ?_
                refine lv_aload_n hx hb dX3_balanceOf_94 rfl (lv_at hl 2 rfl) ?_
                refine r_get (ci := 7) hF in_X3 hG hM hPm.1 rfl 6 (by decide) q763 (fun _ h => h) (.ref (aa 3)) rfl dX3_balanceOf_95 ?_
                refine lv_iload hx hb dX3_balanceOf_98 (lv_at hl 1 rfl) ?_
                refine r_ialdN (n := 120) (f := (ar 3)) k hF hG hM hPm.a3 (by omega) (by decide) rfl dX3_balanceOf_100 ?_
                refine lv_iload_n hx hb dX3_balanceOf_101 rfl (lv_at hl 3 rfl) ?_
                refine kV (k9 := 0) (n9 := 0) hF hG hz hM hS [.int ((ar 3) k), .int (nI j0)] [.int ((balF ar (nI j0) p1 k) + ((ar 4) k))] (metX3_isUnder hPm hW ((ar 3) k) (nI j0) (hW.en (i := k) (by omega)).2.1 ⟨j0, by omega, rfl⟩) (cwV 2 hts (lw_V q897 q899 qs12 q27 q900) rfl rfl rfl (by decide +kernel) ⟨(Nat.le_of_ble_eq_true rfl), (Nat.le_of_ble_eq_true rfl)⟩) (k_recv hG hM hPm.1 (ci := 7) rfl) rfl hl.1 rfl (Nat.le_of_ble_eq_true rfl) dX3_balanceOf_102 rfl rfl (Nat.le_of_ble_eq_true rfl) (Nat.le_of_ble_eq_true rfl) (fun _ _ _ _ _ h9 _ _ _ _ _ => h9.elim) (fun v9 M9_4 H locs hp9 hM9_4 hS => ?_)
                obtain ⟨r_11, rfl, b_12, rfl⟩ := hp9
                have hM := hM9_4
                rcases b_12 with ⟨b_12, rfl⟩ | ⟨b_12, rfl⟩
                · refine W.eq (g2 := F0 m 105 ls [.int 1, .int ((balF ar (nI j0) p1 k) + ((ar 4) k))]) rfl ?_
                  refine lv_if_eq (tgt := 118) hx hb dX3_balanceOf_105 (by decide) (fun c9 => absurd c9 (by decide)) (fun _ => ?_)
                  refine lv_aload_n hx hb dX3_balanceOf_108 rfl (lv_at hl 2 rfl) ?_
                  refine r_get (ci := 7) hF in_X3 hG hM hPm.1 rfl 7 (by decide) q764 (fun _ h => h) (.ref (aa 4)) rfl dX3_balanceOf_109 ?_
                  refine lv_iload hx hb dX3_balanceOf_112 (lv_at hl 1 rfl) ?_
                  refine r_ialdN (n := 120) (f := (ar 4)) k hF hG hM hPm.a4 (by omega) (by decide) rfl dX3_balanceOf_114 ?_
                  refine lv_goto (tgt := 119) hx hb dX3_balanceOf_115 (by decide) ?_
                  refine lv_isub hx hb dX3_balanceOf_119 ?_
                  refine lv_istore_n (lv' := [(3, .int (((balF ar (nI j0) p1 k) + ((ar 4) k)) - ((ar 4) k))), (4, .int (nI k)), (0, .ref m0), (1, .int (nI j0)), (2, .int p1)]) hx hb dX3_balanceOf_120 rfl hl (by decide) rfl (fun ls hl => ?_)
                  refine lv_iinc (v := (nI (k + 1))) (lv' := [(4, .int (nI (k + 1))), (3, .int (((balF ar (nI j0) p1 k) + ((ar 4) k)) - ((ar 4) k))), (0, .ref m0), (1, .int (nI j0)), (2, .int p1)]) hx hb dX3_balanceOf_121 hl (k := 1) rfl (by rw [← nI_1]; rfl) (by decide) rfl (fun ls hl => ?_)
                  refine lv_goto (tgt := 36) hx hb dX3_balanceOf_124 (by decide) ?_
                  have e_13 : (((balF ar (nI j0) p1 k) + ((ar 4) k)) - ((ar 4) k)) = (balF ar (nI j0) p1 (k + 1)) := by first | rfl | (simp only [balF, b_2, hnj0, b_4, c_6, c_6B, c_6R, c_6RB, c_7, c_7B, b_10, b_12]; done) | (simp only [balF, b_2, hnj0, b_4, c_6, c_6B, c_6R, c_6RB, c_7, c_7B, b_10, b_12]; rfl) | simp [balF, b_2, hnj0, b_4, c_6, c_6B, c_6R, c_6RB, c_7, c_7B, b_10, b_12]
                  rw [e_13] at hl
                  exact ih (k + 1) (by omega) (by omega) _ _ hM hS ls (lv_sub hl [0, 1, 2, 3, 4] rfl)
                · refine W.eq (g2 := F0 m 105 ls [.int 0, .int ((balF ar (nI j0) p1 k) + ((ar 4) k))]) rfl ?_
                  refine lv_if_eq (tgt := 118) hx hb dX3_balanceOf_105 (by decide) (fun _ => ?_) (fun c9 => absurd (by decide) c9)
                  refine lv_iconst (v := 0) hx hb dX3_balanceOf_118 (by decide) ?_
                  refine lv_isub hx hb dX3_balanceOf_119 ?_
                  refine lv_istore_n (lv' := [(3, .int (((balF ar (nI j0) p1 k) + ((ar 4) k)) - 0)), (4, .int (nI k)), (0, .ref m0), (1, .int (nI j0)), (2, .int p1)]) hx hb dX3_balanceOf_120 rfl hl (by decide) rfl (fun ls hl => ?_)
                  refine lv_iinc (v := (nI (k + 1))) (lv' := [(4, .int (nI (k + 1))), (3, .int (((balF ar (nI j0) p1 k) + ((ar 4) k)) - 0)), (0, .ref m0), (1, .int (nI j0)), (2, .int p1)]) hx hb dX3_balanceOf_121 hl (k := 1) rfl (by rw [← nI_1]; rfl) (by decide) rfl (fun ls hl => ?_)
                  refine lv_goto (tgt := 36) hx hb dX3_balanceOf_124 (by decide) ?_
                  have e_14 : (((balF ar (nI j0) p1 k) + ((ar 4) k)) - 0) = (balF ar (nI j0) p1 (k + 1)) := by first | rfl | (simp only [balF, b_2, hnj0, b_4, c_6, c_6B, c_6R, c_6RB, c_7, c_7B, b_10, b_12]; done) | (simp only [balF, b_2, hnj0, b_4, c_6, c_6B, c_6R, c_6RB, c_7, c_7B, b_10, b_12]; rfl) | simp [balF, b_2, hnj0, b_4, c_6, c_6B, c_6R, c_6RB, c_7, c_7B, b_10, b_12]
                  rw [e_14] at hl
                  exact ih (k + 1) (by omega) (by omega) _ _ hM hS ls (lv_sub hl [0, 1, 2, 3, 4] rfl)
              · refine W.eq (g2 := F0 m 76 ls [.int 0, .int (balF ar (nI j0) p1 k)]) rfl ?_
                refine lv_if_eq (tgt := 89) hx hb dX3_balanceOf_76 (by decide) (fun _ => ?_) (fun c9 => absurd (by decide) c9)
                refine lv_iconst (v := 0) hx hb dX3_balanceOf_89 (by decide) ?_
                refine lv_iadd hx hb dX3_balanceOf_90 ?_
                refine lv_istore_n (lv' := [(3, .int ((balF ar (nI j0) p1 k) + 0)), (4, .int (nI k)), (0, .ref m0), (1, .int (nI j0)), (2, .int p1)]) hx hb dX3_balanceOf_91 rfl hl (by decide) rfl (fun ls hl => ?_)
                refine lv_iload_n hx hb dX3_balanceOf_92 rfl (lv_at hl 0 rfl) ?_
                refine lv_aload_n hx hb dX3_balanceOf_93 rfl (lv_at hl 2 rfl) ?_
                refine lv_aload_n hx hb dX3_balanceOf_94 rfl (lv_at hl 2 rfl) ?_
                refine r_get (ci := 7) hF in_X3 hG hM hPm.1 rfl 6 (by decide) q763 (fun _ h => h) (.ref (aa 3)) rfl dX3_balanceOf_95 ?_
                refine lv_iload hx hb dX3_balanceOf_98 (lv_at hl 1 rfl) ?_
                refine r_ialdN (n := 120) (f := (ar 3)) k hF hG hM hPm.a3 (by omega) (by decide) rfl dX3_balanceOf_100 ?_
                refine lv_iload_n hx hb dX3_balanceOf_101 rfl (lv_at hl 3 rfl) ?_
                refine kV (k9 := 0) (n9 := 0) hF hG hz hM hS [.int ((ar 3) k), .int (nI j0)] [.int ((balF ar (nI j0) p1 k) + 0)] (metX3_isUnder hPm hW ((ar 3) k) (nI j0) (hW.en (i := k) (by omega)).2.1 ⟨j0, by omega, rfl⟩) (cwV 2 hts (lw_V q897 q899 qs12 q27 q900) rfl rfl rfl (by decide +kernel) ⟨(Nat.le_of_ble_eq_true rfl), (Nat.le_of_ble_eq_true rfl)⟩) (k_recv hG hM hPm.1 (ci := 7) rfl) rfl hl.1 rfl (Nat.le_of_ble_eq_true rfl) dX3_balanceOf_102 rfl rfl (Nat.le_of_ble_eq_true rfl) (Nat.le_of_ble_eq_true rfl) (fun _ _ _ _ _ h9 _ _ _ _ _ => h9.elim) (fun v9 M9_5 H locs hp9 hM9_5 hS => ?_)
                obtain ⟨r_15, rfl, b_16, rfl⟩ := hp9
                have hM := hM9_5
                rcases b_16 with ⟨b_16, rfl⟩ | ⟨b_16, rfl⟩
                · refine W.eq (g2 := F0 m 105 ls [.int 1, .int ((balF ar (nI j0) p1 k) + 0)]) rfl ?_
                  refine lv_if_eq (tgt := 118) hx hb dX3_balanceOf_105 (by decide) (fun c9 => absurd c9 (by decide)) (fun _ => ?_)
                  refine lv_aload_n hx hb dX3_balanceOf_108 rfl (lv_at hl 2 rfl) ?_
                  refine r_get (ci := 7) hF in_X3 hG hM hPm.1 rfl 7 (by decide) q764 (fun _ h => h) (.ref (aa 4)) rfl dX3_balanceOf_109 ?_
                  refine lv_iload hx hb dX3_balanceOf_112 (lv_at hl 1 rfl) ?_
                  refine r_ialdN (n := 120) (f := (ar 4)) k hF hG hM hPm.a4 (by omega) (by decide) rfl dX3_balanceOf_114 ?_
                  refine lv_goto (tgt := 119) hx hb dX3_balanceOf_115 (by decide) ?_
                  refine lv_isub hx hb dX3_balanceOf_119 ?_
                  refine lv_istore_n (lv' := [(3, .int (((balF ar (nI j0) p1 k) + 0) - ((ar 4) k))), (4, .int (nI k)), (0, .ref m0), (1, .int (nI j0)), (2, .int p1)]) hx hb dX3_balanceOf_120 rfl hl (by decide) rfl (fun ls hl => ?_)
                  refine lv_iinc (v := (nI (k + 1))) (lv' := [(4, .int (nI (k + 1))), (3, .int (((balF ar (nI j0) p1 k) + 0) - ((ar 4) k))), (0, .ref m0), (1, .int (nI j0)), (2, .int p1)]) hx hb dX3_balanceOf_121 hl (k := 1) rfl (by rw [← nI_1]; rfl) (by decide) rfl (fun ls hl => ?_)
                  refine lv_goto (tgt := 36) hx hb dX3_balanceOf_124 (by decide) ?_
                  have e_17 : (((balF ar (nI j0) p1 k) + 0) - ((ar 4) k)) = (balF ar (nI j0) p1 (k + 1)) := by first | rfl | (simp only [balF, b_2, hnj0, b_4, c_6, c_6B, c_6R, c_6RB, c_7, c_7B, b_10, b_16]; done) | (simp only [balF, b_2, hnj0, b_4, c_6, c_6B, c_6R, c_6RB, c_7, c_7B, b_10, b_16]; rfl) | simp [balF, b_2, hnj0, b_4, c_6, c_6B, c_6R, c_6RB, c_7, c_7B, b_10, b_16]
                  rw [e_17] at hl
                  exact ih (k + 1) (by omega) (by omega) _ _ hM hS ls (lv_sub hl [0, 1, 2, 3, 4] rfl)
                · refine W.eq (g2 := F0 m 105 ls [.int 0, .int ((balF ar (nI j0) p1 k) + 0)]) rfl ?_
                  refine lv_if_eq (tgt := 118) hx hb dX3_balanceOf_105 (by decide) (fun _ => ?_) (fun c9 => absurd (by decide) c9)
                  refine lv_iconst (v := 0) hx hb dX3_balanceOf_118 (by decide) ?_
                  refine lv_isub hx hb dX3_balanceOf_119 ?_
                  refine lv_istore_n (lv' := [(3, .int (((balF ar (nI j0) p1 k) + 0) - 0)), (4, .int (nI k)), (0, .ref m0), (1, .int (nI j0)), (2, .int p1)]) hx hb dX3_balanceOf_120 rfl hl (by decide) rfl (fun ls hl => ?_)
                  refine lv_iinc (v := (nI (k + 1))) (lv' := [(4, .int (nI (k + 1))), (3, .int (((balF ar (nI j0) p1 k) + 0) - 0)), (0, .ref m0), (1, .int (nI j0)), (2, .int p1)]) hx hb dX3_balanceOf_121 hl (k := 1) rfl (by rw [← nI_1]; rfl) (by decide) rfl (fun ls hl => ?_)
                  refine lv_goto (tgt := 36) hx hb dX3_balanceOf_124 (by decide) ?_
                  have e_18 : (((balF ar (nI j0) p1 k) + 0) - 0) = (balF ar (nI j0) p1 (k + 1)) := by first | rfl | (simp only [balF, b_2, hnj0, b_4, c_6, c_6B, c_6R, c_6RB, c_7, c_7B, b_10, b_16]; done) | (simp only [balF, b_2, hnj0, b_4, c_6, c_6B, c_6R, c_6RB, c_7, c_7B, b_10, b_16]; rfl) | simp [balF, b_2, hnj0, b_4, c_6, c_6B, c_6R, c_6RB, c_7, c_7B, b_10, b_16]
                  rw [e_18] at hl
                  exact ih (k + 1) (by omega) (by omega) _ _ hM hS ls (lv_sub hl [0, 1, 2, 3, 4] rfl)
      exact loop ((cn 1) + 1) 0 (Nat.zero_le _) (by omega) _ _ hM hS ls (lv_sub hl [0, 1, 2, 3, 4] rfl)
    · refine W.eq (g2 := F0 m 20 ls [.int 0, .ref m0]) rfl ?_
      refine lv_if_ne (tgt := 27) hx hb dX3_balanceOf_20 (by decide) (fun c9 => absurd c9 (by decide)) (fun _ => ?_)
      refine lv_iconst (v := 2) hx hb dX3_balanceOf_23 (by decide) ?_
      refine lv_goto (tgt := 28) hx hb dX3_balanceOf_24 (by decide) ?_
      refine r_put (ci := 7) (ty := .int) (v := .int 2) hF in_X3 tyX3 tyX3_ok nmX3 hG hM hS hPm.1 rfl 28 (by decide) q785 (fun _ h => h) rfl (by decide +kernel) rfl rfl (Nat.le_of_ble_eq_true rfl) dX3_balanceOf_28 (fun H locs hM hS => ?_)
      obtain ⟨M_19, hM, hPm, hfr⟩ := PicM.stepF (cn' := cn) (lim' := lim) (th' := 2) hPm hfr hM
      refine lv_iconst (v := 0) hx hb dX3_balanceOf_31 (by decide) ?_
      refine lv_istore_n (lv' := [(3, .int 0), (0, .ref m0), (1, .int (nI j0)), (2, .int p1)]) hx hb dX3_balanceOf_32 rfl hl (by decide) rfl (fun ls hl => ?_)
      refine lv_iconst (v := 0) hx hb dX3_balanceOf_33 (by decide) ?_
      refine lv_istore (lv' := [(4, .int 0), (3, .int 0), (0, .ref m0), (1, .int (nI j0)), (2, .int p1)]) hx hb dX3_balanceOf_34 hl (by decide) rfl (fun ls hl => ?_)
      refine lv_iload hx hb dX3_balanceOf_36 (lv_at hl 0 rfl) ?_
      refine lv_aload_n hx hb dX3_balanceOf_38 rfl (lv_at hl 2 rfl) ?_
      refine r_get (ci := 7) hF in_X3 hG hM hPm.1 rfl 3 (by decide) q760 (fun _ h => h) (.int (nI (cn 1))) rfl dX3_balanceOf_39 ?_
      refine lv_icmp_ge (tgt := 127) hx hb dX3_balanceOf_42 (by decide) (fun c_20 => ?_) (fun c_20 => ?_)
      · have c_20R := c_20
        have c_20 : (cn 1) ≤ 0 := (nI_leI (a := (cn 1)) (b := 0) (by omega) (by omega)).mp c_20R
        have c_20B : ¬ (0 < (cn 1)) := by omega
        have c_20RB := Int32.not_lt.mpr c_20R
        refine lv_iload_n hx hb dX3_balanceOf_127 rfl (lv_at hl 1 rfl) ?_
        have ht9 : tBalance cn (nI j0) p1 = (2 : Int32) := by simp [tBalance, b_2, hnj0, b_4, c_20, c_20B, c_20R, c_20RB]
        exact k_iret hx hb hr rfl hlocks hG hz hM hS (Nat.le_of_ble_eq_true rfl) (Nat.le_of_ble_eq_true rfl) dX3_balanceOf_128 ⟨_, rfl, mPost.bad ht9 (by decide) hPm hfr⟩
      · have c_20R := c_20
        have c_20 : ¬ ((cn 1) ≤ 0) := fun h9 => c_20R ((nI_leI (a := (cn 1)) (b := 0) (by omega) (by omega)).mpr h9)
        have c_20B : 0 < (cn 1) := by omega
        have c_20RB := Int32.not_le.mp c_20R
        refine lv_aload_n hx hb dX3_balanceOf_45 rfl (lv_at hl 2 rfl) ?_
        refine r_get (ci := 7) hF in_X3 hG hM hPm.1 rfl 28 (by decide) q785 (fun _ h => h) (.int 2) rfl dX3_balanceOf_46 ?_
        refine lv_if_ne (tgt := 127) hx hb dX3_balanceOf_49 (by decide) (fun _ => ?_) (fun c9 => absurd c9 (by decide))
        refine lv_iload_n hx hb dX3_balanceOf_127 rfl (lv_at hl 1 rfl) ?_
        have ht9 : tBalance cn (nI j0) p1 = (2 : Int32) := by simp [tBalance, b_2, hnj0, b_4, c_20, c_20B, c_20R, c_20RB]
        exact k_iret hx hb hr rfl hlocks hG hz hM hS (Nat.le_of_ble_eq_true rfl) (Nat.le_of_ble_eq_true rfl) dX3_balanceOf_128 ⟨_, rfl, mPost.bad ht9 (by decide) hPm hfr⟩
  · refine W.eq (g2 := F0 m 6 ls [.int 0, .ref m0]) rfl ?_
    refine lv_if_ne (tgt := 13) hx hb dX3_balanceOf_6 (by decide) (fun c9 => absurd c9 (by decide)) (fun _ => ?_)
    refine lv_iconst (v := 1) hx hb dX3_balanceOf_9 (by decide) ?_
    refine lv_goto (tgt := 28) hx hb dX3_balanceOf_10 (by decide) ?_
    refine r_put (ci := 7) (ty := .int) (v := .int 1) hF in_X3 tyX3 tyX3_ok nmX3 hG hM hS hPm.1 rfl 28 (by decide) q785 (fun _ h => h) rfl (by decide +kernel) rfl rfl (Nat.le_of_ble_eq_true rfl) dX3_balanceOf_28 (fun H locs hM hS => ?_)
    obtain ⟨M_21, hM, hPm, hfr⟩ := PicM.stepF (cn' := cn) (lim' := lim) (th' := 1) hPm hfr hM
    refine lv_iconst (v := 0) hx hb dX3_balanceOf_31 (by decide) ?_
    refine lv_istore_n (lv' := [(3, .int 0), (0, .ref m0), (1, .int p0), (2, .int p1)]) hx hb dX3_balanceOf_32 rfl hl (by decide) rfl (fun ls hl => ?_)
    refine lv_iconst (v := 0) hx hb dX3_balanceOf_33 (by decide) ?_
    refine lv_istore (lv' := [(4, .int 0), (3, .int 0), (0, .ref m0), (1, .int p0), (2, .int p1)]) hx hb dX3_balanceOf_34 hl (by decide) rfl (fun ls hl => ?_)
    refine lv_iload hx hb dX3_balanceOf_36 (lv_at hl 0 rfl) ?_
    refine lv_aload_n hx hb dX3_balanceOf_38 rfl (lv_at hl 2 rfl) ?_
    refine r_get (ci := 7) hF in_X3 hG hM hPm.1 rfl 3 (by decide) q760 (fun _ h => h) (.int (nI (cn 1))) rfl dX3_balanceOf_39 ?_
    refine lv_icmp_ge (tgt := 127) hx hb dX3_balanceOf_42 (by decide) (fun c_22 => ?_) (fun c_22 => ?_)
    · have c_22R := c_22
      have c_22 : (cn 1) ≤ 0 := (nI_leI (a := (cn 1)) (b := 0) (by omega) (by omega)).mp c_22R
      have c_22B : ¬ (0 < (cn 1)) := by omega
      have c_22RB := Int32.not_lt.mpr c_22R
      refine lv_iload_n hx hb dX3_balanceOf_127 rfl (lv_at hl 1 rfl) ?_
      have ht9 : tBalance cn p0 p1 = (1 : Int32) := by simp [tBalance, b_2, c_22, c_22B, c_22R, c_22RB]
      exact k_iret hx hb hr rfl hlocks hG hz hM hS (Nat.le_of_ble_eq_true rfl) (Nat.le_of_ble_eq_true rfl) dX3_balanceOf_128 ⟨_, rfl, mPost.bad ht9 (by decide) hPm hfr⟩
    · have c_22R := c_22
      have c_22 : ¬ ((cn 1) ≤ 0) := fun h9 => c_22R ((nI_leI (a := (cn 1)) (b := 0) (by omega) (by omega)).mpr h9)
      have c_22B : 0 < (cn 1) := by omega
      have c_22RB := Int32.not_le.mp c_22R
      refine lv_aload_n hx hb dX3_balanceOf_45 rfl (lv_at hl 2 rfl) ?_
      refine r_get (ci := 7) hF in_X3 hG hM hPm.1 rfl 28 (by decide) q785 (fun _ h => h) (.int 1) rfl dX3_balanceOf_46 ?_
      refine lv_if_ne (tgt := 127) hx hb dX3_balanceOf_49 (by decide) (fun _ => ?_) (fun c9 => absurd c9 (by decide))
      refine lv_iload_n hx hb dX3_balanceOf_127 rfl (lv_at hl 1 rfl) ?_
      have ht9 : tBalance cn p0 p1 = (1 : Int32) := by simp [tBalance, b_2, c_22, c_22B, c_22R, c_22RB]
      exact k_iret hx hb hr rfl hlocks hG hz hM hS (Nat.le_of_ble_eq_true rfl) (Nat.le_of_ble_eq_true rfl) dX3_balanceOf_128 ⟨_, rfl, mPost.bad ht9 (by decide) hPm hfr⟩
set_option maxHeartbeats 4000000 in
set_option maxRecDepth 100000 in
theorem metX3_balance {l : Launch} {z : Nat} {E : EE} {M : MM} {m0 : Nat} {aa : Nat → Nat} {cn : Nat → Nat} {lim th : Int32} {ar : Nat → Nat → Int32} (hPm : PicM E M m0 aa cn lim th ar) (hW : WF cn lim ar) (p0 p1 : Int32) : Kt l yX3_balance (ws_ yX3_balance cX3_balance 3 (some .int)) ({ frames := 40, cells := 0, slots := 0, locals := 1200 } : Room) z E [.ref m0, .int p0, .int p1] M (pI (fun r M' => mPost E M m0 aa (tBalance cn p0 p1) (balF ar p0 p1 (cn 1)) cn lim ar (cn) (lim) (ar) r M')) xNo 0 0 := by
  refine k_body RX3 (by decide) rfl (Nat.le_of_ble_eq_true rfl) ?_
  intro p e s m args below meth c hx hb hr hml hown hlocks hname hno hts hz hG hM hS ls hl
  have hF : CallFix p m c cX3_balance 3 s args lw_all RX3 := ⟨hx, hb, hml, hown, hts⟩
  have hl : lv_has ls 3 [(0, .ref m0), (1, .int p0), (2, .int p1)] := hl
  have hfr : Fr kM M M := Fr.rf
  have hwb := hW.b
  refine lv_aload_n hx hb dX3_balance_0 rfl (lv_at hl 0 rfl) ?_
  refine lv_iload_n hx hb dX3_balance_1 rfl (lv_at hl 1 rfl) ?_
  refine lv_iload_n hx hb dX3_balance_2 rfl (lv_at hl 2 rfl) ?_
  refine kV (k9 := 0) (n9 := 0) hF hG hz hM hS [.int p0, .int p1] [] (metX3_balanceOf hPm hW p0 p1) (cwV 2 hts (lw_V q893 q895 qs11 q27 q896) rfl rfl rfl (by decide +kernel) ⟨(Nat.le_of_ble_eq_true rfl), (Nat.le_of_ble_eq_true rfl)⟩) (k_recv hG hM hPm.1 (ci := 7) rfl) rfl hl.1 rfl (Nat.le_of_ble_eq_true rfl) dX3_balance_3 rfl rfl (Nat.le_of_ble_eq_true rfl) (Nat.le_of_ble_eq_true rfl) (fun _ _ _ _ _ h9 _ _ _ _ _ => h9.elim) (fun v9 M9_1 H locs hp9 hM9_1 hS => ?_)
  obtain ⟨r_1, rfl, hq⟩ := hp9
  have hM := hM9_1
  refine W.eq (g2 := F0 m 6 ls [.int r_1]) rfl ?_
  exact k_iret hx hb hr rfl hlocks hG hz hM hS (Nat.le_of_ble_eq_true rfl) (Nat.le_of_ble_eq_true rfl) dX3_balance_6 ⟨_, rfl, hq⟩
set_option maxHeartbeats 4000000 in
set_option maxRecDepth 100000 in
theorem metX3_balanceByEntries {l : Launch} {z : Nat} {E : EE} {M : MM} {m0 : Nat} {aa : Nat → Nat} {cn : Nat → Nat} {lim th : Int32} {ar : Nat → Nat → Int32} (hPm : PicM E M m0 aa cn lim th ar) (hW : WF cn lim ar) (p0 p1 : Int32) : Kt l yX3_balanceByEntries (ws_ yX3_balanceByEntries cX3_balanceByEntries 3 (some .int)) ({ frames := 40, cells := 0, slots := 0, locals := 1200 } : Room) z E [.ref m0, .int p0, .int p1] M (pI (fun r M' => mPost E M m0 aa (tBalance cn p0 p1) (balF ar p0 p1 (cn 1)) cn lim ar (cn) (lim) (ar) r M')) xNo 0 0 := by
  refine k_body RX3 (by decide) rfl (Nat.le_of_ble_eq_true rfl) ?_
  intro p e s m args below meth c hx hb hr hml hown hlocks hname hno hts hz hG hM hS ls hl
  have hF : CallFix p m c cX3_balanceByEntries 3 s args lw_all RX3 := ⟨hx, hb, hml, hown, hts⟩
  have hl : lv_has ls 3 [(0, .ref m0), (1, .int p0), (2, .int p1)] := hl
  have hfr : Fr kM M M := Fr.rf
  have hwb := hW.b
  refine lv_aload_n hx hb dX3_balanceByEntries_0 rfl (lv_at hl 0 rfl) ?_
  refine lv_iload_n hx hb dX3_balanceByEntries_1 rfl (lv_at hl 1 rfl) ?_
  refine lv_iload_n hx hb dX3_balanceByEntries_2 rfl (lv_at hl 2 rfl) ?_
  refine kV (k9 := 0) (n9 := 0) hF hG hz hM hS [.int p0, .int p1] [] (metX3_balanceOf hPm hW p0 p1) (cwV 2 hts (lw_V q893 q895 qs11 q27 q896) rfl rfl rfl (by decide +kernel) ⟨(Nat.le_of_ble_eq_true rfl), (Nat.le_of_ble_eq_true rfl)⟩) (k_recv hG hM hPm.1 (ci := 7) rfl) rfl hl.1 rfl (Nat.le_of_ble_eq_true rfl) dX3_balanceByEntries_3 rfl rfl (Nat.le_of_ble_eq_true rfl) (Nat.le_of_ble_eq_true rfl) (fun _ _ _ _ _ h9 _ _ _ _ _ => h9.elim) (fun v9 M9_1 H locs hp9 hM9_1 hS => ?_)
  obtain ⟨r_1, rfl, hq⟩ := hp9
  have hM := hM9_1
  refine W.eq (g2 := F0 m 6 ls [.int r_1]) rfl ?_
  exact k_iret hx hb hr rfl hlocks hG hz hM hS (Nat.le_of_ble_eq_true rfl) (Nat.le_of_ble_eq_true rfl) dX3_balanceByEntries_6 ⟨_, rfl, hq⟩
set_option maxHeartbeats 4000000 in
set_option maxRecDepth 100000 in
theorem metX3_grant {l : Launch} {z : Nat} {E : EE} {M : MM} {m0 : Nat} {aa : Nat → Nat} {cn : Nat → Nat} {lim th : Int32} {ar : Nat → Nat → Int32} (hPm : PicM E M m0 aa cn lim th ar) (hW : WF cn lim ar) (p0 p1 : Int32) : Kt l yX3_grant (ws_ yX3_grant cX3_grant 3 none) ({ frames := 30, cells := 0, slots := 0, locals := 900 } : Room) z E [.ref m0, .int p0, .int p1] M (pV (fun M' => mPost E M m0 aa (tGrant cn ar p0 p1) (0) cn lim ar (cn) (lim) (rGrant ar p0 p1) 0 M')) xNo 0 0 := by
  refine k_body RX3 (by decide) rfl (Nat.le_of_ble_eq_true rfl) ?_
  intro p e s m args below meth c hx hb hr hml hown hlocks hname hno hts hz hG hM hS ls hl
  have hF : CallFix p m c cX3_grant 3 s args lw_all RX3 := ⟨hx, hb, hml, hown, hts⟩
  have hl : lv_has ls 3 [(0, .ref m0), (1, .int p0), (2, .int p1)] := hl
  have hfr : Fr kM M M := Fr.rf
  have hwb := hW.b
  refine lv_aload_n hx hb dX3_grant_0 rfl (lv_at hl 0 rfl) ?_
  refine lv_aload_n hx hb dX3_grant_1 rfl (lv_at hl 0 rfl) ?_
  refine lv_iload_n hx hb dX3_grant_2 rfl (lv_at hl 1 rfl) ?_
  refine kV (k9 := 0) (n9 := 0) hF hG hz hM hS [.int p0] [.ref m0] (metX3_isAccount hPm hW p0) (cwV 1 hts (lw_V q853 q855 qs9 q27 q856) rfl rfl rfl (by decide +kernel) ⟨(Nat.le_of_ble_eq_true rfl), (Nat.le_of_ble_eq_true rfl)⟩) (k_recv hG hM hPm.1 (ci := 7) rfl) rfl hl.1 rfl (Nat.le_of_ble_eq_true rfl) dX3_grant_3 rfl rfl (Nat.le_of_ble_eq_true rfl) (Nat.le_of_ble_eq_true rfl) (fun _ _ _ _ _ h9 _ _ _ _ _ => h9.elim) (fun v9 M9_1 H locs hp9 hM9_1 hS => ?_)
  obtain ⟨r_1, rfl, b_2, rfl⟩ := hp9
  have hM := hM9_1
  rcases b_2 with ⟨b_2, rfl⟩ | ⟨b_2, rfl⟩
  · refine W.eq (g2 := F0 m 6 ls [.int 1, .ref m0]) rfl ?_
    obtain ⟨j0, hj0, rfl⟩ := inB_ex b_2 (by omega)
    have hnj0 : nx (nI j0) = j0 := nI_clamp (by omega)
    refine lv_if_ne (tgt := 13) hx hb dX3_grant_6 (by decide) (fun _ => ?_) (fun c9 => absurd c9 (by decide))
    refine lv_iload_n hx hb dX3_grant_13 rfl (lv_at hl 1 rfl) ?_
    refine lv_iconst (v := 2) hx hb dX3_grant_14 (by decide) ?_
    refine lv_icmp_lt (tgt := 28) hx hb dX3_grant_15 (by decide) (fun c_3 => ?_) (fun c_3 => ?_)
    · have c_3R := c_3
      have c_3 : j0 < 2 := (nI_ltI (a := j0) (b := 2) (by omega) (by omega)).mp c_3R
      have c_3B : ¬ (2 ≤ j0) := by omega
      have c_3RB := Int32.not_le.mpr c_3R
      refine lv_iconst (v := 2) hx hb dX3_grant_28 (by decide) ?_
      refine lv_goto (tgt := 47) hx hb dX3_grant_29 (by decide) ?_
      refine r_put (ci := 7) (ty := .int) (v := .int 2) hF in_X3 tyX3 tyX3_ok nmX3 hG hM hS hPm.1 rfl 28 (by decide) q785 (fun _ h => h) rfl (by decide +kernel) rfl rfl (Nat.le_of_ble_eq_true rfl) dX3_grant_47 (fun H locs hM hS => ?_)
      obtain ⟨M_4, hM, hPm, hfr⟩ := PicM.stepF (cn' := cn) (lim' := lim) (th' := 2) hPm hfr hM
      refine lv_aload_n hx hb dX3_grant_50 rfl (lv_at hl 0 rfl) ?_
      refine r_get (ci := 7) hF in_X3 hG hM hPm.1 rfl 28 (by decide) q785 (fun _ h => h) (.int 2) rfl dX3_grant_51 ?_
      refine lv_if_ne (tgt := 71) hx hb dX3_grant_54 (by decide) (fun _ => ?_) (fun c9 => absurd c9 (by decide))
      have ht9 : tGrant cn ar (nI j0) p1 = (2 : Int32) := by simp [tGrant, b_2, hnj0, c_3, c_3B, c_3R, c_3RB]
      exact k_vret hx hb hr hlocks hG hz hM hS (Nat.le_of_ble_eq_true rfl) (Nat.le_of_ble_eq_true rfl) dX3_grant_71 ⟨rfl, mPost.bad ht9 (by decide) hPm hfr⟩
    · have c_3R := c_3
      have c_3 : ¬ (j0 < 2) := fun h9 => c_3R ((nI_ltI (a := j0) (b := 2) (by omega) (by omega)).mpr h9)
      have c_3B : 2 ≤ j0 := by omega
      have c_3RB := Int32.not_lt.mp c_3R
      refine lv_iload_n hx hb dX3_grant_18 rfl (lv_at hl 2 rfl) ?_
      refine lv_iconst (v := 0) hx hb dX3_grant_19 (by decide) ?_
      refine lv_ldc (v := 1000000) hx hb hown (hts _ q864) dX3_grant_20 ?_
      refine kS (k9 := 0) (n9 := 0) hF hG hz hM hS [.int p1, .int 0, .int 1000000] [.ref m0] (metX3_in p1 0 1000000) (va_cwS 3 hts (lw_S q857 q858 q27 q859) rfl rfl rfl (by decide +kernel) ⟨(Nat.le_of_ble_eq_true rfl), (Nat.le_of_ble_eq_true rfl)⟩) rfl hl.1 rfl (Nat.le_of_ble_eq_true rfl) dX3_grant_22 rfl rfl (Nat.le_of_ble_eq_true rfl) (Nat.le_of_ble_eq_true rfl) (fun _ _ _ _ _ h9 _ _ _ _ _ => h9.elim) (fun v9 M9_2 H locs hp9 hM9_2 hS => ?_)
      obtain ⟨r_5, rfl, b_6, rfl⟩ := hp9
      have hM := hM9_2
      rcases b_6 with ⟨b_6, rfl⟩ | ⟨b_6, rfl⟩
      · refine W.eq (g2 := F0 m 25 ls [.int 1, .ref m0]) rfl ?_
        refine lv_if_ne (tgt := 32) hx hb dX3_grant_25 (by decide) (fun _ => ?_) (fun c9 => absurd c9 (by decide))
        refine lv_aload_n hx hb dX3_grant_32 rfl (lv_at hl 0 rfl) ?_
        refine r_get (ci := 7) hF in_X3 hG hM hPm.1 rfl 9 (by decide) q766 (fun _ h => h) (.ref (aa 6)) rfl dX3_grant_33 ?_
        refine lv_iload_n hx hb dX3_grant_36 rfl (lv_at hl 1 rfl) ?_
        refine r_ialdN (n := 14) (f := (ar 6)) j0 hF hG hM hPm.a6 (by omega) (by decide) rfl dX3_grant_37 ?_
        refine lv_iconst (v := 1) hx hb dX3_grant_38 (by decide) ?_
        refine lv_icmp_ne (tgt := 46) hx hb dX3_grant_39 (by decide) (fun c_7 => ?_) (fun c_7 => ?_)
        · refine lv_iconst (v := 0) hx hb dX3_grant_46 (by decide) ?_
          refine r_put (ci := 7) (ty := .int) (v := .int 0) hF in_X3 tyX3 tyX3_ok nmX3 hG hM hS hPm.1 rfl 28 (by decide) q785 (fun _ h => h) rfl (by decide +kernel) rfl rfl (Nat.le_of_ble_eq_true rfl) dX3_grant_47 (fun H locs hM hS => ?_)
          obtain ⟨M_8, hM, hPm, hfr⟩ := PicM.stepF (cn' := cn) (lim' := lim) (th' := 0) hPm hfr hM
          refine lv_aload_n hx hb dX3_grant_50 rfl (lv_at hl 0 rfl) ?_
          refine r_get (ci := 7) hF in_X3 hG hM hPm.1 rfl 28 (by decide) q785 (fun _ h => h) (.int 0) rfl dX3_grant_51 ?_
          refine lv_if_ne (tgt := 71) hx hb dX3_grant_54 (by decide) (fun c9 => absurd c9 (by decide)) (fun _ => ?_)
          refine lv_aload_n hx hb dX3_grant_57 rfl (lv_at hl 0 rfl) ?_
          refine r_get (ci := 7) hF in_X3 hG hM hPm.1 rfl 9 (by decide) q766 (fun _ h => h) (.ref (aa 6)) rfl dX3_grant_58 ?_
          refine lv_iload_n hx hb dX3_grant_61 rfl (lv_at hl 1 rfl) ?_
          refine lv_iconst (v := 1) hx hb dX3_grant_62 (by decide) ?_
          refine r_iast (n := 14) (f := (ar 6)) j0 hF hG hM hS hPm.a6 (by omega) (by decide) rfl dX3_grant_63 (fun H locs hM hS => ?_)
          obtain ⟨M_9, hM, hPm, hfr⟩ := PicM.stepA 6 (by decide) hPm hfr hM
          refine lv_aload_n hx hb dX3_grant_64 rfl (lv_at hl 0 rfl) ?_
          refine r_get (ci := 7) hF in_X3 hG hM hPm.1 rfl 10 (by decide) q767 (fun _ h => h) (.ref (aa 7)) rfl dX3_grant_65 ?_
          refine lv_iload_n hx hb dX3_grant_68 rfl (lv_at hl 1 rfl) ?_
          refine lv_iload_n hx hb dX3_grant_69 rfl (lv_at hl 2 rfl) ?_
          refine r_iast (n := 14) (f := (ar 7)) j0 hF hG hM hS hPm.a7 (by omega) (by decide) rfl dX3_grant_70 (fun H locs hM hS => ?_)
          obtain ⟨M_10, hM, hPm, hfr⟩ := PicM.stepA 7 (by decide) hPm hfr hM
          have ht9 : tGrant cn ar (nI j0) p1 = (0 : Int32) := by simp [tGrant, b_2, hnj0, c_3, c_3B, c_3R, c_3RB, b_6, c_7]
          have er9 : rGrant ar (nI j0) p1 = (va_up (va_up ar 6 (upd (ar 6) j0 1)) 7 (upd (ar 7) j0 p1)) := by first | rfl | (simp only [rGrant, b_2, hnj0, c_3, c_3B, c_3R, c_3RB, b_6, c_7]; done) | (simp only [rGrant, b_2, hnj0, c_3, c_3B, c_3R, c_3RB, b_6, c_7]; rfl) | simp [rGrant, b_2, hnj0, c_3, c_3B, c_3R, c_3RB, b_6, c_7]
          exact k_vret hx hb hr hlocks hG hz hM hS (Nat.le_of_ble_eq_true rfl) (Nat.le_of_ble_eq_true rfl) dX3_grant_71 ⟨rfl, mPost.ok ht9 rfl (by rw [er9]; exact hPm) hfr⟩
        · refine lv_iconst (v := 3) hx hb dX3_grant_42 (by decide) ?_
          refine lv_goto (tgt := 47) hx hb dX3_grant_43 (by decide) ?_
          refine r_put (ci := 7) (ty := .int) (v := .int 3) hF in_X3 tyX3 tyX3_ok nmX3 hG hM hS hPm.1 rfl 28 (by decide) q785 (fun _ h => h) rfl (by decide +kernel) rfl rfl (Nat.le_of_ble_eq_true rfl) dX3_grant_47 (fun H locs hM hS => ?_)
          obtain ⟨M_11, hM, hPm, hfr⟩ := PicM.stepF (cn' := cn) (lim' := lim) (th' := 3) hPm hfr hM
          refine lv_aload_n hx hb dX3_grant_50 rfl (lv_at hl 0 rfl) ?_
          refine r_get (ci := 7) hF in_X3 hG hM hPm.1 rfl 28 (by decide) q785 (fun _ h => h) (.int 3) rfl dX3_grant_51 ?_
          refine lv_if_ne (tgt := 71) hx hb dX3_grant_54 (by decide) (fun _ => ?_) (fun c9 => absurd c9 (by decide))
          have ht9 : tGrant cn ar (nI j0) p1 = (3 : Int32) := by simp [tGrant, b_2, hnj0, c_3, c_3B, c_3R, c_3RB, b_6, (eq_true c_7)]
          exact k_vret hx hb hr hlocks hG hz hM hS (Nat.le_of_ble_eq_true rfl) (Nat.le_of_ble_eq_true rfl) dX3_grant_71 ⟨rfl, mPost.bad ht9 (by decide) hPm hfr⟩
      · refine W.eq (g2 := F0 m 25 ls [.int 0, .ref m0]) rfl ?_
        refine lv_if_ne (tgt := 32) hx hb dX3_grant_25 (by decide) (fun c9 => absurd c9 (by decide)) (fun _ => ?_)
        refine lv_iconst (v := 2) hx hb dX3_grant_28 (by decide) ?_
        refine lv_goto (tgt := 47) hx hb dX3_grant_29 (by decide) ?_
        refine r_put (ci := 7) (ty := .int) (v := .int 2) hF in_X3 tyX3 tyX3_ok nmX3 hG hM hS hPm.1 rfl 28 (by decide) q785 (fun _ h => h) rfl (by decide +kernel) rfl rfl (Nat.le_of_ble_eq_true rfl) dX3_grant_47 (fun H locs hM hS => ?_)
        obtain ⟨M_12, hM, hPm, hfr⟩ := PicM.stepF (cn' := cn) (lim' := lim) (th' := 2) hPm hfr hM
        refine lv_aload_n hx hb dX3_grant_50 rfl (lv_at hl 0 rfl) ?_
        refine r_get (ci := 7) hF in_X3 hG hM hPm.1 rfl 28 (by decide) q785 (fun _ h => h) (.int 2) rfl dX3_grant_51 ?_
        refine lv_if_ne (tgt := 71) hx hb dX3_grant_54 (by decide) (fun _ => ?_) (fun c9 => absurd c9 (by decide))
        have ht9 : tGrant cn ar (nI j0) p1 = (2 : Int32) := by simp [tGrant, b_2, hnj0, c_3, c_3B, c_3R, c_3RB, b_6]
        exact k_vret hx hb hr hlocks hG hz hM hS (Nat.le_of_ble_eq_true rfl) (Nat.le_of_ble_eq_true rfl) dX3_grant_71 ⟨rfl, mPost.bad ht9 (by decide) hPm hfr⟩
  · refine W.eq (g2 := F0 m 6 ls [.int 0, .ref m0]) rfl ?_
    refine lv_if_ne (tgt := 13) hx hb dX3_grant_6 (by decide) (fun c9 => absurd c9 (by decide)) (fun _ => ?_)
    refine lv_iconst (v := 1) hx hb dX3_grant_9 (by decide) ?_
    refine lv_goto (tgt := 47) hx hb dX3_grant_10 (by decide) ?_
    refine r_put (ci := 7) (ty := .int) (v := .int 1) hF in_X3 tyX3 tyX3_ok nmX3 hG hM hS hPm.1 rfl 28 (by decide) q785 (fun _ h => h) rfl (by decide +kernel) rfl rfl (Nat.le_of_ble_eq_true rfl) dX3_grant_47 (fun H locs hM hS => ?_)
    obtain ⟨M_13, hM, hPm, hfr⟩ := PicM.stepF (cn' := cn) (lim' := lim) (th' := 1) hPm hfr hM
    refine lv_aload_n hx hb dX3_grant_50 rfl (lv_at hl 0 rfl) ?_
    refine r_get (ci := 7) hF in_X3 hG hM hPm.1 rfl 28 (by decide) q785 (fun _ h => h) (.int 1) rfl dX3_grant_51 ?_
    refine lv_if_ne (tgt := 71) hx hb dX3_grant_54 (by decide) (fun _ => ?_) (fun c9 => absurd c9 (by decide))
    have ht9 : tGrant cn ar p0 p1 = (1 : Int32) := by simp [tGrant, b_2]
    exact k_vret hx hb hr hlocks hG hz hM hS (Nat.le_of_ble_eq_true rfl) (Nat.le_of_ble_eq_true rfl) dX3_grant_71 ⟨rfl, mPost.bad ht9 (by decide) hPm hfr⟩
set_option maxHeartbeats 4000000 in
set_option maxRecDepth 100000 in
theorem metX3_leftOf {l : Launch} {z : Nat} {E : EE} {M : MM} {m0 : Nat} {aa : Nat → Nat} {cn : Nat → Nat} {lim th : Int32} {ar : Nat → Nat → Int32} (hPm : PicM E M m0 aa cn lim th ar) (j0 : Nat) (hj : j0 < 14) : Kt l yX3_leftOf (ws_ yX3_leftOf cX3_leftOf 2 (some .int)) ({ frames := 10, cells := 0, slots := 0, locals := 300 } : Room) z E [.ref m0, .int (nI j0)] M (pI (fun r M' => r = lef ar j0 ∧ M = M')) xNo 0 0 := by
  refine k_body RX3 (by decide) rfl (Nat.le_of_ble_eq_true rfl) ?_
  intro p e s m args below meth c hx hb hr hml hown hlocks hname hno hts hz hG hM hS ls hl
  have hF : CallFix p m c cX3_leftOf 2 s args lw_all RX3 := ⟨hx, hb, hml, hown, hts⟩
  have hl : lv_has ls 2 [(0, .ref m0), (1, .int (nI j0))] := hl
  have hfr : Fr kM M M := Fr.rf
  refine lv_aload_n hx hb dX3_leftOf_0 rfl (lv_at hl 0 rfl) ?_
  refine r_get (ci := 7) hF in_X3 hG hM hPm.1 rfl 10 (by decide) q767 (fun _ h => h) (.ref (aa 7)) rfl dX3_leftOf_1 ?_
  refine lv_iload_n hx hb dX3_leftOf_4 rfl (lv_at hl 1 rfl) ?_
  refine r_ialdN (n := 14) (f := (ar 7)) j0 hF hG hM hPm.a7 (by omega) (by decide) rfl dX3_leftOf_5 ?_
  refine lv_aload_n hx hb dX3_leftOf_6 rfl (lv_at hl 0 rfl) ?_
  refine r_get (ci := 7) hF in_X3 hG hM hPm.1 rfl 11 (by decide) q768 (fun _ h => h) (.ref (aa 8)) rfl dX3_leftOf_7 ?_
  refine lv_iload_n hx hb dX3_leftOf_10 rfl (lv_at hl 1 rfl) ?_
  refine r_ialdN (n := 14) (f := (ar 8)) j0 hF hG hM hPm.a8 (by omega) (by decide) rfl dX3_leftOf_11 ?_
  refine lv_iadd hx hb dX3_leftOf_12 ?_
  refine lv_aload_n hx hb dX3_leftOf_13 rfl (lv_at hl 0 rfl) ?_
  refine r_get (ci := 7) hF in_X3 hG hM hPm.1 rfl 13 (by decide) q770 (fun _ h => h) (.ref (aa 10)) rfl dX3_leftOf_14 ?_
  refine lv_iload_n hx hb dX3_leftOf_17 rfl (lv_at hl 1 rfl) ?_
  refine r_ialdN (n := 14) (f := (ar 10)) j0 hF hG hM hPm.a10 (by omega) (by decide) rfl dX3_leftOf_18 ?_
  refine lv_isub hx hb dX3_leftOf_19 ?_
  exact k_iret hx hb hr rfl hlocks hG hz hM hS (Nat.le_of_ble_eq_true rfl) (Nat.le_of_ble_eq_true rfl) dX3_leftOf_20 ⟨_, rfl, rfl, rfl⟩
set_option maxHeartbeats 4000000 in
set_option maxRecDepth 100000 in
theorem metX3_amend {l : Launch} {z : Nat} {E : EE} {M : MM} {m0 : Nat} {aa : Nat → Nat} {cn : Nat → Nat} {lim th : Int32} {ar : Nat → Nat → Int32} (hPm : PicM E M m0 aa cn lim th ar) (hW : WF cn lim ar) (p0 p1 p2 p3 : Int32) : Kt l yX3_amend (ws_ yX3_amend cX3_amend 6 (some .int)) ({ frames := 40, cells := 0, slots := 0, locals := 1200 } : Room) z E [.ref m0, .int p0, .int p1, .int p2, .int p3] M (pI (fun r M' => mPost E M m0 aa (tAmend cn ar p0 p1 p2 p3) (lef (rAmend ar (nx p0) (nx p1) p2 p3) (nx p0)) cn lim ar (cn) (lim) (rAmend ar (nx p0) (nx p1) p2 p3) r M')) xNo 0 0 := by
  refine k_body RX3 (by decide) rfl (Nat.le_of_ble_eq_true rfl) ?_
  intro p e s m args below meth c hx hb hr hml hown hlocks hname hno hts hz hG hM hS ls hl
  have hF : CallFix p m c cX3_amend 6 s args lw_all RX3 := ⟨hx, hb, hml, hown, hts⟩
  have hl : lv_has ls 6 [(0, .ref m0), (1, .int p0), (2, .int p1), (3, .int p2), (4, .int p3)] := hl
  have hfr : Fr kM M M := Fr.rf
  have hwb := hW.b
  refine lv_aload_n hx hb dX3_amend_0 rfl (lv_at hl 0 rfl) ?_
  refine lv_aload_n hx hb dX3_amend_1 rfl (lv_at hl 0 rfl) ?_
  refine lv_iload_n hx hb dX3_amend_2 rfl (lv_at hl 1 rfl) ?_
  refine kV (k9 := 0) (n9 := 0) hF hG hz hM hS [.int p0] [.ref m0] (metX3_isAccount hPm hW p0) (cwV 1 hts (lw_V q853 q855 qs9 q27 q856) rfl rfl rfl (by decide +kernel) ⟨(Nat.le_of_ble_eq_true rfl), (Nat.le_of_ble_eq_true rfl)⟩) (k_recv hG hM hPm.1 (ci := 7) rfl) rfl hl.1 rfl (Nat.le_of_ble_eq_true rfl) dX3_amend_3 rfl rfl (Nat.le_of_ble_eq_true rfl) (Nat.le_of_ble_eq_true rfl) (fun _ _ _ _ _ h9 _ _ _ _ _ => h9.elim) (fun v9 M9_1 H locs hp9 hM9_1 hS => ?_)
  obtain ⟨r_1, rfl, b_2, rfl⟩ := hp9
  have hM := hM9_1
  rcases b_2 with ⟨b_2, rfl⟩ | ⟨b_2, rfl⟩
  · refine W.eq (g2 := F0 m 6 ls [.int 1, .ref m0]) rfl ?_
    obtain ⟨j0, hj0, rfl⟩ := inB_ex b_2 (by omega)
    have hnj0 : nx (nI j0) = j0 := nI_clamp (by omega)
    refine lv_if_eq (tgt := 17) hx hb dX3_amend_6 (by decide) (fun c9 => absurd c9 (by decide)) (fun _ => ?_)
    refine lv_aload_n hx hb dX3_amend_9 rfl (lv_at hl 0 rfl) ?_
    refine lv_iload_n hx hb dX3_amend_10 rfl (lv_at hl 2 rfl) ?_
    refine kV (k9 := 0) (n9 := 0) hF hG hz hM hS [.int p1] [.ref m0] (metX3_isAccount hPm hW p1) (cwV 1 hts (lw_V q853 q855 qs9 q27 q856) rfl rfl rfl (by decide +kernel) ⟨(Nat.le_of_ble_eq_true rfl), (Nat.le_of_ble_eq_true rfl)⟩) (k_recv hG hM hPm.1 (ci := 7) rfl) rfl hl.1 rfl (Nat.le_of_ble_eq_true rfl) dX3_amend_11 rfl rfl (Nat.le_of_ble_eq_true rfl) (Nat.le_of_ble_eq_true rfl) (fun _ _ _ _ _ h9 _ _ _ _ _ => h9.elim) (fun v9 M9_2 H locs hp9 hM9_2 hS => ?_)
    obtain ⟨r_3, rfl, b_4, rfl⟩ := hp9
    have hM := hM9_2
    rcases b_4 with ⟨b_4, rfl⟩ | ⟨b_4, rfl⟩
    · refine W.eq (g2 := F0 m 14 ls [.int 1, .ref m0]) rfl ?_
      obtain ⟨j1, hj1, rfl⟩ := inB_ex b_4 (by omega)
      have hnj1 : nx (nI j1) = j1 := nI_clamp (by omega)
      refine lv_if_ne (tgt := 21) hx hb dX3_amend_14 (by decide) (fun _ => ?_) (fun c9 => absurd c9 (by decide))
      refine lv_iload_n hx hb dX3_amend_21 rfl (lv_at hl 3 rfl) ?_
      refine lv_iconst (v := 1) hx hb dX3_amend_22 (by decide) ?_
      refine lv_ldc (v := 1000000) hx hb hown (hts _ q864) dX3_amend_23 ?_
      refine kS (k9 := 0) (n9 := 0) hF hG hz hM hS [.int p2, .int 1, .int 1000000] [.ref m0] (metX3_in p2 1 1000000) (va_cwS 3 hts (lw_S q857 q858 q27 q859) rfl rfl rfl (by decide +kernel) ⟨(Nat.le_of_ble_eq_true rfl), (Nat.le_of_ble_eq_true rfl)⟩) rfl hl.1 rfl (Nat.le_of_ble_eq_true rfl) dX3_amend_25 rfl rfl (Nat.le_of_ble_eq_true rfl) (Nat.le_of_ble_eq_true rfl) (fun _ _ _ _ _ h9 _ _ _ _ _ => h9.elim) (fun v9 M9_3 H locs hp9 hM9_3 hS => ?_)
      obtain ⟨r_5, rfl, b_6, rfl⟩ := hp9
      have hM := hM9_3
      rcases b_6 with ⟨b_6, rfl⟩ | ⟨b_6, rfl⟩
      · refine W.eq (g2 := F0 m 28 ls [.int 1, .ref m0]) rfl ?_
        refine lv_if_eq (tgt := 36) hx hb dX3_amend_28 (by decide) (fun c9 => absurd c9 (by decide)) (fun _ => ?_)
        refine lv_iload_n hx hb dX3_amend_31 rfl (lv_at hl 1 rfl) ?_
        refine lv_iload_n hx hb dX3_amend_32 rfl (lv_at hl 2 rfl) ?_
        refine lv_icmp_ne (tgt := 40) hx hb dX3_amend_33 (by decide) (fun c_7 => ?_) (fun c_7 => ?_)
        · have c_7R := c_7
          have c_7 : ¬ (j0 = j1) := fun h9 => c_7R ((nI_eq (a := j0) (b := j1) (by omega) (by omega)).mpr h9)
          refine lv_iconst (v := 0) hx hb dX3_amend_40 (by decide) ?_
          refine r_put (ci := 7) (ty := .int) (v := .int 0) hF in_X3 tyX3 tyX3_ok nmX3 hG hM hS hPm.1 rfl 28 (by decide) q785 (fun _ h => h) rfl (by decide +kernel) rfl rfl (Nat.le_of_ble_eq_true rfl) dX3_amend_41 (fun H locs hM hS => ?_)
          obtain ⟨M_8, hM, hPm, hfr⟩ := PicM.stepF (cn' := cn) (lim' := lim) (th' := 0) hPm hfr hM
          refine lv_aload_n hx hb dX3_amend_44 rfl (lv_at hl 0 rfl) ?_
          refine r_get (ci := 7) hF in_X3 hG hM hPm.1 rfl 28 (by decide) q785 (fun _ h => h) (.int 0) rfl dX3_amend_45 ?_
          refine lv_if_le (tgt := 53) hx hb dX3_amend_48 (by decide) (fun _ => ?_) (fun c9 => absurd (by decide) c9)
          refine lv_iload hx hb dX3_amend_53 (lv_at hl 4 rfl) ?_
          refine lv_if_ne (tgt := 78) hx hb dX3_amend_55 (by decide) (fun c_9 => ?_) (fun c_9 => ?_)
          · refine lv_iconst (v := 1) hx hb dX3_amend_78 (by decide) ?_
            refine lv_goto (tgt := 83) hx hb dX3_amend_79 (by decide) ?_
            refine lv_istore (lv' := [(5, .int 1), (0, .ref m0), (1, .int (nI j0)), (2, .int (nI j1)), (3, .int p2), (4, .int p3)]) hx hb dX3_amend_83 hl (by decide) rfl (fun ls hl => ?_)
            refine lv_aload_n hx hb dX3_amend_85 rfl (lv_at hl 1 rfl) ?_
            refine r_get (ci := 7) hF in_X3 hG hM hPm.1 rfl 9 (by decide) q766 (fun _ h => h) (.ref (aa 6)) rfl dX3_amend_86 ?_
            refine lv_iload_n hx hb dX3_amend_89 rfl (lv_at hl 2 rfl) ?_
            refine r_ialdN (n := 14) (f := (ar 6)) j0 hF hG hM hPm.a6 (by omega) (by decide) rfl dX3_amend_90 ?_
            refine lv_if_eq (tgt := 117) hx hb dX3_amend_91 (by decide) (fun c_10 => ?_) (fun c_10 => ?_)
            · refine lv_aload_n hx hb dX3_amend_117 rfl (lv_at hl 1 rfl) ?_
              refine lv_iconst (v := 3) hx hb dX3_amend_118 (by decide) ?_
              refine kV (k9 := 0) (n9 := 0) hF hG hz hM hS [.int 3] [] (metX3_fails hPm 3) (cwV 1 hts (lw_V q917 q919 qs14 q27 q920) rfl rfl rfl (by decide +kernel) ⟨(Nat.le_of_ble_eq_true rfl), (Nat.le_of_ble_eq_true rfl)⟩) (k_recv hG hM hPm.1 (ci := 7) rfl) rfl hl.1 rfl (Nat.le_of_ble_eq_true rfl) dX3_amend_119 rfl rfl (Nat.le_of_ble_eq_true rfl) (Nat.le_of_ble_eq_true rfl) (fun _ _ _ _ _ h9 _ _ _ _ _ => h9.elim) (fun v9 M9_4 H locs hp9 hM9_4 hS => ?_)
              obtain ⟨r_11, rfl, r_11_e, hPm, hfr9⟩ := hp9
              have hM := hM9_4
              have hfr := hfr.tr hfr9
              subst r_11_e
              refine W.eq (g2 := F0 m 122 ls [.int 0]) rfl ?_
              have ht9 : tAmend cn ar (nI j0) (nI j1) p2 p3 = (3 : Int32) := by simp [tAmend, mayAm, b_2, hnj0, b_4, hnj1, b_6, c_7, c_7R, c_9, (eq_true c_10)]
              exact k_iret hx hb hr rfl hlocks hG hz hM hS (Nat.le_of_ble_eq_true rfl) (Nat.le_of_ble_eq_true rfl) dX3_amend_122 ⟨_, rfl, mPost.bad ht9 (by decide) hPm hfr⟩
            · refine lv_aload_n hx hb dX3_amend_94 rfl (lv_at hl 1 rfl) ?_
              refine r_get (ci := 7) hF in_X3 hG hM hPm.1 rfl 9 (by decide) q766 (fun _ h => h) (.ref (aa 6)) rfl dX3_amend_95 ?_
              refine lv_iload_n hx hb dX3_amend_98 rfl (lv_at hl 3 rfl) ?_
              refine r_ialdN (n := 14) (f := (ar 6)) j1 hF hG hM hPm.a6 (by omega) (by decide) rfl dX3_amend_99 ?_
              refine lv_if_eq (tgt := 117) hx hb dX3_amend_100 (by decide) (fun c_13 => ?_) (fun c_13 => ?_)
              · refine lv_aload_n hx hb dX3_amend_117 rfl (lv_at hl 1 rfl) ?_
                refine lv_iconst (v := 3) hx hb dX3_amend_118 (by decide) ?_
                refine kV (k9 := 0) (n9 := 0) hF hG hz hM hS [.int 3] [] (metX3_fails hPm 3) (cwV 1 hts (lw_V q917 q919 qs14 q27 q920) rfl rfl rfl (by decide +kernel) ⟨(Nat.le_of_ble_eq_true rfl), (Nat.le_of_ble_eq_true rfl)⟩) (k_recv hG hM hPm.1 (ci := 7) rfl) rfl hl.1 rfl (Nat.le_of_ble_eq_true rfl) dX3_amend_119 rfl rfl (Nat.le_of_ble_eq_true rfl) (Nat.le_of_ble_eq_true rfl) (fun _ _ _ _ _ h9 _ _ _ _ _ => h9.elim) (fun v9 M9_5 H locs hp9 hM9_5 hS => ?_)
                obtain ⟨r_14, rfl, r_14_e, hPm, hfr9⟩ := hp9
                have hM := hM9_5
                have hfr := hfr.tr hfr9
                subst r_14_e
                refine W.eq (g2 := F0 m 122 ls [.int 0]) rfl ?_
                have ht9 : tAmend cn ar (nI j0) (nI j1) p2 p3 = (3 : Int32) := by simp [tAmend, mayAm, b_2, hnj0, b_4, hnj1, b_6, c_7, c_7R, c_9, c_10, (eq_true c_13)]
                exact k_iret hx hb hr rfl hlocks hG hz hM hS (Nat.le_of_ble_eq_true rfl) (Nat.le_of_ble_eq_true rfl) dX3_amend_122 ⟨_, rfl, mPost.bad ht9 (by decide) hPm hfr⟩
              · refine lv_aload_n hx hb dX3_amend_103 rfl (lv_at hl 1 rfl) ?_
                refine lv_iload_n hx hb dX3_amend_104 rfl (lv_at hl 2 rfl) ?_
                refine kV (k9 := 0) (n9 := 0) hF hG hz hM hS [.int (nI j0)] [] (metX3_leftOf hPm j0 (by omega)) (cwV 1 hts (lw_V q913 q915 qs13 q27 q916) rfl rfl rfl (by decide +kernel) ⟨(Nat.le_of_ble_eq_true rfl), (Nat.le_of_ble_eq_true rfl)⟩) (k_recv hG hM hPm.1 (ci := 7) rfl) rfl hl.1 rfl (Nat.le_of_ble_eq_true rfl) dX3_amend_105 rfl rfl (Nat.le_of_ble_eq_true rfl) (Nat.le_of_ble_eq_true rfl) (fun _ _ _ _ _ h9 _ _ _ _ _ => h9.elim) (fun v9 M9_6 H locs hp9 hM9_6 hS => ?_)
                obtain ⟨r_16, rfl, r_16_e, rfl⟩ := hp9
                have hM := hM9_6
                subst r_16_e
                refine W.eq (g2 := F0 m 108 ls [.int (lef ar j0)]) rfl ?_
                refine lv_iload_n hx hb dX3_amend_108 rfl (lv_at hl 4 rfl) ?_
                refine lv_icmp_lt (tgt := 117) hx hb dX3_amend_109 (by decide) (fun c_17 => ?_) (fun c_17 => ?_)
                · have c_17B := Int32.not_le.mpr c_17
                  refine lv_aload_n hx hb dX3_amend_117 rfl (lv_at hl 1 rfl) ?_
                  refine lv_iconst (v := 3) hx hb dX3_amend_118 (by decide) ?_
                  refine kV (k9 := 0) (n9 := 0) hF hG hz hM hS [.int 3] [] (metX3_fails hPm 3) (cwV 1 hts (lw_V q917 q919 qs14 q27 q920) rfl rfl rfl (by decide +kernel) ⟨(Nat.le_of_ble_eq_true rfl), (Nat.le_of_ble_eq_true rfl)⟩) (k_recv hG hM hPm.1 (ci := 7) rfl) rfl hl.1 rfl (Nat.le_of_ble_eq_true rfl) dX3_amend_119 rfl rfl (Nat.le_of_ble_eq_true rfl) (Nat.le_of_ble_eq_true rfl) (fun _ _ _ _ _ h9 _ _ _ _ _ => h9.elim) (fun v9 M9_7 H locs hp9 hM9_7 hS => ?_)
                  obtain ⟨r_18, rfl, r_18_e, hPm, hfr9⟩ := hp9
                  have hM := hM9_7
                  have hfr := hfr.tr hfr9
                  subst r_18_e
                  refine W.eq (g2 := F0 m 122 ls [.int 0]) rfl ?_
                  have ht9 : tAmend cn ar (nI j0) (nI j1) p2 p3 = (3 : Int32) := by simp [tAmend, mayAm, b_2, hnj0, b_4, hnj1, b_6, c_7, c_7R, c_9, c_10, c_13, c_17, c_17B]
                  exact k_iret hx hb hr rfl hlocks hG hz hM hS (Nat.le_of_ble_eq_true rfl) (Nat.le_of_ble_eq_true rfl) dX3_amend_122 ⟨_, rfl, mPost.bad ht9 (by decide) hPm hfr⟩
                · have c_17B := Int32.not_lt.mp c_17
                  refine lv_iload hx hb dX3_amend_112 (lv_at hl 0 rfl) ?_
                  refine lv_if_ne (tgt := 123) hx hb dX3_amend_114 (by decide) (fun _ => ?_) (fun c9 => absurd c9 (by decide))
                  refine lv_aload_n hx hb dX3_amend_123 rfl (lv_at hl 1 rfl) ?_
                  refine r_get (ci := 7) hF in_X3 hG hM hPm.1 rfl 11 (by decide) q768 (fun _ h => h) (.ref (aa 8)) rfl dX3_amend_124 ?_
                  refine lv_iload_n hx hb dX3_amend_127 rfl (lv_at hl 2 rfl) ?_
                  refine lv_dup2_11 hx hb dX3_amend_128 rfl rfl ?_
                  refine r_ialdN (n := 14) (f := (ar 8)) j0 hF hG hM hPm.a8 (by omega) (by decide) rfl dX3_amend_129 ?_
                  refine lv_iload_n hx hb dX3_amend_130 rfl (lv_at hl 4 rfl) ?_
                  refine lv_isub hx hb dX3_amend_131 ?_
                  refine r_iast (n := 14) (f := (ar 8)) j0 hF hG hM hS hPm.a8 (by omega) (by decide) rfl dX3_amend_132 (fun H locs hM hS => ?_)
                  obtain ⟨M_20, hM, hPm, hfr⟩ := PicM.stepA 8 (by decide) hPm hfr hM
                  refine lv_aload_n hx hb dX3_amend_133 rfl (lv_at hl 1 rfl) ?_
                  refine r_get (ci := 7) hF in_X3 hG hM hPm.1 rfl 11 (by decide) q768 (fun _ h => h) (.ref (aa 8)) rfl dX3_amend_134 ?_
                  refine lv_iload_n hx hb dX3_amend_137 rfl (lv_at hl 3 rfl) ?_
                  refine lv_dup2_11 hx hb dX3_amend_138 rfl rfl ?_
                  refine r_ialdN (n := 14) (f := (upd (ar 8) j0 (((ar 8) j0) - p2))) j1 hF hG hM hPm.a8 (by omega) (by decide) rfl dX3_amend_139 ?_
                  refine lv_iload_n hx hb dX3_amend_140 rfl (lv_at hl 4 rfl) ?_
                  refine lv_iadd hx hb dX3_amend_141 ?_
                  refine r_iast (n := 14) (f := (upd (ar 8) j0 (((ar 8) j0) - p2))) j1 hF hG hM hS hPm.a8 (by omega) (by decide) rfl dX3_amend_142 (fun H locs hM hS => ?_)
                  obtain ⟨M_21, hM, hPm, hfr⟩ := PicM.stepA 8 (by decide) hPm hfr hM
                  refine lv_aload_n hx hb dX3_amend_143 rfl (lv_at hl 1 rfl) ?_
                  refine r_get (ci := 7) hF in_X3 hG hM hPm.1 rfl 12 (by decide) q769 (fun _ h => h) (.ref (aa 9)) rfl dX3_amend_144 ?_
                  refine lv_iload_n hx hb dX3_amend_147 rfl (lv_at hl 2 rfl) ?_
                  refine lv_dup2_11 hx hb dX3_amend_148 rfl rfl ?_
                  refine r_ialdN (n := 14) (f := (ar 9)) j0 hF hG hM hPm.a9 (by omega) (by decide) rfl dX3_amend_149 ?_
                  refine lv_iload hx hb dX3_amend_150 (lv_at hl 5 rfl) ?_
                  refine lv_if_eq (tgt := 159) hx hb dX3_amend_152 (by decide) (fun c9 => absurd c9 c_9) (fun _ => ?_)
                  refine lv_iconst (v := 0) hx hb dX3_amend_155 (by decide) ?_
                  refine lv_goto (tgt := 160) hx hb dX3_amend_156 (by decide) ?_
                  refine lv_iadd hx hb dX3_amend_160 ?_
                  refine r_iast (n := 14) (f := (ar 9)) j0 hF hG hM hS hPm.a9 (by omega) (by decide) rfl dX3_amend_161 (fun H locs hM hS => ?_)
                  obtain ⟨M_22, hM, hPm, hfr⟩ := PicM.stepA 9 (by decide) hPm hfr hM
                  refine lv_aload_n hx hb dX3_amend_162 rfl (lv_at hl 1 rfl) ?_
                  refine lv_iload_n hx hb dX3_amend_163 rfl (lv_at hl 2 rfl) ?_
                  refine kV (k9 := 0) (n9 := 0) hF hG hz hM hS [.int (nI j0)] [] (metX3_leftOf hPm j0 (by omega)) (cwV 1 hts (lw_V q913 q915 qs13 q27 q916) rfl rfl rfl (by decide +kernel) ⟨(Nat.le_of_ble_eq_true rfl), (Nat.le_of_ble_eq_true rfl)⟩) (k_recv hG hM hPm.1 (ci := 7) rfl) rfl hl.1 rfl (Nat.le_of_ble_eq_true rfl) dX3_amend_164 rfl rfl (Nat.le_of_ble_eq_true rfl) (Nat.le_of_ble_eq_true rfl) (fun _ _ _ _ _ h9 _ _ _ _ _ => h9.elim) (fun v9 M9_8 H locs hp9 hM9_8 hS => ?_)
                  obtain ⟨r_23, rfl, r_23_e, rfl⟩ := hp9
                  have hM := hM9_8
                  subst r_23_e
                  refine W.eq (g2 := F0 m 167 ls [.int (lef (va_up (va_up (va_up ar 8 (upd (ar 8) j0 (((ar 8) j0) - p2))) 8 (upd (upd (ar 8) j0 (((ar 8) j0) - p2)) j1 (((upd (ar 8) j0 (((ar 8) j0) - p2)) j1) + p2))) 9 (upd (ar 9) j0 (((ar 9) j0) + 0))) j0)]) rfl ?_
                  have ht9 : tAmend cn ar (nI j0) (nI j1) p2 p3 = (0 : Int32) := by simp [tAmend, mayAm, b_2, hnj0, b_4, hnj1, b_6, c_7, c_7R, c_9, c_10, c_13, c_17, c_17B]
                  have ha9 : (lef (va_up (va_up (va_up ar 8 (upd (ar 8) j0 (((ar 8) j0) - p2))) 8 (upd (upd (ar 8) j0 (((ar 8) j0) - p2)) j1 (((upd (ar 8) j0 (((ar 8) j0) - p2)) j1) + p2))) 9 (upd (ar 9) j0 (((ar 9) j0) + 0))) j0) = lef (rAmend ar (nx (nI j0)) (nx (nI j1)) p2 p3) (nx (nI j0)) := by first | rfl | (simp only [rAmend, bx_uu, b_2, hnj0, b_4, hnj1, b_6, c_7, c_7R, c_9, c_10, c_13, c_17, c_17B]; done) | (simp only [rAmend, bx_uu, b_2, hnj0, b_4, hnj1, b_6, c_7, c_7R, c_9, c_10, c_13, c_17, c_17B]; rfl) | simp [rAmend, bx_uu, b_2, hnj0, b_4, hnj1, b_6, c_7, c_7R, c_9, c_10, c_13, c_17, c_17B]
                  have er9 : rAmend ar (nx (nI j0)) (nx (nI j1)) p2 p3 = (va_up (va_up (va_up ar 8 (upd (ar 8) j0 (((ar 8) j0) - p2))) 8 (upd (upd (ar 8) j0 (((ar 8) j0) - p2)) j1 (((upd (ar 8) j0 (((ar 8) j0) - p2)) j1) + p2))) 9 (upd (ar 9) j0 (((ar 9) j0) + 0))) := by first | rfl | (simp only [rAmend, bx_uu, b_2, hnj0, b_4, hnj1, b_6, c_7, c_7R, c_9, c_10, c_13, c_17, c_17B]; done) | (simp only [rAmend, bx_uu, b_2, hnj0, b_4, hnj1, b_6, c_7, c_7R, c_9, c_10, c_13, c_17, c_17B]; rfl) | simp [rAmend, bx_uu, b_2, hnj0, b_4, hnj1, b_6, c_7, c_7R, c_9, c_10, c_13, c_17, c_17B]
                  exact k_iret hx hb hr rfl hlocks hG hz hM hS (Nat.le_of_ble_eq_true rfl) (Nat.le_of_ble_eq_true rfl) dX3_amend_167 ⟨_, rfl, mPost.ok ht9 ha9 (by rw [er9]; exact hPm) hfr⟩
          · refine lv_aload_n hx hb dX3_amend_58 rfl (lv_at hl 0 rfl) ?_
            refine r_get (ci := 7) hF in_X3 hG hM hPm.1 rfl 12 (by decide) q769 (fun _ h => h) (.ref (aa 9)) rfl dX3_amend_59 ?_
            refine lv_iload_n hx hb dX3_amend_62 rfl (lv_at hl 1 rfl) ?_
            refine r_ialdN (n := 14) (f := (ar 9)) j0 hF hG hM hPm.a9 (by omega) (by decide) rfl dX3_amend_63 ?_
            refine lv_iload_n hx hb dX3_amend_64 rfl (lv_at hl 3 rfl) ?_
            refine lv_iadd hx hb dX3_amend_65 ?_
            refine lv_aload_n hx hb dX3_amend_66 rfl (lv_at hl 0 rfl) ?_
            refine r_get (ci := 7) hF in_X3 hG hM hPm.1 rfl 10 (by decide) q767 (fun _ h => h) (.ref (aa 7)) rfl dX3_amend_67 ?_
            refine lv_iload_n hx hb dX3_amend_70 rfl (lv_at hl 1 rfl) ?_
            refine r_ialdN (n := 14) (f := (ar 7)) j0 hF hG hM hPm.a7 (by omega) (by decide) rfl dX3_amend_71 ?_
            refine lv_bipush (v := 10) hx hb dX3_amend_72 (by decide) ?_
            refine lv_idiv hx hb dX3_amend_74 (by decide) ?_
            refine lv_icmp_gt (tgt := 82) hx hb dX3_amend_75 (by decide) (fun c_24 => ?_) (fun c_24 => ?_)
            · have c_24B := Int32.not_le.mpr c_24
              refine lv_iconst (v := 0) hx hb dX3_amend_82 (by decide) ?_
              refine lv_istore (lv' := [(5, .int 0), (0, .ref m0), (1, .int (nI j0)), (2, .int (nI j1)), (3, .int p2), (4, .int p3)]) hx hb dX3_amend_83 hl (by decide) rfl (fun ls hl => ?_)
              refine lv_aload_n hx hb dX3_amend_85 rfl (lv_at hl 1 rfl) ?_
              refine r_get (ci := 7) hF in_X3 hG hM hPm.1 rfl 9 (by decide) q766 (fun _ h => h) (.ref (aa 6)) rfl dX3_amend_86 ?_
              refine lv_iload_n hx hb dX3_amend_89 rfl (lv_at hl 2 rfl) ?_
              refine r_ialdN (n := 14) (f := (ar 6)) j0 hF hG hM hPm.a6 (by omega) (by decide) rfl dX3_amend_90 ?_
              refine lv_if_eq (tgt := 117) hx hb dX3_amend_91 (by decide) (fun c_25 => ?_) (fun c_25 => ?_)
              · refine lv_aload_n hx hb dX3_amend_117 rfl (lv_at hl 1 rfl) ?_
                refine lv_iconst (v := 3) hx hb dX3_amend_118 (by decide) ?_
                refine kV (k9 := 0) (n9 := 0) hF hG hz hM hS [.int 3] [] (metX3_fails hPm 3) (cwV 1 hts (lw_V q917 q919 qs14 q27 q920) rfl rfl rfl (by decide +kernel) ⟨(Nat.le_of_ble_eq_true rfl), (Nat.le_of_ble_eq_true rfl)⟩) (k_recv hG hM hPm.1 (ci := 7) rfl) rfl hl.1 rfl (Nat.le_of_ble_eq_true rfl) dX3_amend_119 rfl rfl (Nat.le_of_ble_eq_true rfl) (Nat.le_of_ble_eq_true rfl) (fun _ _ _ _ _ h9 _ _ _ _ _ => h9.elim) (fun v9 M9_9 H locs hp9 hM9_9 hS => ?_)
                obtain ⟨r_26, rfl, r_26_e, hPm, hfr9⟩ := hp9
                have hM := hM9_9
                have hfr := hfr.tr hfr9
                subst r_26_e
                refine W.eq (g2 := F0 m 122 ls [.int 0]) rfl ?_
                have ht9 : tAmend cn ar (nI j0) (nI j1) p2 p3 = (3 : Int32) := by simp [tAmend, mayAm, b_2, hnj0, b_4, hnj1, b_6, c_7, c_7R, (eq_true c_9), c_24, c_24B, (eq_true c_25)]
                exact k_iret hx hb hr rfl hlocks hG hz hM hS (Nat.le_of_ble_eq_true rfl) (Nat.le_of_ble_eq_true rfl) dX3_amend_122 ⟨_, rfl, mPost.bad ht9 (by decide) hPm hfr⟩
              · refine lv_aload_n hx hb dX3_amend_94 rfl (lv_at hl 1 rfl) ?_
                refine r_get (ci := 7) hF in_X3 hG hM hPm.1 rfl 9 (by decide) q766 (fun _ h => h) (.ref (aa 6)) rfl dX3_amend_95 ?_
                refine lv_iload_n hx hb dX3_amend_98 rfl (lv_at hl 3 rfl) ?_
                refine r_ialdN (n := 14) (f := (ar 6)) j1 hF hG hM hPm.a6 (by omega) (by decide) rfl dX3_amend_99 ?_
                refine lv_if_eq (tgt := 117) hx hb dX3_amend_100 (by decide) (fun c_28 => ?_) (fun c_28 => ?_)
                · refine lv_aload_n hx hb dX3_amend_117 rfl (lv_at hl 1 rfl) ?_
                  refine lv_iconst (v := 3) hx hb dX3_amend_118 (by decide) ?_
                  refine kV (k9 := 0) (n9 := 0) hF hG hz hM hS [.int 3] [] (metX3_fails hPm 3) (cwV 1 hts (lw_V q917 q919 qs14 q27 q920) rfl rfl rfl (by decide +kernel) ⟨(Nat.le_of_ble_eq_true rfl), (Nat.le_of_ble_eq_true rfl)⟩) (k_recv hG hM hPm.1 (ci := 7) rfl) rfl hl.1 rfl (Nat.le_of_ble_eq_true rfl) dX3_amend_119 rfl rfl (Nat.le_of_ble_eq_true rfl) (Nat.le_of_ble_eq_true rfl) (fun _ _ _ _ _ h9 _ _ _ _ _ => h9.elim) (fun v9 M9_10 H locs hp9 hM9_10 hS => ?_)
                  obtain ⟨r_29, rfl, r_29_e, hPm, hfr9⟩ := hp9
                  have hM := hM9_10
                  have hfr := hfr.tr hfr9
                  subst r_29_e
                  refine W.eq (g2 := F0 m 122 ls [.int 0]) rfl ?_
                  have ht9 : tAmend cn ar (nI j0) (nI j1) p2 p3 = (3 : Int32) := by simp [tAmend, mayAm, b_2, hnj0, b_4, hnj1, b_6, c_7, c_7R, (eq_true c_9), c_24, c_24B, c_25, (eq_true c_28)]
                  exact k_iret hx hb hr rfl hlocks hG hz hM hS (Nat.le_of_ble_eq_true rfl) (Nat.le_of_ble_eq_true rfl) dX3_amend_122 ⟨_, rfl, mPost.bad ht9 (by decide) hPm hfr⟩
                · refine lv_aload_n hx hb dX3_amend_103 rfl (lv_at hl 1 rfl) ?_
                  refine lv_iload_n hx hb dX3_amend_104 rfl (lv_at hl 2 rfl) ?_
                  refine kV (k9 := 0) (n9 := 0) hF hG hz hM hS [.int (nI j0)] [] (metX3_leftOf hPm j0 (by omega)) (cwV 1 hts (lw_V q913 q915 qs13 q27 q916) rfl rfl rfl (by decide +kernel) ⟨(Nat.le_of_ble_eq_true rfl), (Nat.le_of_ble_eq_true rfl)⟩) (k_recv hG hM hPm.1 (ci := 7) rfl) rfl hl.1 rfl (Nat.le_of_ble_eq_true rfl) dX3_amend_105 rfl rfl (Nat.le_of_ble_eq_true rfl) (Nat.le_of_ble_eq_true rfl) (fun _ _ _ _ _ h9 _ _ _ _ _ => h9.elim) (fun v9 M9_11 H locs hp9 hM9_11 hS => ?_)
                  obtain ⟨r_31, rfl, r_31_e, rfl⟩ := hp9
                  have hM := hM9_11
                  subst r_31_e
                  refine W.eq (g2 := F0 m 108 ls [.int (lef ar j0)]) rfl ?_
                  refine lv_iload_n hx hb dX3_amend_108 rfl (lv_at hl 4 rfl) ?_
                  refine lv_icmp_lt (tgt := 117) hx hb dX3_amend_109 (by decide) (fun c_32 => ?_) (fun c_32 => ?_)
                  · have c_32B := Int32.not_le.mpr c_32
                    refine lv_aload_n hx hb dX3_amend_117 rfl (lv_at hl 1 rfl) ?_
                    refine lv_iconst (v := 3) hx hb dX3_amend_118 (by decide) ?_
                    refine kV (k9 := 0) (n9 := 0) hF hG hz hM hS [.int 3] [] (metX3_fails hPm 3) (cwV 1 hts (lw_V q917 q919 qs14 q27 q920) rfl rfl rfl (by decide +kernel) ⟨(Nat.le_of_ble_eq_true rfl), (Nat.le_of_ble_eq_true rfl)⟩) (k_recv hG hM hPm.1 (ci := 7) rfl) rfl hl.1 rfl (Nat.le_of_ble_eq_true rfl) dX3_amend_119 rfl rfl (Nat.le_of_ble_eq_true rfl) (Nat.le_of_ble_eq_true rfl) (fun _ _ _ _ _ h9 _ _ _ _ _ => h9.elim) (fun v9 M9_12 H locs hp9 hM9_12 hS => ?_)
                    obtain ⟨r_33, rfl, r_33_e, hPm, hfr9⟩ := hp9
                    have hM := hM9_12
                    have hfr := hfr.tr hfr9
                    subst r_33_e
                    refine W.eq (g2 := F0 m 122 ls [.int 0]) rfl ?_
                    have ht9 : tAmend cn ar (nI j0) (nI j1) p2 p3 = (3 : Int32) := by simp [tAmend, mayAm, b_2, hnj0, b_4, hnj1, b_6, c_7, c_7R, (eq_true c_9), c_24, c_24B, c_25, c_28, c_32, c_32B]
                    exact k_iret hx hb hr rfl hlocks hG hz hM hS (Nat.le_of_ble_eq_true rfl) (Nat.le_of_ble_eq_true rfl) dX3_amend_122 ⟨_, rfl, mPost.bad ht9 (by decide) hPm hfr⟩
                  · have c_32B := Int32.not_lt.mp c_32
                    refine lv_iload hx hb dX3_amend_112 (lv_at hl 0 rfl) ?_
                    refine lv_if_ne (tgt := 123) hx hb dX3_amend_114 (by decide) (fun c9 => absurd c9 (by decide)) (fun _ => ?_)
                    refine lv_aload_n hx hb dX3_amend_117 rfl (lv_at hl 1 rfl) ?_
                    refine lv_iconst (v := 3) hx hb dX3_amend_118 (by decide) ?_
                    refine kV (k9 := 0) (n9 := 0) hF hG hz hM hS [.int 3] [] (metX3_fails hPm 3) (cwV 1 hts (lw_V q917 q919 qs14 q27 q920) rfl rfl rfl (by decide +kernel) ⟨(Nat.le_of_ble_eq_true rfl), (Nat.le_of_ble_eq_true rfl)⟩) (k_recv hG hM hPm.1 (ci := 7) rfl) rfl hl.1 rfl (Nat.le_of_ble_eq_true rfl) dX3_amend_119 rfl rfl (Nat.le_of_ble_eq_true rfl) (Nat.le_of_ble_eq_true rfl) (fun _ _ _ _ _ h9 _ _ _ _ _ => h9.elim) (fun v9 M9_13 H locs hp9 hM9_13 hS => ?_)
                    obtain ⟨r_35, rfl, r_35_e, hPm, hfr9⟩ := hp9
                    have hM := hM9_13
                    have hfr := hfr.tr hfr9
                    subst r_35_e
                    refine W.eq (g2 := F0 m 122 ls [.int 0]) rfl ?_
                    have ht9 : tAmend cn ar (nI j0) (nI j1) p2 p3 = (3 : Int32) := by simp [tAmend, mayAm, b_2, hnj0, b_4, hnj1, b_6, c_7, c_7R, (eq_true c_9), c_24, c_24B, c_25, c_28, c_32, c_32B]
                    exact k_iret hx hb hr rfl hlocks hG hz hM hS (Nat.le_of_ble_eq_true rfl) (Nat.le_of_ble_eq_true rfl) dX3_amend_122 ⟨_, rfl, mPost.bad ht9 (by decide) hPm hfr⟩
            · have c_24B := Int32.not_lt.mp c_24
              refine lv_iconst (v := 1) hx hb dX3_amend_78 (by decide) ?_
              refine lv_goto (tgt := 83) hx hb dX3_amend_79 (by decide) ?_
              refine lv_istore (lv' := [(5, .int 1), (0, .ref m0), (1, .int (nI j0)), (2, .int (nI j1)), (3, .int p2), (4, .int p3)]) hx hb dX3_amend_83 hl (by decide) rfl (fun ls hl => ?_)
              refine lv_aload_n hx hb dX3_amend_85 rfl (lv_at hl 1 rfl) ?_
              refine r_get (ci := 7) hF in_X3 hG hM hPm.1 rfl 9 (by decide) q766 (fun _ h => h) (.ref (aa 6)) rfl dX3_amend_86 ?_
              refine lv_iload_n hx hb dX3_amend_89 rfl (lv_at hl 2 rfl) ?_
              refine r_ialdN (n := 14) (f := (ar 6)) j0 hF hG hM hPm.a6 (by omega) (by decide) rfl dX3_amend_90 ?_
              refine lv_if_eq (tgt := 117) hx hb dX3_amend_91 (by decide) (fun c_37 => ?_) (fun c_37 => ?_)
              · refine lv_aload_n hx hb dX3_amend_117 rfl (lv_at hl 1 rfl) ?_
                refine lv_iconst (v := 3) hx hb dX3_amend_118 (by decide) ?_
                refine kV (k9 := 0) (n9 := 0) hF hG hz hM hS [.int 3] [] (metX3_fails hPm 3) (cwV 1 hts (lw_V q917 q919 qs14 q27 q920) rfl rfl rfl (by decide +kernel) ⟨(Nat.le_of_ble_eq_true rfl), (Nat.le_of_ble_eq_true rfl)⟩) (k_recv hG hM hPm.1 (ci := 7) rfl) rfl hl.1 rfl (Nat.le_of_ble_eq_true rfl) dX3_amend_119 rfl rfl (Nat.le_of_ble_eq_true rfl) (Nat.le_of_ble_eq_true rfl) (fun _ _ _ _ _ h9 _ _ _ _ _ => h9.elim) (fun v9 M9_14 H locs hp9 hM9_14 hS => ?_)
                obtain ⟨r_38, rfl, r_38_e, hPm, hfr9⟩ := hp9
                have hM := hM9_14
                have hfr := hfr.tr hfr9
                subst r_38_e
                refine W.eq (g2 := F0 m 122 ls [.int 0]) rfl ?_
                have ht9 : tAmend cn ar (nI j0) (nI j1) p2 p3 = (3 : Int32) := by simp [tAmend, mayAm, b_2, hnj0, b_4, hnj1, b_6, c_7, c_7R, (eq_true c_9), c_24, c_24B, (eq_true c_37)]
                exact k_iret hx hb hr rfl hlocks hG hz hM hS (Nat.le_of_ble_eq_true rfl) (Nat.le_of_ble_eq_true rfl) dX3_amend_122 ⟨_, rfl, mPost.bad ht9 (by decide) hPm hfr⟩
              · refine lv_aload_n hx hb dX3_amend_94 rfl (lv_at hl 1 rfl) ?_
                refine r_get (ci := 7) hF in_X3 hG hM hPm.1 rfl 9 (by decide) q766 (fun _ h => h) (.ref (aa 6)) rfl dX3_amend_95 ?_
                refine lv_iload_n hx hb dX3_amend_98 rfl (lv_at hl 3 rfl) ?_
                refine r_ialdN (n := 14) (f := (ar 6)) j1 hF hG hM hPm.a6 (by omega) (by decide) rfl dX3_amend_99 ?_
                refine lv_if_eq (tgt := 117) hx hb dX3_amend_100 (by decide) (fun c_40 => ?_) (fun c_40 => ?_)
                · refine lv_aload_n hx hb dX3_amend_117 rfl (lv_at hl 1 rfl) ?_
                  refine lv_iconst (v := 3) hx hb dX3_amend_118 (by decide) ?_
                  refine kV (k9 := 0) (n9 := 0) hF hG hz hM hS [.int 3] [] (metX3_fails hPm 3) (cwV 1 hts (lw_V q917 q919 qs14 q27 q920) rfl rfl rfl (by decide +kernel) ⟨(Nat.le_of_ble_eq_true rfl), (Nat.le_of_ble_eq_true rfl)⟩) (k_recv hG hM hPm.1 (ci := 7) rfl) rfl hl.1 rfl (Nat.le_of_ble_eq_true rfl) dX3_amend_119 rfl rfl (Nat.le_of_ble_eq_true rfl) (Nat.le_of_ble_eq_true rfl) (fun _ _ _ _ _ h9 _ _ _ _ _ => h9.elim) (fun v9 M9_15 H locs hp9 hM9_15 hS => ?_)
                  obtain ⟨r_41, rfl, r_41_e, hPm, hfr9⟩ := hp9
                  have hM := hM9_15
                  have hfr := hfr.tr hfr9
                  subst r_41_e
                  refine W.eq (g2 := F0 m 122 ls [.int 0]) rfl ?_
                  have ht9 : tAmend cn ar (nI j0) (nI j1) p2 p3 = (3 : Int32) := by simp [tAmend, mayAm, b_2, hnj0, b_4, hnj1, b_6, c_7, c_7R, (eq_true c_9), c_24, c_24B, c_37, (eq_true c_40)]
                  exact k_iret hx hb hr rfl hlocks hG hz hM hS (Nat.le_of_ble_eq_true rfl) (Nat.le_of_ble_eq_true rfl) dX3_amend_122 ⟨_, rfl, mPost.bad ht9 (by decide) hPm hfr⟩
                · refine lv_aload_n hx hb dX3_amend_103 rfl (lv_at hl 1 rfl) ?_
                  refine lv_iload_n hx hb dX3_amend_104 rfl (lv_at hl 2 rfl) ?_
                  refine kV (k9 := 0) (n9 := 0) hF hG hz hM hS [.int (nI j0)] [] (metX3_leftOf hPm j0 (by omega)) (cwV 1 hts (lw_V q913 q915 qs13 q27 q916) rfl rfl rfl (by decide +kernel) ⟨(Nat.le_of_ble_eq_true rfl), (Nat.le_of_ble_eq_true rfl)⟩) (k_recv hG hM hPm.1 (ci := 7) rfl) rfl hl.1 rfl (Nat.le_of_ble_eq_true rfl) dX3_amend_105 rfl rfl (Nat.le_of_ble_eq_true rfl) (Nat.le_of_ble_eq_true rfl) (fun _ _ _ _ _ h9 _ _ _ _ _ => h9.elim) (fun v9 M9_16 H locs hp9 hM9_16 hS => ?_)
                  obtain ⟨r_43, rfl, r_43_e, rfl⟩ := hp9
                  have hM := hM9_16
                  subst r_43_e
                  refine W.eq (g2 := F0 m 108 ls [.int (lef ar j0)]) rfl ?_
                  refine lv_iload_n hx hb dX3_amend_108 rfl (lv_at hl 4 rfl) ?_
                  refine lv_icmp_lt (tgt := 117) hx hb dX3_amend_109 (by decide) (fun c_44 => ?_) (fun c_44 => ?_)
                  · have c_44B := Int32.not_le.mpr c_44
                    refine lv_aload_n hx hb dX3_amend_117 rfl (lv_at hl 1 rfl) ?_
                    refine lv_iconst (v := 3) hx hb dX3_amend_118 (by decide) ?_
                    refine kV (k9 := 0) (n9 := 0) hF hG hz hM hS [.int 3] [] (metX3_fails hPm 3) (cwV 1 hts (lw_V q917 q919 qs14 q27 q920) rfl rfl rfl (by decide +kernel) ⟨(Nat.le_of_ble_eq_true rfl), (Nat.le_of_ble_eq_true rfl)⟩) (k_recv hG hM hPm.1 (ci := 7) rfl) rfl hl.1 rfl (Nat.le_of_ble_eq_true rfl) dX3_amend_119 rfl rfl (Nat.le_of_ble_eq_true rfl) (Nat.le_of_ble_eq_true rfl) (fun _ _ _ _ _ h9 _ _ _ _ _ => h9.elim) (fun v9 M9_17 H locs hp9 hM9_17 hS => ?_)
                    obtain ⟨r_45, rfl, r_45_e, hPm, hfr9⟩ := hp9
                    have hM := hM9_17
                    have hfr := hfr.tr hfr9
                    subst r_45_e
                    refine W.eq (g2 := F0 m 122 ls [.int 0]) rfl ?_
                    have ht9 : tAmend cn ar (nI j0) (nI j1) p2 p3 = (3 : Int32) := by simp [tAmend, mayAm, b_2, hnj0, b_4, hnj1, b_6, c_7, c_7R, (eq_true c_9), c_24, c_24B, c_37, c_40, c_44, c_44B]
                    exact k_iret hx hb hr rfl hlocks hG hz hM hS (Nat.le_of_ble_eq_true rfl) (Nat.le_of_ble_eq_true rfl) dX3_amend_122 ⟨_, rfl, mPost.bad ht9 (by decide) hPm hfr⟩
                  · have c_44B := Int32.not_lt.mp c_44
                    refine lv_iload hx hb dX3_amend_112 (lv_at hl 0 rfl) ?_
                    refine lv_if_ne (tgt := 123) hx hb dX3_amend_114 (by decide) (fun _ => ?_) (fun c9 => absurd c9 (by decide))
                    refine lv_aload_n hx hb dX3_amend_123 rfl (lv_at hl 1 rfl) ?_
                    refine r_get (ci := 7) hF in_X3 hG hM hPm.1 rfl 11 (by decide) q768 (fun _ h => h) (.ref (aa 8)) rfl dX3_amend_124 ?_
                    refine lv_iload_n hx hb dX3_amend_127 rfl (lv_at hl 2 rfl) ?_
                    refine lv_dup2_11 hx hb dX3_amend_128 rfl rfl ?_
                    refine r_ialdN (n := 14) (f := (ar 8)) j0 hF hG hM hPm.a8 (by omega) (by decide) rfl dX3_amend_129 ?_
                    refine lv_iload_n hx hb dX3_amend_130 rfl (lv_at hl 4 rfl) ?_
                    refine lv_isub hx hb dX3_amend_131 ?_
                    refine r_iast (n := 14) (f := (ar 8)) j0 hF hG hM hS hPm.a8 (by omega) (by decide) rfl dX3_amend_132 (fun H locs hM hS => ?_)
                    obtain ⟨M_47, hM, hPm, hfr⟩ := PicM.stepA 8 (by decide) hPm hfr hM
                    refine lv_aload_n hx hb dX3_amend_133 rfl (lv_at hl 1 rfl) ?_
                    refine r_get (ci := 7) hF in_X3 hG hM hPm.1 rfl 11 (by decide) q768 (fun _ h => h) (.ref (aa 8)) rfl dX3_amend_134 ?_
                    refine lv_iload_n hx hb dX3_amend_137 rfl (lv_at hl 3 rfl) ?_
                    refine lv_dup2_11 hx hb dX3_amend_138 rfl rfl ?_
                    refine r_ialdN (n := 14) (f := (upd (ar 8) j0 (((ar 8) j0) - p2))) j1 hF hG hM hPm.a8 (by omega) (by decide) rfl dX3_amend_139 ?_
                    refine lv_iload_n hx hb dX3_amend_140 rfl (lv_at hl 4 rfl) ?_
                    refine lv_iadd hx hb dX3_amend_141 ?_
                    refine r_iast (n := 14) (f := (upd (ar 8) j0 (((ar 8) j0) - p2))) j1 hF hG hM hS hPm.a8 (by omega) (by decide) rfl dX3_amend_142 (fun H locs hM hS => ?_)
                    obtain ⟨M_48, hM, hPm, hfr⟩ := PicM.stepA 8 (by decide) hPm hfr hM
                    refine lv_aload_n hx hb dX3_amend_143 rfl (lv_at hl 1 rfl) ?_
                    refine r_get (ci := 7) hF in_X3 hG hM hPm.1 rfl 12 (by decide) q769 (fun _ h => h) (.ref (aa 9)) rfl dX3_amend_144 ?_
                    refine lv_iload_n hx hb dX3_amend_147 rfl (lv_at hl 2 rfl) ?_
                    refine lv_dup2_11 hx hb dX3_amend_148 rfl rfl ?_
                    refine r_ialdN (n := 14) (f := (ar 9)) j0 hF hG hM hPm.a9 (by omega) (by decide) rfl dX3_amend_149 ?_
                    refine lv_iload hx hb dX3_amend_150 (lv_at hl 5 rfl) ?_
                    refine lv_if_eq (tgt := 159) hx hb dX3_amend_152 (by decide) (fun _ => ?_) (fun c9 => absurd c_9 c9)
                    refine lv_iload_n hx hb dX3_amend_159 rfl (lv_at hl 4 rfl) ?_
                    refine lv_iadd hx hb dX3_amend_160 ?_
                    refine r_iast (n := 14) (f := (ar 9)) j0 hF hG hM hS hPm.a9 (by omega) (by decide) rfl dX3_amend_161 (fun H locs hM hS => ?_)
                    obtain ⟨M_49, hM, hPm, hfr⟩ := PicM.stepA 9 (by decide) hPm hfr hM
                    refine lv_aload_n hx hb dX3_amend_162 rfl (lv_at hl 1 rfl) ?_
                    refine lv_iload_n hx hb dX3_amend_163 rfl (lv_at hl 2 rfl) ?_
                    refine kV (k9 := 0) (n9 := 0) hF hG hz hM hS [.int (nI j0)] [] (metX3_leftOf hPm j0 (by omega)) (cwV 1 hts (lw_V q913 q915 qs13 q27 q916) rfl rfl rfl (by decide +kernel) ⟨(Nat.le_of_ble_eq_true rfl), (Nat.le_of_ble_eq_true rfl)⟩) (k_recv hG hM hPm.1 (ci := 7) rfl) rfl hl.1 rfl (Nat.le_of_ble_eq_true rfl) dX3_amend_164 rfl rfl (Nat.le_of_ble_eq_true rfl) (Nat.le_of_ble_eq_true rfl) (fun _ _ _ _ _ h9 _ _ _ _ _ => h9.elim) (fun v9 M9_18 H locs hp9 hM9_18 hS => ?_)
                    obtain ⟨r_50, rfl, r_50_e, rfl⟩ := hp9
                    have hM := hM9_18
                    subst r_50_e
                    refine W.eq (g2 := F0 m 167 ls [.int (lef (va_up (va_up (va_up ar 8 (upd (ar 8) j0 (((ar 8) j0) - p2))) 8 (upd (upd (ar 8) j0 (((ar 8) j0) - p2)) j1 (((upd (ar 8) j0 (((ar 8) j0) - p2)) j1) + p2))) 9 (upd (ar 9) j0 (((ar 9) j0) + p2))) j0)]) rfl ?_
                    have ht9 : tAmend cn ar (nI j0) (nI j1) p2 p3 = (0 : Int32) := by simp [tAmend, mayAm, b_2, hnj0, b_4, hnj1, b_6, c_7, c_7R, (eq_true c_9), c_24, c_24B, c_37, c_40, c_44, c_44B]
                    have ha9 : (lef (va_up (va_up (va_up ar 8 (upd (ar 8) j0 (((ar 8) j0) - p2))) 8 (upd (upd (ar 8) j0 (((ar 8) j0) - p2)) j1 (((upd (ar 8) j0 (((ar 8) j0) - p2)) j1) + p2))) 9 (upd (ar 9) j0 (((ar 9) j0) + p2))) j0) = lef (rAmend ar (nx (nI j0)) (nx (nI j1)) p2 p3) (nx (nI j0)) := by first | rfl | (simp only [rAmend, bx_uu, b_2, hnj0, b_4, hnj1, b_6, c_7, c_7R, (eq_true c_9), c_24, c_24B, c_37, c_40, c_44, c_44B]; done) | (simp only [rAmend, bx_uu, b_2, hnj0, b_4, hnj1, b_6, c_7, c_7R, (eq_true c_9), c_24, c_24B, c_37, c_40, c_44, c_44B]; rfl) | simp [rAmend, bx_uu, b_2, hnj0, b_4, hnj1, b_6, c_7, c_7R, (eq_true c_9), c_24, c_24B, c_37, c_40, c_44, c_44B]
                    have er9 : rAmend ar (nx (nI j0)) (nx (nI j1)) p2 p3 = (va_up (va_up (va_up ar 8 (upd (ar 8) j0 (((ar 8) j0) - p2))) 8 (upd (upd (ar 8) j0 (((ar 8) j0) - p2)) j1 (((upd (ar 8) j0 (((ar 8) j0) - p2)) j1) + p2))) 9 (upd (ar 9) j0 (((ar 9) j0) + p2))) := by first | rfl | (simp only [rAmend, bx_uu, b_2, hnj0, b_4, hnj1, b_6, c_7, c_7R, (eq_true c_9), c_24, c_24B, c_37, c_40, c_44, c_44B]; done) | (simp only [rAmend, bx_uu, b_2, hnj0, b_4, hnj1, b_6, c_7, c_7R, (eq_true c_9), c_24, c_24B, c_37, c_40, c_44, c_44B]; rfl) | simp [rAmend, bx_uu, b_2, hnj0, b_4, hnj1, b_6, c_7, c_7R, (eq_true c_9), c_24, c_24B, c_37, c_40, c_44, c_44B]
                    exact k_iret hx hb hr rfl hlocks hG hz hM hS (Nat.le_of_ble_eq_true rfl) (Nat.le_of_ble_eq_true rfl) dX3_amend_167 ⟨_, rfl, mPost.ok ht9 ha9 (by rw [er9]; exact hPm) hfr⟩
        · have c_7R := c_7
          have c_7 : j0 = j1 := (nI_eq (a := j0) (b := j1) (by omega) (by omega)).mp c_7R
          refine lv_iconst (v := 2) hx hb dX3_amend_36 (by decide) ?_
          refine lv_goto (tgt := 41) hx hb dX3_amend_37 (by decide) ?_
          refine r_put (ci := 7) (ty := .int) (v := .int 2) hF in_X3 tyX3 tyX3_ok nmX3 hG hM hS hPm.1 rfl 28 (by decide) q785 (fun _ h => h) rfl (by decide +kernel) rfl rfl (Nat.le_of_ble_eq_true rfl) dX3_amend_41 (fun H locs hM hS => ?_)
          obtain ⟨M_51, hM, hPm, hfr⟩ := PicM.stepF (cn' := cn) (lim' := lim) (th' := 2) hPm hfr hM
          refine lv_aload_n hx hb dX3_amend_44 rfl (lv_at hl 0 rfl) ?_
          refine r_get (ci := 7) hF in_X3 hG hM hPm.1 rfl 28 (by decide) q785 (fun _ h => h) (.int 2) rfl dX3_amend_45 ?_
          refine lv_if_le (tgt := 53) hx hb dX3_amend_48 (by decide) (fun c9 => absurd c9 (by decide)) (fun _ => ?_)
          refine lv_iconst (v := 0) hx hb dX3_amend_51 (by decide) ?_
          have ht9 : tAmend cn ar (nI j0) (nI j1) p2 p3 = (2 : Int32) := by simp [tAmend, mayAm, b_2, hnj0, b_4, hnj1, b_6, (eq_true c_7), (eq_true c_7R)]
          exact k_iret hx hb hr rfl hlocks hG hz hM hS (Nat.le_of_ble_eq_true rfl) (Nat.le_of_ble_eq_true rfl) dX3_amend_52 ⟨_, rfl, mPost.bad ht9 (by decide) hPm hfr⟩
      · refine W.eq (g2 := F0 m 28 ls [.int 0, .ref m0]) rfl ?_
        refine lv_if_eq (tgt := 36) hx hb dX3_amend_28 (by decide) (fun _ => ?_) (fun c9 => absurd (by decide) c9)
        refine lv_iconst (v := 2) hx hb dX3_amend_36 (by decide) ?_
        refine lv_goto (tgt := 41) hx hb dX3_amend_37 (by decide) ?_
        refine r_put (ci := 7) (ty := .int) (v := .int 2) hF in_X3 tyX3 tyX3_ok nmX3 hG hM hS hPm.1 rfl 28 (by decide) q785 (fun _ h => h) rfl (by decide +kernel) rfl rfl (Nat.le_of_ble_eq_true rfl) dX3_amend_41 (fun H locs hM hS => ?_)
        obtain ⟨M_52, hM, hPm, hfr⟩ := PicM.stepF (cn' := cn) (lim' := lim) (th' := 2) hPm hfr hM
        refine lv_aload_n hx hb dX3_amend_44 rfl (lv_at hl 0 rfl) ?_
        refine r_get (ci := 7) hF in_X3 hG hM hPm.1 rfl 28 (by decide) q785 (fun _ h => h) (.int 2) rfl dX3_amend_45 ?_
        refine lv_if_le (tgt := 53) hx hb dX3_amend_48 (by decide) (fun c9 => absurd c9 (by decide)) (fun _ => ?_)
        refine lv_iconst (v := 0) hx hb dX3_amend_51 (by decide) ?_
        have ht9 : tAmend cn ar (nI j0) (nI j1) p2 p3 = (2 : Int32) := by simp [tAmend, mayAm, b_2, hnj0, b_4, hnj1, b_6]
        exact k_iret hx hb hr rfl hlocks hG hz hM hS (Nat.le_of_ble_eq_true rfl) (Nat.le_of_ble_eq_true rfl) dX3_amend_52 ⟨_, rfl, mPost.bad ht9 (by decide) hPm hfr⟩
    · refine W.eq (g2 := F0 m 14 ls [.int 0, .ref m0]) rfl ?_
      refine lv_if_ne (tgt := 21) hx hb dX3_amend_14 (by decide) (fun c9 => absurd c9 (by decide)) (fun _ => ?_)
      refine lv_iconst (v := 1) hx hb dX3_amend_17 (by decide) ?_
      refine lv_goto (tgt := 41) hx hb dX3_amend_18 (by decide) ?_
      refine r_put (ci := 7) (ty := .int) (v := .int 1) hF in_X3 tyX3 tyX3_ok nmX3 hG hM hS hPm.1 rfl 28 (by decide) q785 (fun _ h => h) rfl (by decide +kernel) rfl rfl (Nat.le_of_ble_eq_true rfl) dX3_amend_41 (fun H locs hM hS => ?_)
      obtain ⟨M_53, hM, hPm, hfr⟩ := PicM.stepF (cn' := cn) (lim' := lim) (th' := 1) hPm hfr hM
      refine lv_aload_n hx hb dX3_amend_44 rfl (lv_at hl 0 rfl) ?_
      refine r_get (ci := 7) hF in_X3 hG hM hPm.1 rfl 28 (by decide) q785 (fun _ h => h) (.int 1) rfl dX3_amend_45 ?_
      refine lv_if_le (tgt := 53) hx hb dX3_amend_48 (by decide) (fun c9 => absurd c9 (by decide)) (fun _ => ?_)
      refine lv_iconst (v := 0) hx hb dX3_amend_51 (by decide) ?_
      have ht9 : tAmend cn ar (nI j0) p1 p2 p3 = (1 : Int32) := by simp [tAmend, mayAm, b_2, hnj0, b_4]
      exact k_iret hx hb hr rfl hlocks hG hz hM hS (Nat.le_of_ble_eq_true rfl) (Nat.le_of_ble_eq_true rfl) dX3_amend_52 ⟨_, rfl, mPost.bad ht9 (by decide) hPm hfr⟩
  · refine W.eq (g2 := F0 m 6 ls [.int 0, .ref m0]) rfl ?_
    refine lv_if_eq (tgt := 17) hx hb dX3_amend_6 (by decide) (fun _ => ?_) (fun c9 => absurd (by decide) c9)
    refine lv_iconst (v := 1) hx hb dX3_amend_17 (by decide) ?_
    refine lv_goto (tgt := 41) hx hb dX3_amend_18 (by decide) ?_
    refine r_put (ci := 7) (ty := .int) (v := .int 1) hF in_X3 tyX3 tyX3_ok nmX3 hG hM hS hPm.1 rfl 28 (by decide) q785 (fun _ h => h) rfl (by decide +kernel) rfl rfl (Nat.le_of_ble_eq_true rfl) dX3_amend_41 (fun H locs hM hS => ?_)
    obtain ⟨M_54, hM, hPm, hfr⟩ := PicM.stepF (cn' := cn) (lim' := lim) (th' := 1) hPm hfr hM
    refine lv_aload_n hx hb dX3_amend_44 rfl (lv_at hl 0 rfl) ?_
    refine r_get (ci := 7) hF in_X3 hG hM hPm.1 rfl 28 (by decide) q785 (fun _ h => h) (.int 1) rfl dX3_amend_45 ?_
    refine lv_if_le (tgt := 53) hx hb dX3_amend_48 (by decide) (fun c9 => absurd c9 (by decide)) (fun _ => ?_)
    refine lv_iconst (v := 0) hx hb dX3_amend_51 (by decide) ?_
    have ht9 : tAmend cn ar p0 p1 p2 p3 = (1 : Int32) := by simp [tAmend, mayAm, b_2]
    exact k_iret hx hb hr rfl hlocks hG hz hM hS (Nat.le_of_ble_eq_true rfl) (Nat.le_of_ble_eq_true rfl) dX3_amend_52 ⟨_, rfl, mPost.bad ht9 (by decide) hPm hfr⟩
set_option maxHeartbeats 4000000 in
set_option maxRecDepth 100000 in
theorem metX3_left {l : Launch} {z : Nat} {E : EE} {M : MM} {m0 : Nat} {aa : Nat → Nat} {cn : Nat → Nat} {lim th : Int32} {ar : Nat → Nat → Int32} (hPm : PicM E M m0 aa cn lim th ar) (hW : WF cn lim ar) (p0 : Int32) : Kt l yX3_left (ws_ yX3_left cX3_left 2 (some .int)) ({ frames := 30, cells := 0, slots := 0, locals := 900 } : Room) z E [.ref m0, .int p0] M (pI (fun r M' => mPost E M m0 aa (tLeft cn p0) (aLeft ar p0) cn lim ar (cn) (lim) (ar) r M')) xNo 0 0 := by
  refine k_body RX3 (by decide) rfl (Nat.le_of_ble_eq_true rfl) ?_
  intro p e s m args below meth c hx hb hr hml hown hlocks hname hno hts hz hG hM hS ls hl
  have hF : CallFix p m c cX3_left 2 s args lw_all RX3 := ⟨hx, hb, hml, hown, hts⟩
  have hl : lv_has ls 2 [(0, .ref m0), (1, .int p0)] := hl
  have hfr : Fr kM M M := Fr.rf
  have hwb := hW.b
  refine lv_aload_n hx hb dX3_left_0 rfl (lv_at hl 0 rfl) ?_
  refine lv_aload_n hx hb dX3_left_1 rfl (lv_at hl 0 rfl) ?_
  refine lv_iload_n hx hb dX3_left_2 rfl (lv_at hl 1 rfl) ?_
  refine kV (k9 := 0) (n9 := 0) hF hG hz hM hS [.int p0] [.ref m0] (metX3_isAccount hPm hW p0) (cwV 1 hts (lw_V q853 q855 qs9 q27 q856) rfl rfl rfl (by decide +kernel) ⟨(Nat.le_of_ble_eq_true rfl), (Nat.le_of_ble_eq_true rfl)⟩) (k_recv hG hM hPm.1 (ci := 7) rfl) rfl hl.1 rfl (Nat.le_of_ble_eq_true rfl) dX3_left_3 rfl rfl (Nat.le_of_ble_eq_true rfl) (Nat.le_of_ble_eq_true rfl) (fun _ _ _ _ _ h9 _ _ _ _ _ => h9.elim) (fun v9 M9_1 H locs hp9 hM9_1 hS => ?_)
  obtain ⟨r_1, rfl, b_2, rfl⟩ := hp9
  have hM := hM9_1
  rcases b_2 with ⟨b_2, rfl⟩ | ⟨b_2, rfl⟩
  · refine W.eq (g2 := F0 m 6 ls [.int 1, .ref m0]) rfl ?_
    obtain ⟨j0, hj0, rfl⟩ := inB_ex b_2 (by omega)
    have hnj0 : nx (nI j0) = j0 := nI_clamp (by omega)
    refine lv_if_eq (tgt := 13) hx hb dX3_left_6 (by decide) (fun c9 => absurd c9 (by decide)) (fun _ => ?_)
    refine lv_iconst (v := 0) hx hb dX3_left_9 (by decide) ?_
    refine lv_goto (tgt := 14) hx hb dX3_left_10 (by decide) ?_
    refine r_put (ci := 7) (ty := .int) (v := .int 0) hF in_X3 tyX3 tyX3_ok nmX3 hG hM hS hPm.1 rfl 28 (by decide) q785 (fun _ h => h) rfl (by decide +kernel) rfl rfl (Nat.le_of_ble_eq_true rfl) dX3_left_14 (fun H locs hM hS => ?_)
    obtain ⟨M_3, hM, hPm, hfr⟩ := PicM.stepF (cn' := cn) (lim' := lim) (th' := 0) hPm hfr hM
    refine lv_aload_n hx hb dX3_left_17 rfl (lv_at hl 0 rfl) ?_
    refine r_get (ci := 7) hF in_X3 hG hM hPm.1 rfl 28 (by decide) q785 (fun _ h => h) (.int 0) rfl dX3_left_18 ?_
    refine lv_if_le (tgt := 26) hx hb dX3_left_21 (by decide) (fun _ => ?_) (fun c9 => absurd (by decide) c9)
    refine lv_aload_n hx hb dX3_left_26 rfl (lv_at hl 0 rfl) ?_
    refine r_get (ci := 7) hF in_X3 hG hM hPm.1 rfl 9 (by decide) q766 (fun _ h => h) (.ref (aa 6)) rfl dX3_left_27 ?_
    refine lv_iload_n hx hb dX3_left_30 rfl (lv_at hl 1 rfl) ?_
    refine r_ialdN (n := 14) (f := (ar 6)) j0 hF hG hM hPm.a6 (by omega) (by decide) rfl dX3_left_31 ?_
    refine lv_iconst (v := 1) hx hb dX3_left_32 (by decide) ?_
    refine lv_icmp_ne (tgt := 44) hx hb dX3_left_33 (by decide) (fun c_4 => ?_) (fun c_4 => ?_)
    · refine lv_iconst (v := -1) hx hb dX3_left_44 (by decide) ?_
      have ht9 : tLeft cn (nI j0) = (0 : Int32) := by simp [tLeft, b_2, hnj0, c_4]
      have ha9 : ((-1) : Int32) = aLeft ar (nI j0) := by first | rfl | (simp only [aLeft, b_2, hnj0, c_4]; done) | (simp only [aLeft, b_2, hnj0, c_4]; rfl) | simp [aLeft, b_2, hnj0, c_4]
      exact k_iret hx hb hr rfl hlocks hG hz hM hS (Nat.le_of_ble_eq_true rfl) (Nat.le_of_ble_eq_true rfl) dX3_left_45 ⟨_, rfl, mPost.ok ht9 ha9 hPm hfr⟩
    · refine lv_aload_n hx hb dX3_left_36 rfl (lv_at hl 0 rfl) ?_
      refine lv_iload_n hx hb dX3_left_37 rfl (lv_at hl 1 rfl) ?_
      refine kV (k9 := 0) (n9 := 0) hF hG hz hM hS [.int (nI j0)] [] (metX3_leftOf hPm j0 (by omega)) (cwV 1 hts (lw_V q913 q915 qs13 q27 q916) rfl rfl rfl (by decide +kernel) ⟨(Nat.le_of_ble_eq_true rfl), (Nat.le_of_ble_eq_true rfl)⟩) (k_recv hG hM hPm.1 (ci := 7) rfl) rfl hl.1 rfl (Nat.le_of_ble_eq_true rfl) dX3_left_38 rfl rfl (Nat.le_of_ble_eq_true rfl) (Nat.le_of_ble_eq_true rfl) (fun _ _ _ _ _ h9 _ _ _ _ _ => h9.elim) (fun v9 M9_2 H locs hp9 hM9_2 hS => ?_)
      obtain ⟨r_5, rfl, r_5_e, rfl⟩ := hp9
      have hM := hM9_2
      subst r_5_e
      refine W.eq (g2 := F0 m 41 ls [.int (lef ar j0)]) rfl ?_
      refine lv_goto (tgt := 45) hx hb dX3_left_41 (by decide) ?_
      have ht9 : tLeft cn (nI j0) = (0 : Int32) := by simp [tLeft, b_2, hnj0, (eq_true c_4)]
      have ha9 : (lef ar j0) = aLeft ar (nI j0) := by first | rfl | (simp only [aLeft, b_2, hnj0, (eq_true c_4)]; done) | (simp only [aLeft, b_2, hnj0, (eq_true c_4)]; rfl) | simp [aLeft, b_2, hnj0, (eq_true c_4)]
      exact k_iret hx hb hr rfl hlocks hG hz hM hS (Nat.le_of_ble_eq_true rfl) (Nat.le_of_ble_eq_true rfl) dX3_left_45 ⟨_, rfl, mPost.ok ht9 ha9 hPm hfr⟩
  · refine W.eq (g2 := F0 m 6 ls [.int 0, .ref m0]) rfl ?_
    refine lv_if_eq (tgt := 13) hx hb dX3_left_6 (by decide) (fun _ => ?_) (fun c9 => absurd (by decide) c9)
    refine lv_iconst (v := 1) hx hb dX3_left_13 (by decide) ?_
    refine r_put (ci := 7) (ty := .int) (v := .int 1) hF in_X3 tyX3 tyX3_ok nmX3 hG hM hS hPm.1 rfl 28 (by decide) q785 (fun _ h => h) rfl (by decide +kernel) rfl rfl (Nat.le_of_ble_eq_true rfl) dX3_left_14 (fun H locs hM hS => ?_)
    obtain ⟨M_6, hM, hPm, hfr⟩ := PicM.stepF (cn' := cn) (lim' := lim) (th' := 1) hPm hfr hM
    refine lv_aload_n hx hb dX3_left_17 rfl (lv_at hl 0 rfl) ?_
    refine r_get (ci := 7) hF in_X3 hG hM hPm.1 rfl 28 (by decide) q785 (fun _ h => h) (.int 1) rfl dX3_left_18 ?_
    refine lv_if_le (tgt := 26) hx hb dX3_left_21 (by decide) (fun c9 => absurd c9 (by decide)) (fun _ => ?_)
    refine lv_iconst (v := 0) hx hb dX3_left_24 (by decide) ?_
    have ht9 : tLeft cn p0 = (1 : Int32) := by simp [tLeft, b_2]
    exact k_iret hx hb hr rfl hlocks hG hz hM hS (Nat.le_of_ble_eq_true rfl) (Nat.le_of_ble_eq_true rfl) dX3_left_25 ⟨_, rfl, mPost.bad ht9 (by decide) hPm hfr⟩
set_option maxHeartbeats 4000000 in
set_option maxRecDepth 100000 in
theorem metX3_setLimit {l : Launch} {z : Nat} {E : EE} {M : MM} {m0 : Nat} {aa : Nat → Nat} {cn : Nat → Nat} {lim th : Int32} {ar : Nat → Nat → Int32} (hPm : PicM E M m0 aa cn lim th ar) (hW : WF cn lim ar) (p0 : Int32) : Kt l yX3_setLimit (ws_ yX3_setLimit cX3_setLimit 3 (some .int)) ({ frames := 20, cells := 0, slots := 0, locals := 600 } : Room) z E [.ref m0, .int p0] M (pI (fun r M' => mPost E M m0 aa (tSetLimit p0) (lim) cn lim ar (cn) (p0) (ar) r M')) xNo 0 0 := by
  refine k_body RX3 (by decide) rfl (Nat.le_of_ble_eq_true rfl) ?_
  intro p e s m args below meth c hx hb hr hml hown hlocks hname hno hts hz hG hM hS ls hl
  have hF : CallFix p m c cX3_setLimit 3 s args lw_all RX3 := ⟨hx, hb, hml, hown, hts⟩
  have hl : lv_has ls 3 [(0, .ref m0), (1, .int p0)] := hl
  have hfr : Fr kM M M := Fr.rf
  have hwb := hW.b
  refine lv_aload_n hx hb dX3_setLimit_0 rfl (lv_at hl 0 rfl) ?_
  refine lv_iload_n hx hb dX3_setLimit_1 rfl (lv_at hl 1 rfl) ?_
  refine lv_iconst (v := 1) hx hb dX3_setLimit_2 (by decide) ?_
  refine lv_ldc (v := 1000000) hx hb hown (hts _ q864) dX3_setLimit_3 ?_
  refine kS (k9 := 0) (n9 := 0) hF hG hz hM hS [.int p0, .int 1, .int 1000000] [.ref m0] (metX3_in p0 1 1000000) (va_cwS 3 hts (lw_S q857 q858 q27 q859) rfl rfl rfl (by decide +kernel) ⟨(Nat.le_of_ble_eq_true rfl), (Nat.le_of_ble_eq_true rfl)⟩) rfl hl.1 rfl (Nat.le_of_ble_eq_true rfl) dX3_setLimit_5 rfl rfl (Nat.le_of_ble_eq_true rfl) (Nat.le_of_ble_eq_true rfl) (fun _ _ _ _ _ h9 _ _ _ _ _ => h9.elim) (fun v9 M9_1 H locs hp9 hM9_1 hS => ?_)
  obtain ⟨r_1, rfl, b_2, rfl⟩ := hp9
  have hM := hM9_1
  rcases b_2 with ⟨b_2, rfl⟩ | ⟨b_2, rfl⟩
  · refine W.eq (g2 := F0 m 8 ls [.int 1, .ref m0]) rfl ?_
    refine lv_if_eq (tgt := 15) hx hb dX3_setLimit_8 (by decide) (fun c9 => absurd c9 (by decide)) (fun _ => ?_)
    refine lv_iconst (v := 0) hx hb dX3_setLimit_11 (by decide) ?_
    refine lv_goto (tgt := 16) hx hb dX3_setLimit_12 (by decide) ?_
    refine r_put (ci := 7) (ty := .int) (v := .int 0) hF in_X3 tyX3 tyX3_ok nmX3 hG hM hS hPm.1 rfl 28 (by decide) q785 (fun _ h => h) rfl (by decide +kernel) rfl rfl (Nat.le_of_ble_eq_true rfl) dX3_setLimit_16 (fun H locs hM hS => ?_)
    obtain ⟨M_3, hM, hPm, hfr⟩ := PicM.stepF (cn' := cn) (lim' := lim) (th' := 0) hPm hfr hM
    refine lv_aload_n hx hb dX3_setLimit_19 rfl (lv_at hl 0 rfl) ?_
    refine r_get (ci := 7) hF in_X3 hG hM hPm.1 rfl 14 (by decide) q771 (fun _ h => h) (.int lim) rfl dX3_setLimit_20 ?_
    refine lv_istore_n (lv' := [(2, .int lim), (0, .ref m0), (1, .int p0)]) hx hb dX3_setLimit_23 rfl hl (by decide) rfl (fun ls hl => ?_)
    refine lv_aload_n hx hb dX3_setLimit_24 rfl (lv_at hl 1 rfl) ?_
    refine lv_aload_n hx hb dX3_setLimit_25 rfl (lv_at hl 1 rfl) ?_
    refine r_get (ci := 7) hF in_X3 hG hM hPm.1 rfl 28 (by decide) q785 (fun _ h => h) (.int 0) rfl dX3_setLimit_26 ?_
    refine lv_if_ne (tgt := 36) hx hb dX3_setLimit_29 (by decide) (fun c9 => absurd c9 (by decide)) (fun _ => ?_)
    refine lv_iload_n hx hb dX3_setLimit_32 rfl (lv_at hl 2 rfl) ?_
    refine lv_goto (tgt := 37) hx hb dX3_setLimit_33 (by decide) ?_
    refine r_put (ci := 7) (ty := .int) (v := .int p0) hF in_X3 tyX3 tyX3_ok nmX3 hG hM hS hPm.1 rfl 14 (by decide) q771 (fun _ h => h) rfl (by decide +kernel) rfl rfl (Nat.le_of_ble_eq_true rfl) dX3_setLimit_37 (fun H locs hM hS => ?_)
    obtain ⟨M_4, hM, hPm, hfr⟩ := PicM.stepF (cn' := cn) (lim' := p0) (th' := 0) hPm hfr hM
    refine lv_aload_n hx hb dX3_setLimit_40 rfl (lv_at hl 1 rfl) ?_
    refine r_get (ci := 7) hF in_X3 hG hM hPm.1 rfl 28 (by decide) q785 (fun _ h => h) (.int 0) rfl dX3_setLimit_41 ?_
    refine lv_if_ne (tgt := 51) hx hb dX3_setLimit_44 (by decide) (fun c9 => absurd c9 (by decide)) (fun _ => ?_)
    refine lv_iload_n hx hb dX3_setLimit_47 rfl (lv_at hl 0 rfl) ?_
    refine lv_goto (tgt := 52) hx hb dX3_setLimit_48 (by decide) ?_
    have ht9 : tSetLimit p0 = (0 : Int32) := by simp [tSetLimit, b_2]
    have ha9 : lim = lim := by first | rfl | (simp only [b_2]; done) | (simp only [b_2]; rfl) | simp [b_2]
    exact k_iret hx hb hr rfl hlocks hG hz hM hS (Nat.le_of_ble_eq_true rfl) (Nat.le_of_ble_eq_true rfl) dX3_setLimit_52 ⟨_, rfl, mPost.ok ht9 ha9 hPm hfr⟩
  · refine W.eq (g2 := F0 m 8 ls [.int 0, .ref m0]) rfl ?_
    refine lv_if_eq (tgt := 15) hx hb dX3_setLimit_8 (by decide) (fun _ => ?_) (fun c9 => absurd (by decide) c9)
    refine lv_iconst (v := 1) hx hb dX3_setLimit_15 (by decide) ?_
    refine r_put (ci := 7) (ty := .int) (v := .int 1) hF in_X3 tyX3 tyX3_ok nmX3 hG hM hS hPm.1 rfl 28 (by decide) q785 (fun _ h => h) rfl (by decide +kernel) rfl rfl (Nat.le_of_ble_eq_true rfl) dX3_setLimit_16 (fun H locs hM hS => ?_)
    obtain ⟨M_5, hM, hPm, hfr⟩ := PicM.stepF (cn' := cn) (lim' := lim) (th' := 1) hPm hfr hM
    refine lv_aload_n hx hb dX3_setLimit_19 rfl (lv_at hl 0 rfl) ?_
    refine r_get (ci := 7) hF in_X3 hG hM hPm.1 rfl 14 (by decide) q771 (fun _ h => h) (.int lim) rfl dX3_setLimit_20 ?_
    refine lv_istore_n (lv' := [(2, .int lim), (0, .ref m0), (1, .int p0)]) hx hb dX3_setLimit_23 rfl hl (by decide) rfl (fun ls hl => ?_)
    refine lv_aload_n hx hb dX3_setLimit_24 rfl (lv_at hl 1 rfl) ?_
    refine lv_aload_n hx hb dX3_setLimit_25 rfl (lv_at hl 1 rfl) ?_
    refine r_get (ci := 7) hF in_X3 hG hM hPm.1 rfl 28 (by decide) q785 (fun _ h => h) (.int 1) rfl dX3_setLimit_26 ?_
    refine lv_if_ne (tgt := 36) hx hb dX3_setLimit_29 (by decide) (fun _ => ?_) (fun c9 => absurd c9 (by decide))
    refine lv_iload_n hx hb dX3_setLimit_36 rfl (lv_at hl 0 rfl) ?_
    refine r_put (ci := 7) (ty := .int) (v := .int lim) hF in_X3 tyX3 tyX3_ok nmX3 hG hM hS hPm.1 rfl 14 (by decide) q771 (fun _ h => h) rfl (by decide +kernel) rfl rfl (Nat.le_of_ble_eq_true rfl) dX3_setLimit_37 (fun H locs hM hS => ?_)
    obtain ⟨M_6, hM, hPm, hfr⟩ := PicM.stepF (cn' := cn) (lim' := lim) (th' := 1) hPm hfr hM
    refine lv_aload_n hx hb dX3_setLimit_40 rfl (lv_at hl 1 rfl) ?_
    refine r_get (ci := 7) hF in_X3 hG hM hPm.1 rfl 28 (by decide) q785 (fun _ h => h) (.int 1) rfl dX3_setLimit_41 ?_
    refine lv_if_ne (tgt := 51) hx hb dX3_setLimit_44 (by decide) (fun _ => ?_) (fun c9 => absurd c9 (by decide))
    refine lv_iconst (v := 0) hx hb dX3_setLimit_51 (by decide) ?_
    have ht9 : tSetLimit p0 = (1 : Int32) := by simp [tSetLimit, b_2]
    exact k_iret hx hb hr rfl hlocks hG hz hM hS (Nat.le_of_ble_eq_true rfl) (Nat.le_of_ble_eq_true rfl) dX3_setLimit_52 ⟨_, rfl, mPost.bad ht9 (by decide) hPm hfr⟩
set_option maxHeartbeats 4000000 in
set_option maxRecDepth 100000 in
theorem metX3_prepare {l : Launch} {z : Nat} {E : EE} {M : MM} {m0 : Nat} {aa : Nat → Nat} {cn : Nat → Nat} {lim th : Int32} {ar : Nat → Nat → Int32} (hPm : PicM E M m0 aa cn lim th ar) (hW : WF cn lim ar) (p0 p1 p2 p3 : Int32) : Kt l yX3_prepare (ws_ yX3_prepare cX3_prepare 5 (some .int)) ({ frames := 40, cells := 0, slots := 0, locals := 1200 } : Room) z E [.ref m0, .int p0, .int p1, .int p2, .int p3] M (pI (fun r M' => mPost E M m0 aa (tPrepare cn ar p0 p1 p2 p3) (nI (cn 2)) cn lim ar (cUp cn 2) (lim) (rPrepare cn ar p0 p1 p2 p3) r M')) xNo 0 0 := by
  refine k_body RX3 (by decide) rfl (Nat.le_of_ble_eq_true rfl) ?_
  intro p e s m args below meth c hx hb hr hml hown hlocks hname hno hts hz hG hM hS ls hl
  have hF : CallFix p m c cX3_prepare 5 s args lw_all RX3 := ⟨hx, hb, hml, hown, hts⟩
  have hl : lv_has ls 5 [(0, .ref m0), (1, .int p0), (2, .int p1), (3, .int p2), (4, .int p3)] := hl
  have hfr : Fr kM M M := Fr.rf
  have hwb := hW.b
  refine lv_aload_n hx hb dX3_prepare_0 rfl (lv_at hl 0 rfl) ?_
  refine lv_aload_n hx hb dX3_prepare_1 rfl (lv_at hl 0 rfl) ?_
  refine lv_iload_n hx hb dX3_prepare_2 rfl (lv_at hl 1 rfl) ?_
  refine kV (k9 := 0) (n9 := 0) hF hG hz hM hS [.int p0] [.ref m0] (metX3_isAccount hPm hW p0) (cwV 1 hts (lw_V q853 q855 qs9 q27 q856) rfl rfl rfl (by decide +kernel) ⟨(Nat.le_of_ble_eq_true rfl), (Nat.le_of_ble_eq_true rfl)⟩) (k_recv hG hM hPm.1 (ci := 7) rfl) rfl hl.1 rfl (Nat.le_of_ble_eq_true rfl) dX3_prepare_3 rfl rfl (Nat.le_of_ble_eq_true rfl) (Nat.le_of_ble_eq_true rfl) (fun _ _ _ _ _ h9 _ _ _ _ _ => h9.elim) (fun v9 M9_1 H locs hp9 hM9_1 hS => ?_)
  obtain ⟨r_1, rfl, b_2, rfl⟩ := hp9
  have hM := hM9_1
  rcases b_2 with ⟨b_2, rfl⟩ | ⟨b_2, rfl⟩
  · refine W.eq (g2 := F0 m 6 ls [.int 1, .ref m0]) rfl ?_
    obtain ⟨j0, hj0, rfl⟩ := inB_ex b_2 (by omega)
    have hnj0 : nx (nI j0) = j0 := nI_clamp (by omega)
    refine lv_if_eq (tgt := 29) hx hb dX3_prepare_6 (by decide) (fun c9 => absurd c9 (by decide)) (fun _ => ?_)
    refine lv_iload_n hx hb dX3_prepare_9 rfl (lv_at hl 2 rfl) ?_
    refine lv_iconst (v := 0) hx hb dX3_prepare_10 (by decide) ?_
    refine lv_bipush (v := 9) hx hb dX3_prepare_11 (by decide) ?_
    refine kS (k9 := 0) (n9 := 0) hF hG hz hM hS [.int p1, .int 0, .int 9] [.ref m0] (metX3_in p1 0 9) (va_cwS 3 hts (lw_S q857 q858 q27 q859) rfl rfl rfl (by decide +kernel) ⟨(Nat.le_of_ble_eq_true rfl), (Nat.le_of_ble_eq_true rfl)⟩) rfl hl.1 rfl (Nat.le_of_ble_eq_true rfl) dX3_prepare_13 rfl rfl (Nat.le_of_ble_eq_true rfl) (Nat.le_of_ble_eq_true rfl) (fun _ _ _ _ _ h9 _ _ _ _ _ => h9.elim) (fun v9 M9_2 H locs hp9 hM9_2 hS => ?_)
    obtain ⟨r_3, rfl, b_4, rfl⟩ := hp9
    have hM := hM9_2
    rcases b_4 with ⟨b_4, rfl⟩ | ⟨b_4, rfl⟩
    · refine W.eq (g2 := F0 m 16 ls [.int 1, .ref m0]) rfl ?_
      refine lv_if_eq (tgt := 29) hx hb dX3_prepare_16 (by decide) (fun c9 => absurd c9 (by decide)) (fun _ => ?_)
      refine lv_iload hx hb dX3_prepare_19 (lv_at hl 4 rfl) ?_
      refine lv_iconst (v := 0) hx hb dX3_prepare_21 (by decide) ?_
      refine lv_iconst (v := 4) hx hb dX3_prepare_22 (by decide) ?_
      refine kS (k9 := 0) (n9 := 0) hF hG hz hM hS [.int p3, .int 0, .int 4] [.ref m0] (metX3_in p3 0 4) (va_cwS 3 hts (lw_S q857 q858 q27 q859) rfl rfl rfl (by decide +kernel) ⟨(Nat.le_of_ble_eq_true rfl), (Nat.le_of_ble_eq_true rfl)⟩) rfl hl.1 rfl (Nat.le_of_ble_eq_true rfl) dX3_prepare_23 rfl rfl (Nat.le_of_ble_eq_true rfl) (Nat.le_of_ble_eq_true rfl) (fun _ _ _ _ _ h9 _ _ _ _ _ => h9.elim) (fun v9 M9_3 H locs hp9 hM9_3 hS => ?_)
      obtain ⟨r_5, rfl, b_6, rfl⟩ := hp9
      have hM := hM9_3
      rcases b_6 with ⟨b_6, rfl⟩ | ⟨b_6, rfl⟩
      · refine W.eq (g2 := F0 m 26 ls [.int 1, .ref m0]) rfl ?_
        refine lv_if_ne (tgt := 33) hx hb dX3_prepare_26 (by decide) (fun _ => ?_) (fun c9 => absurd c9 (by decide))
        refine lv_iload_n hx hb dX3_prepare_33 rfl (lv_at hl 3 rfl) ?_
        refine lv_iconst (v := 1) hx hb dX3_prepare_34 (by decide) ?_
        refine lv_ldc (v := 1000000) hx hb hown (hts _ q864) dX3_prepare_35 ?_
        refine kS (k9 := 0) (n9 := 0) hF hG hz hM hS [.int p2, .int 1, .int 1000000] [.ref m0] (metX3_in p2 1 1000000) (va_cwS 3 hts (lw_S q857 q858 q27 q859) rfl rfl rfl (by decide +kernel) ⟨(Nat.le_of_ble_eq_true rfl), (Nat.le_of_ble_eq_true rfl)⟩) rfl hl.1 rfl (Nat.le_of_ble_eq_true rfl) dX3_prepare_37 rfl rfl (Nat.le_of_ble_eq_true rfl) (Nat.le_of_ble_eq_true rfl) (fun _ _ _ _ _ h9 _ _ _ _ _ => h9.elim) (fun v9 M9_4 H locs hp9 hM9_4 hS => ?_)
        obtain ⟨r_7, rfl, b_8, rfl⟩ := hp9
        have hM := hM9_4
        rcases b_8 with ⟨b_8, rfl⟩ | ⟨b_8, rfl⟩
        · refine W.eq (g2 := F0 m 40 ls [.int 1, .ref m0]) rfl ?_
          refine lv_if_ne (tgt := 47) hx hb dX3_prepare_40 (by decide) (fun _ => ?_) (fun c9 => absurd c9 (by decide))
          refine lv_iconst (v := 0) hx hb dX3_prepare_47 (by decide) ?_
          refine r_put (ci := 7) (ty := .int) (v := .int 0) hF in_X3 tyX3 tyX3_ok nmX3 hG hM hS hPm.1 rfl 28 (by decide) q785 (fun _ h => h) rfl (by decide +kernel) rfl rfl (Nat.le_of_ble_eq_true rfl) dX3_prepare_48 (fun H locs hM hS => ?_)
          obtain ⟨M_9, hM, hPm, hfr⟩ := PicM.stepF (cn' := cn) (lim' := lim) (th' := 0) hPm hfr hM
          refine lv_aload_n hx hb dX3_prepare_51 rfl (lv_at hl 0 rfl) ?_
          refine r_get (ci := 7) hF in_X3 hG hM hPm.1 rfl 28 (by decide) q785 (fun _ h => h) (.int 0) rfl dX3_prepare_52 ?_
          refine lv_if_le (tgt := 60) hx hb dX3_prepare_55 (by decide) (fun _ => ?_) (fun c9 => absurd (by decide) c9)
          refine lv_aload_n hx hb dX3_prepare_60 rfl (lv_at hl 0 rfl) ?_
          refine r_get (ci := 7) hF in_X3 hG hM hPm.1 rfl 9 (by decide) q766 (fun _ h => h) (.ref (aa 6)) rfl dX3_prepare_61 ?_
          refine lv_iload_n hx hb dX3_prepare_64 rfl (lv_at hl 1 rfl) ?_
          refine r_ialdN (n := 14) (f := (ar 6)) j0 hF hG hM hPm.a6 (by omega) (by decide) rfl dX3_prepare_65 ?_
          refine lv_if_eq (tgt := 87) hx hb dX3_prepare_66 (by decide) (fun c_10 => ?_) (fun c_10 => ?_)
          · refine lv_aload_n hx hb dX3_prepare_87 rfl (lv_at hl 0 rfl) ?_
            refine lv_iconst (v := 3) hx hb dX3_prepare_88 (by decide) ?_
            refine kV (k9 := 0) (n9 := 0) hF hG hz hM hS [.int 3] [] (metX3_fails hPm 3) (cwV 1 hts (lw_V q917 q919 qs14 q27 q920) rfl rfl rfl (by decide +kernel) ⟨(Nat.le_of_ble_eq_true rfl), (Nat.le_of_ble_eq_true rfl)⟩) (k_recv hG hM hPm.1 (ci := 7) rfl) rfl hl.1 rfl (Nat.le_of_ble_eq_true rfl) dX3_prepare_89 rfl rfl (Nat.le_of_ble_eq_true rfl) (Nat.le_of_ble_eq_true rfl) (fun _ _ _ _ _ h9 _ _ _ _ _ => h9.elim) (fun v9 M9_5 H locs hp9 hM9_5 hS => ?_)
            obtain ⟨r_11, rfl, r_11_e, hPm, hfr9⟩ := hp9
            have hM := hM9_5
            have hfr := hfr.tr hfr9
            subst r_11_e
            refine W.eq (g2 := F0 m 92 ls [.int 0]) rfl ?_
            have ht9 : tPrepare cn ar (nI j0) p1 p2 p3 = (3 : Int32) := by simp [tPrepare, b_2, hnj0, b_4, b_6, b_8, (eq_true c_10)]
            exact k_iret hx hb hr rfl hlocks hG hz hM hS (Nat.le_of_ble_eq_true rfl) (Nat.le_of_ble_eq_true rfl) dX3_prepare_92 ⟨_, rfl, mPost.bad ht9 (by decide) hPm hfr⟩
          · refine lv_aload_n hx hb dX3_prepare_69 rfl (lv_at hl 0 rfl) ?_
            refine r_get (ci := 7) hF in_X3 hG hM hPm.1 rfl 2 (by decide) q759 (fun _ h => h) (.int (nI (cn 4))) rfl dX3_prepare_70 ?_
            refine lv_bipush (v := 12) hx hb dX3_prepare_73 (by decide) ?_
            refine lv_icmp_gt (tgt := 87) hx hb dX3_prepare_75 (by decide) (fun c_13 => ?_) (fun c_13 => ?_)
            · have c_13R := c_13
              have c_13 : 12 < (cn 4) := (nI_ltI (a := 12) (b := (cn 4)) (by omega) (by omega)).mp c_13R
              have c_13B : ¬ ((cn 4) ≤ 12) := by omega
              have c_13RB := Int32.not_le.mpr c_13R
              refine lv_aload_n hx hb dX3_prepare_87 rfl (lv_at hl 0 rfl) ?_
              refine lv_iconst (v := 3) hx hb dX3_prepare_88 (by decide) ?_
              refine kV (k9 := 0) (n9 := 0) hF hG hz hM hS [.int 3] [] (metX3_fails hPm 3) (cwV 1 hts (lw_V q917 q919 qs14 q27 q920) rfl rfl rfl (by decide +kernel) ⟨(Nat.le_of_ble_eq_true rfl), (Nat.le_of_ble_eq_true rfl)⟩) (k_recv hG hM hPm.1 (ci := 7) rfl) rfl hl.1 rfl (Nat.le_of_ble_eq_true rfl) dX3_prepare_89 rfl rfl (Nat.le_of_ble_eq_true rfl) (Nat.le_of_ble_eq_true rfl) (fun _ _ _ _ _ h9 _ _ _ _ _ => h9.elim) (fun v9 M9_6 H locs hp9 hM9_6 hS => ?_)
              obtain ⟨r_14, rfl, r_14_e, hPm, hfr9⟩ := hp9
              have hM := hM9_6
              have hfr := hfr.tr hfr9
              subst r_14_e
              refine W.eq (g2 := F0 m 92 ls [.int 0]) rfl ?_
              have ht9 : tPrepare cn ar (nI j0) p1 p2 p3 = (3 : Int32) := by simp [tPrepare, b_2, hnj0, b_4, b_6, b_8, c_10, c_13, c_13B, c_13R, c_13RB]
              exact k_iret hx hb hr rfl hlocks hG hz hM hS (Nat.le_of_ble_eq_true rfl) (Nat.le_of_ble_eq_true rfl) dX3_prepare_92 ⟨_, rfl, mPost.bad ht9 (by decide) hPm hfr⟩
            · have c_13R := c_13
              have c_13 : ¬ (12 < (cn 4)) := fun h9 => c_13R ((nI_ltI (a := 12) (b := (cn 4)) (by omega) (by omega)).mpr h9)
              have c_13B : (cn 4) ≤ 12 := by omega
              have c_13RB := Int32.not_lt.mp c_13R
              refine lv_aload_n hx hb dX3_prepare_78 rfl (lv_at hl 0 rfl) ?_
              refine r_get (ci := 7) hF in_X3 hG hM hPm.1 rfl 15 (by decide) q772 (fun _ h => h) (.int (nI (cn 2))) rfl dX3_prepare_79 ?_
              refine lv_bipush (v := 40) hx hb dX3_prepare_82 (by decide) ?_
              refine lv_icmp_ne (tgt := 93) hx hb dX3_prepare_84 (by decide) (fun c_16 => ?_) (fun c_16 => ?_)
              · have c_16R := c_16
                have c_16 : ¬ ((cn 2) = 40) := fun h9 => c_16R ((nI_eq (a := (cn 2)) (b := 40) (by omega) (by omega)).mpr h9)
                refine lv_aload_n hx hb dX3_prepare_93 rfl (lv_at hl 0 rfl) ?_
                refine r_get (ci := 7) hF in_X3 hG hM hPm.1 rfl 16 (by decide) q773 (fun _ h => h) (.ref (aa 11)) rfl dX3_prepare_94 ?_
                refine lv_aload_n hx hb dX3_prepare_97 rfl (lv_at hl 0 rfl) ?_
                refine r_get (ci := 7) hF in_X3 hG hM hPm.1 rfl 15 (by decide) q772 (fun _ h => h) (.int (nI (cn 2))) rfl dX3_prepare_98 ?_
                refine lv_iload_n hx hb dX3_prepare_101 rfl (lv_at hl 1 rfl) ?_
                refine r_iast (n := 40) (f := (ar 11)) (cn 2) hF hG hM hS hPm.a11 (by omega) (by decide) rfl dX3_prepare_102 (fun H locs hM hS => ?_)
                obtain ⟨M_17, hM, hPm, hfr⟩ := PicM.stepA 11 (by decide) hPm hfr hM
                refine lv_aload_n hx hb dX3_prepare_103 rfl (lv_at hl 0 rfl) ?_
                refine r_get (ci := 7) hF in_X3 hG hM hPm.1 rfl 17 (by decide) q774 (fun _ h => h) (.ref (aa 12)) rfl dX3_prepare_104 ?_
                refine lv_aload_n hx hb dX3_prepare_107 rfl (lv_at hl 0 rfl) ?_
                refine r_get (ci := 7) hF in_X3 hG hM hPm.1 rfl 15 (by decide) q772 (fun _ h => h) (.int (nI (cn 2))) rfl dX3_prepare_108 ?_
                refine lv_iload_n hx hb dX3_prepare_111 rfl (lv_at hl 2 rfl) ?_
                refine r_iast (n := 40) (f := (ar 12)) (cn 2) hF hG hM hS hPm.a12 (by omega) (by decide) rfl dX3_prepare_112 (fun H locs hM hS => ?_)
                obtain ⟨M_18, hM, hPm, hfr⟩ := PicM.stepA 12 (by decide) hPm hfr hM
                refine lv_aload_n hx hb dX3_prepare_113 rfl (lv_at hl 0 rfl) ?_
                refine r_get (ci := 7) hF in_X3 hG hM hPm.1 rfl 18 (by decide) q775 (fun _ h => h) (.ref (aa 13)) rfl dX3_prepare_114 ?_
                refine lv_aload_n hx hb dX3_prepare_117 rfl (lv_at hl 0 rfl) ?_
                refine r_get (ci := 7) hF in_X3 hG hM hPm.1 rfl 15 (by decide) q772 (fun _ h => h) (.int (nI (cn 2))) rfl dX3_prepare_118 ?_
                refine lv_iload_n hx hb dX3_prepare_121 rfl (lv_at hl 3 rfl) ?_
                refine r_iast (n := 40) (f := (ar 13)) (cn 2) hF hG hM hS hPm.a13 (by omega) (by decide) rfl dX3_prepare_122 (fun H locs hM hS => ?_)
                obtain ⟨M_19, hM, hPm, hfr⟩ := PicM.stepA 13 (by decide) hPm hfr hM
                refine lv_aload_n hx hb dX3_prepare_123 rfl (lv_at hl 0 rfl) ?_
                refine r_get (ci := 7) hF in_X3 hG hM hPm.1 rfl 19 (by decide) q776 (fun _ h => h) (.ref (aa 14)) rfl dX3_prepare_124 ?_
                refine lv_aload_n hx hb dX3_prepare_127 rfl (lv_at hl 0 rfl) ?_
                refine r_get (ci := 7) hF in_X3 hG hM hPm.1 rfl 15 (by decide) q772 (fun _ h => h) (.int (nI (cn 2))) rfl dX3_prepare_128 ?_
                refine lv_iload hx hb dX3_prepare_131 (lv_at hl 4 rfl) ?_
                refine r_iast (n := 40) (f := (ar 14)) (cn 2) hF hG hM hS hPm.a14 (by omega) (by decide) rfl dX3_prepare_133 (fun H locs hM hS => ?_)
                obtain ⟨M_20, hM, hPm, hfr⟩ := PicM.stepA 14 (by decide) hPm hfr hM
                refine lv_aload_n hx hb dX3_prepare_134 rfl (lv_at hl 0 rfl) ?_
                refine r_get (ci := 7) hF in_X3 hG hM hPm.1 rfl 20 (by decide) q777 (fun _ h => h) (.ref (aa 15)) rfl dX3_prepare_135 ?_
                refine lv_aload_n hx hb dX3_prepare_138 rfl (lv_at hl 0 rfl) ?_
                refine r_get (ci := 7) hF in_X3 hG hM hPm.1 rfl 15 (by decide) q772 (fun _ h => h) (.int (nI (cn 2))) rfl dX3_prepare_139 ?_
                refine lv_aload_n hx hb dX3_prepare_142 rfl (lv_at hl 0 rfl) ?_
                refine r_get (ci := 7) hF in_X3 hG hM hPm.1 rfl 2 (by decide) q759 (fun _ h => h) (.int (nI (cn 4))) rfl dX3_prepare_143 ?_
                refine r_iast (n := 40) (f := (ar 15)) (cn 2) hF hG hM hS hPm.a15 (by omega) (by decide) rfl dX3_prepare_146 (fun H locs hM hS => ?_)
                obtain ⟨M_21, hM, hPm, hfr⟩ := PicM.stepA 15 (by decide) hPm hfr hM
                refine lv_aload_n hx hb dX3_prepare_147 rfl (lv_at hl 0 rfl) ?_
                refine lv_dup hx hb dX3_prepare_148 rfl ?_
                refine r_get (ci := 7) hF in_X3 hG hM hPm.1 rfl 15 (by decide) q772 (fun _ h => h) (.int (nI (cn 2))) rfl dX3_prepare_149 ?_
                refine lv_iconst (v := 1) hx hb dX3_prepare_152 (by decide) ?_
                refine lv_iadd hx hb dX3_prepare_153 ?_
                rw [nI_1]
                refine r_put (ci := 7) (ty := .int) (v := .int (nI ((cn 2) + 1))) hF in_X3 tyX3 tyX3_ok nmX3 hG hM hS hPm.1 rfl 15 (by decide) q772 (fun _ h => h) rfl (by decide +kernel) rfl rfl (Nat.le_of_ble_eq_true rfl) dX3_prepare_154 (fun H locs hM hS => ?_)
                obtain ⟨M_22, hM, hPm, hfr⟩ := PicM.stepF (cn' := (cUp cn 2)) (lim' := lim) (th' := 0) hPm hfr hM
                refine lv_aload_n hx hb dX3_prepare_157 rfl (lv_at hl 0 rfl) ?_
                refine r_get (ci := 7) hF in_X3 hG hM hPm.1 rfl 15 (by decide) q772 (fun _ h => h) (.int (nI ((cn 2) + 1))) rfl dX3_prepare_158 ?_
                refine lv_iconst (v := 1) hx hb dX3_prepare_161 (by decide) ?_
                refine lv_isub hx hb dX3_prepare_162 ?_
                have ht9 : tPrepare cn ar (nI j0) p1 p2 p3 = (0 : Int32) := by simp [tPrepare, b_2, hnj0, b_4, b_6, b_8, c_10, c_13, c_13B, c_13R, c_13RB, c_16, c_16R]
                have ha9 : ((nI ((cn 2) + 1)) - 1) = nI (cn 2) := by exact nI_pred _
                have er9 : rPrepare cn ar (nI j0) p1 p2 p3 = (va_up (va_up (va_up (va_up (va_up ar 11 (upd (ar 11) (cn 2) (nI j0))) 12 (upd (ar 12) (cn 2) p1)) 13 (upd (ar 13) (cn 2) p2)) 14 (upd (ar 14) (cn 2) p3)) 15 (upd (ar 15) (cn 2) (nI (cn 4)))) := by first | rfl | (simp only [rPrepare, b_2, hnj0, b_4, b_6, b_8, c_10, c_13, c_13B, c_13R, c_13RB, c_16, c_16R]; done) | (simp only [rPrepare, b_2, hnj0, b_4, b_6, b_8, c_10, c_13, c_13B, c_13R, c_13RB, c_16, c_16R]; rfl) | simp [rPrepare, b_2, hnj0, b_4, b_6, b_8, c_10, c_13, c_13B, c_13R, c_13RB, c_16, c_16R]
                have ec9 : cUp cn 2 = (cUp cn 2) := by first | rfl | (simp only [rPrepare, b_2, hnj0, b_4, b_6, b_8, c_10, c_13, c_13B, c_13R, c_13RB, c_16, c_16R]; done) | (simp only [rPrepare, b_2, hnj0, b_4, b_6, b_8, c_10, c_13, c_13B, c_13R, c_13RB, c_16, c_16R]; rfl) | simp [rPrepare, b_2, hnj0, b_4, b_6, b_8, c_10, c_13, c_13B, c_13R, c_13RB, c_16, c_16R]
                exact k_iret hx hb hr rfl hlocks hG hz hM hS (Nat.le_of_ble_eq_true rfl) (Nat.le_of_ble_eq_true rfl) dX3_prepare_163 ⟨_, rfl, mPost.ok ht9 ha9 (by rw [ec9, er9]; exact hPm) hfr⟩
              · have c_16R := c_16
                have c_16 : (cn 2) = 40 := (nI_eq (a := (cn 2)) (b := 40) (by omega) (by omega)).mp c_16R
                refine lv_aload_n hx hb dX3_prepare_87 rfl (lv_at hl 0 rfl) ?_
                refine lv_iconst (v := 3) hx hb dX3_prepare_88 (by decide) ?_
                refine kV (k9 := 0) (n9 := 0) hF hG hz hM hS [.int 3] [] (metX3_fails hPm 3) (cwV 1 hts (lw_V q917 q919 qs14 q27 q920) rfl rfl rfl (by decide +kernel) ⟨(Nat.le_of_ble_eq_true rfl), (Nat.le_of_ble_eq_true rfl)⟩) (k_recv hG hM hPm.1 (ci := 7) rfl) rfl hl.1 rfl (Nat.le_of_ble_eq_true rfl) dX3_prepare_89 rfl rfl (Nat.le_of_ble_eq_true rfl) (Nat.le_of_ble_eq_true rfl) (fun _ _ _ _ _ h9 _ _ _ _ _ => h9.elim) (fun v9 M9_7 H locs hp9 hM9_7 hS => ?_)
                obtain ⟨r_23, rfl, r_23_e, hPm, hfr9⟩ := hp9
                have hM := hM9_7
                have hfr := hfr.tr hfr9
                subst r_23_e
                refine W.eq (g2 := F0 m 92 ls [.int 0]) rfl ?_
                have ht9 : tPrepare cn ar (nI j0) p1 p2 p3 = (3 : Int32) := by simp [tPrepare, b_2, hnj0, b_4, b_6, b_8, c_10, c_13, c_13B, c_13R, c_13RB, (eq_true c_16), (eq_true c_16R)]
                exact k_iret hx hb hr rfl hlocks hG hz hM hS (Nat.le_of_ble_eq_true rfl) (Nat.le_of_ble_eq_true rfl) dX3_prepare_92 ⟨_, rfl, mPost.bad ht9 (by decide) hPm hfr⟩
        · refine W.eq (g2 := F0 m 40 ls [.int 0, .ref m0]) rfl ?_
          refine lv_if_ne (tgt := 47) hx hb dX3_prepare_40 (by decide) (fun c9 => absurd c9 (by decide)) (fun _ => ?_)
          refine lv_iconst (v := 2) hx hb dX3_prepare_43 (by decide) ?_
          refine lv_goto (tgt := 48) hx hb dX3_prepare_44 (by decide) ?_
          refine r_put (ci := 7) (ty := .int) (v := .int 2) hF in_X3 tyX3 tyX3_ok nmX3 hG hM hS hPm.1 rfl 28 (by decide) q785 (fun _ h => h) rfl (by decide +kernel) rfl rfl (Nat.le_of_ble_eq_true rfl) dX3_prepare_48 (fun H locs hM hS => ?_)
          obtain ⟨M_25, hM, hPm, hfr⟩ := PicM.stepF (cn' := cn) (lim' := lim) (th' := 2) hPm hfr hM
          refine lv_aload_n hx hb dX3_prepare_51 rfl (lv_at hl 0 rfl) ?_
          refine r_get (ci := 7) hF in_X3 hG hM hPm.1 rfl 28 (by decide) q785 (fun _ h => h) (.int 2) rfl dX3_prepare_52 ?_
          refine lv_if_le (tgt := 60) hx hb dX3_prepare_55 (by decide) (fun c9 => absurd c9 (by decide)) (fun _ => ?_)
          refine lv_iconst (v := 0) hx hb dX3_prepare_58 (by decide) ?_
          have ht9 : tPrepare cn ar (nI j0) p1 p2 p3 = (2 : Int32) := by simp [tPrepare, b_2, hnj0, b_4, b_6, b_8]
          exact k_iret hx hb hr rfl hlocks hG hz hM hS (Nat.le_of_ble_eq_true rfl) (Nat.le_of_ble_eq_true rfl) dX3_prepare_59 ⟨_, rfl, mPost.bad ht9 (by decide) hPm hfr⟩
      · refine W.eq (g2 := F0 m 26 ls [.int 0, .ref m0]) rfl ?_
        refine lv_if_ne (tgt := 33) hx hb dX3_prepare_26 (by decide) (fun c9 => absurd c9 (by decide)) (fun _ => ?_)
        refine lv_iconst (v := 1) hx hb dX3_prepare_29 (by decide) ?_
        refine lv_goto (tgt := 48) hx hb dX3_prepare_30 (by decide) ?_
        refine r_put (ci := 7) (ty := .int) (v := .int 1) hF in_X3 tyX3 tyX3_ok nmX3 hG hM hS hPm.1 rfl 28 (by decide) q785 (fun _ h => h) rfl (by decide +kernel) rfl rfl (Nat.le_of_ble_eq_true rfl) dX3_prepare_48 (fun H locs hM hS => ?_)
        obtain ⟨M_26, hM, hPm, hfr⟩ := PicM.stepF (cn' := cn) (lim' := lim) (th' := 1) hPm hfr hM
        refine lv_aload_n hx hb dX3_prepare_51 rfl (lv_at hl 0 rfl) ?_
        refine r_get (ci := 7) hF in_X3 hG hM hPm.1 rfl 28 (by decide) q785 (fun _ h => h) (.int 1) rfl dX3_prepare_52 ?_
        refine lv_if_le (tgt := 60) hx hb dX3_prepare_55 (by decide) (fun c9 => absurd c9 (by decide)) (fun _ => ?_)
        refine lv_iconst (v := 0) hx hb dX3_prepare_58 (by decide) ?_
        have ht9 : tPrepare cn ar (nI j0) p1 p2 p3 = (1 : Int32) := by simp [tPrepare, b_2, hnj0, b_4, b_6]
        exact k_iret hx hb hr rfl hlocks hG hz hM hS (Nat.le_of_ble_eq_true rfl) (Nat.le_of_ble_eq_true rfl) dX3_prepare_59 ⟨_, rfl, mPost.bad ht9 (by decide) hPm hfr⟩
    · refine W.eq (g2 := F0 m 16 ls [.int 0, .ref m0]) rfl ?_
      refine lv_if_eq (tgt := 29) hx hb dX3_prepare_16 (by decide) (fun _ => ?_) (fun c9 => absurd (by decide) c9)
      refine lv_iconst (v := 1) hx hb dX3_prepare_29 (by decide) ?_
      refine lv_goto (tgt := 48) hx hb dX3_prepare_30 (by decide) ?_
      refine r_put (ci := 7) (ty := .int) (v := .int 1) hF in_X3 tyX3 tyX3_ok nmX3 hG hM hS hPm.1 rfl 28 (by decide) q785 (fun _ h => h) rfl (by decide +kernel) rfl rfl (Nat.le_of_ble_eq_true rfl) dX3_prepare_48 (fun H locs hM hS => ?_)
      obtain ⟨M_27, hM, hPm, hfr⟩ := PicM.stepF (cn' := cn) (lim' := lim) (th' := 1) hPm hfr hM
      refine lv_aload_n hx hb dX3_prepare_51 rfl (lv_at hl 0 rfl) ?_
      refine r_get (ci := 7) hF in_X3 hG hM hPm.1 rfl 28 (by decide) q785 (fun _ h => h) (.int 1) rfl dX3_prepare_52 ?_
      refine lv_if_le (tgt := 60) hx hb dX3_prepare_55 (by decide) (fun c9 => absurd c9 (by decide)) (fun _ => ?_)
      refine lv_iconst (v := 0) hx hb dX3_prepare_58 (by decide) ?_
      have ht9 : tPrepare cn ar (nI j0) p1 p2 p3 = (1 : Int32) := by simp [tPrepare, b_2, hnj0, b_4]
      exact k_iret hx hb hr rfl hlocks hG hz hM hS (Nat.le_of_ble_eq_true rfl) (Nat.le_of_ble_eq_true rfl) dX3_prepare_59 ⟨_, rfl, mPost.bad ht9 (by decide) hPm hfr⟩
  · refine W.eq (g2 := F0 m 6 ls [.int 0, .ref m0]) rfl ?_
    refine lv_if_eq (tgt := 29) hx hb dX3_prepare_6 (by decide) (fun _ => ?_) (fun c9 => absurd (by decide) c9)
    refine lv_iconst (v := 1) hx hb dX3_prepare_29 (by decide) ?_
    refine lv_goto (tgt := 48) hx hb dX3_prepare_30 (by decide) ?_
    refine r_put (ci := 7) (ty := .int) (v := .int 1) hF in_X3 tyX3 tyX3_ok nmX3 hG hM hS hPm.1 rfl 28 (by decide) q785 (fun _ h => h) rfl (by decide +kernel) rfl rfl (Nat.le_of_ble_eq_true rfl) dX3_prepare_48 (fun H locs hM hS => ?_)
    obtain ⟨M_28, hM, hPm, hfr⟩ := PicM.stepF (cn' := cn) (lim' := lim) (th' := 1) hPm hfr hM
    refine lv_aload_n hx hb dX3_prepare_51 rfl (lv_at hl 0 rfl) ?_
    refine r_get (ci := 7) hF in_X3 hG hM hPm.1 rfl 28 (by decide) q785 (fun _ h => h) (.int 1) rfl dX3_prepare_52 ?_
    refine lv_if_le (tgt := 60) hx hb dX3_prepare_55 (by decide) (fun c9 => absurd c9 (by decide)) (fun _ => ?_)
    refine lv_iconst (v := 0) hx hb dX3_prepare_58 (by decide) ?_
    have ht9 : tPrepare cn ar p0 p1 p2 p3 = (1 : Int32) := by simp [tPrepare, b_2]
    exact k_iret hx hb hr rfl hlocks hG hz hM hS (Nat.le_of_ble_eq_true rfl) (Nat.le_of_ble_eq_true rfl) dX3_prepare_59 ⟨_, rfl, mPost.bad ht9 (by decide) hPm hfr⟩
set_option maxHeartbeats 4000000 in
set_option maxRecDepth 100000 in
theorem metX3_isPayment {l : Launch} {z : Nat} {E : EE} {M : MM} {m0 : Nat} {aa : Nat → Nat} {cn : Nat → Nat} {lim th : Int32} {ar : Nat → Nat → Int32} (hPm : PicM E M m0 aa cn lim th ar) (hW : WF cn lim ar) (p0 : Int32) : Kt l yX3_isPayment (ws_ yX3_isPayment cX3_isPayment 2 (some .boolean)) ({ frames := 20, cells := 0, slots := 0, locals := 600 } : Room) z E [.ref m0, .int p0] M (pI (fun r M' => ((inB (cn 2) p0 = true ∧ r = 1 ∧ PicM E M' m0 aa cn lim 0 ar) ∨ (inB (cn 2) p0 = false ∧ r = 0 ∧ PicM E M' m0 aa cn lim 1 ar)) ∧ Fr kM M M')) xNo 0 0 := by
  refine k_body RX3 (by decide) rfl (Nat.le_of_ble_eq_true rfl) ?_
  intro p e s m args below meth c hx hb hr hml hown hlocks hname hno hts hz hG hM hS ls hl
  have hF : CallFix p m c cX3_isPayment 2 s args lw_all RX3 := ⟨hx, hb, hml, hown, hts⟩
  have hl : lv_has ls 2 [(0, .ref m0), (1, .int p0)] := hl
  have hfr : Fr kM M M := Fr.rf
  have hwb := hW.b
  refine lv_aload_n hx hb dX3_isPayment_0 rfl (lv_at hl 0 rfl) ?_
  refine lv_iload_n hx hb dX3_isPayment_1 rfl (lv_at hl 1 rfl) ?_
  refine lv_iconst (v := 0) hx hb dX3_isPayment_2 (by decide) ?_
  refine lv_aload_n hx hb dX3_isPayment_3 rfl (lv_at hl 0 rfl) ?_
  refine r_get (ci := 7) hF in_X3 hG hM hPm.1 rfl 15 (by decide) q772 (fun _ h => h) (.int (nI (cn 2))) rfl dX3_isPayment_4 ?_
  refine lv_iconst (v := 1) hx hb dX3_isPayment_7 (by decide) ?_
  refine lv_isub hx hb dX3_isPayment_8 ?_
  refine kS (k9 := 0) (n9 := 0) hF hG hz hM hS [.int p0, .int 0, .int ((nI (cn 2)) - 1)] [.ref m0] (metX3_in p0 0 ((nI (cn 2)) - 1)) (va_cwS 3 hts (lw_S q857 q858 q27 q859) rfl rfl rfl (by decide +kernel) ⟨(Nat.le_of_ble_eq_true rfl), (Nat.le_of_ble_eq_true rfl)⟩) rfl hl.1 rfl (Nat.le_of_ble_eq_true rfl) dX3_isPayment_9 rfl rfl (Nat.le_of_ble_eq_true rfl) (Nat.le_of_ble_eq_true rfl) (fun _ _ _ _ _ h9 _ _ _ _ _ => h9.elim) (fun v9 M9_1 H locs hp9 hM9_1 hS => ?_)
  obtain ⟨r_1, rfl, b_2, rfl⟩ := hp9
  have hM := hM9_1
  rw [inB_inR (n := (cn 2)) (by omega)] at b_2
  rcases b_2 with ⟨b_2, rfl⟩ | ⟨b_2, rfl⟩
  · refine W.eq (g2 := F0 m 12 ls [.int 1, .ref m0]) rfl ?_
    refine lv_if_eq (tgt := 19) hx hb dX3_isPayment_12 (by decide) (fun c9 => absurd c9 (by decide)) (fun _ => ?_)
    refine lv_iconst (v := 0) hx hb dX3_isPayment_15 (by decide) ?_
    refine lv_goto (tgt := 20) hx hb dX3_isPayment_16 (by decide) ?_
    refine r_put (ci := 7) (ty := .int) (v := .int 0) hF in_X3 tyX3 tyX3_ok nmX3 hG hM hS hPm.1 rfl 28 (by decide) q785 (fun _ h => h) rfl (by decide +kernel) rfl rfl (Nat.le_of_ble_eq_true rfl) dX3_isPayment_20 (fun H locs hM hS => ?_)
    obtain ⟨M_3, hM, hPm, hfr⟩ := PicM.stepF (cn' := cn) (lim' := lim) (th' := 0) hPm hfr hM
    refine lv_aload_n hx hb dX3_isPayment_23 rfl (lv_at hl 0 rfl) ?_
    refine r_get (ci := 7) hF in_X3 hG hM hPm.1 rfl 28 (by decide) q785 (fun _ h => h) (.int 0) rfl dX3_isPayment_24 ?_
    refine lv_if_ne (tgt := 34) hx hb dX3_isPayment_27 (by decide) (fun c9 => absurd c9 (by decide)) (fun _ => ?_)
    refine lv_iconst (v := 1) hx hb dX3_isPayment_30 (by decide) ?_
    refine lv_goto (tgt := 35) hx hb dX3_isPayment_31 (by decide) ?_
    exact k_iret hx hb hr rfl hlocks hG hz hM hS (Nat.le_of_ble_eq_true rfl) (Nat.le_of_ble_eq_true rfl) dX3_isPayment_35 ⟨_, rfl, Or.inl ⟨b_2, rfl, hPm⟩, hfr⟩
  · refine W.eq (g2 := F0 m 12 ls [.int 0, .ref m0]) rfl ?_
    refine lv_if_eq (tgt := 19) hx hb dX3_isPayment_12 (by decide) (fun _ => ?_) (fun c9 => absurd (by decide) c9)
    refine lv_iconst (v := 1) hx hb dX3_isPayment_19 (by decide) ?_
    refine r_put (ci := 7) (ty := .int) (v := .int 1) hF in_X3 tyX3 tyX3_ok nmX3 hG hM hS hPm.1 rfl 28 (by decide) q785 (fun _ h => h) rfl (by decide +kernel) rfl rfl (Nat.le_of_ble_eq_true rfl) dX3_isPayment_20 (fun H locs hM hS => ?_)
    obtain ⟨M_4, hM, hPm, hfr⟩ := PicM.stepF (cn' := cn) (lim' := lim) (th' := 1) hPm hfr hM
    refine lv_aload_n hx hb dX3_isPayment_23 rfl (lv_at hl 0 rfl) ?_
    refine r_get (ci := 7) hF in_X3 hG hM hPm.1 rfl 28 (by decide) q785 (fun _ h => h) (.int 1) rfl dX3_isPayment_24 ?_
    refine lv_if_ne (tgt := 34) hx hb dX3_isPayment_27 (by decide) (fun _ => ?_) (fun c9 => absurd c9 (by decide))
    refine lv_iconst (v := 0) hx hb dX3_isPayment_34 (by decide) ?_
    exact k_iret hx hb hr rfl hlocks hG hz hM hS (Nat.le_of_ble_eq_true rfl) (Nat.le_of_ble_eq_true rfl) dX3_isPayment_35 ⟨_, rfl, Or.inr ⟨b_2, rfl, hPm⟩, hfr⟩
set_option maxHeartbeats 4000000 in
set_option maxRecDepth 100000 in
theorem metX3_splits {l : Launch} {z : Nat} {E : EE} {M : MM} {m0 : Nat} {aa : Nat → Nat} {cn : Nat → Nat} {lim th : Int32} {ar : Nat → Nat → Int32} (hPm : PicM E M m0 aa cn lim th ar) (j0 : Nat) (hj : j0 < 40) (hc2 : cn 2 ≤ 40) : Kt l yX3_splits (ws_ yX3_splits cX3_splits 5 (some .boolean)) ({ frames := 10, cells := 0, slots := 0, locals := 300 } : Room) z E [.ref m0, .int (nI j0)] M (pI (fun r M' => bRes (spl (cn 2) lim ar j0) r ∧ M = M')) xNo 0 0 := by
  refine k_body RX3 (by decide) rfl (Nat.le_of_ble_eq_true rfl) ?_
  intro p e s m args below meth c hx hb hr hml hown hlocks hname hno hts hz hG hM hS ls hl
  have hF : CallFix p m c cX3_splits 5 s args lw_all RX3 := ⟨hx, hb, hml, hown, hts⟩
  have hl : lv_has ls 5 [(0, .ref m0), (1, .int (nI j0))] := hl
  have hfr : Fr kM M M := Fr.rf
  refine lv_aload_n hx hb dX3_splits_0 rfl (lv_at hl 0 rfl) ?_
  refine r_get (ci := 7) hF in_X3 hG hM hPm.1 rfl 21 (by decide) q778 (fun _ h => h) (.ref (aa 16)) rfl dX3_splits_1 ?_
  refine lv_iload_n hx hb dX3_splits_4 rfl (lv_at hl 1 rfl) ?_
  refine r_ialdN (n := 40) (f := (ar 16)) j0 hF hG hM hPm.a16 (by omega) (by decide) rfl dX3_splits_5 ?_
  refine lv_iconst (v := 2) hx hb dX3_splits_6 (by decide) ?_
  refine lv_icmp_eq (tgt := 23) hx hb dX3_splits_7 (by decide) (fun c_1 => ?_) (fun c_1 => ?_)
  · refine lv_iconst (v := 0) hx hb dX3_splits_23 (by decide) ?_
    exact k_iret hx hb hr rfl hlocks hG hz hM hS (Nat.le_of_ble_eq_true rfl) (Nat.le_of_ble_eq_true rfl) dX3_splits_24 ⟨_, rfl, Or.inr ⟨by simp [spl, belowB, (eq_true c_1)], rfl⟩, rfl⟩
  · refine lv_aload_n hx hb dX3_splits_10 rfl (lv_at hl 0 rfl) ?_
    refine r_get (ci := 7) hF in_X3 hG hM hPm.1 rfl 18 (by decide) q775 (fun _ h => h) (.ref (aa 13)) rfl dX3_splits_11 ?_
    refine lv_iload_n hx hb dX3_splits_14 rfl (lv_at hl 1 rfl) ?_
    refine r_ialdN (n := 40) (f := (ar 13)) j0 hF hG hM hPm.a13 (by omega) (by decide) rfl dX3_splits_15 ?_
    refine lv_aload_n hx hb dX3_splits_16 rfl (lv_at hl 0 rfl) ?_
    refine r_get (ci := 7) hF in_X3 hG hM hPm.1 rfl 14 (by decide) q771 (fun _ h => h) (.int lim) rfl dX3_splits_17 ?_
    refine lv_icmp_lt (tgt := 25) hx hb dX3_splits_20 (by decide) (fun c_2 => ?_) (fun c_2 => ?_)
    · have c_2B := Int32.not_le.mpr c_2
      refine lv_iconst (v := 0) hx hb dX3_splits_25 (by decide) ?_
      refine lv_istore_n (lv' := [(2, .int 0), (0, .ref m0), (1, .int (nI j0))]) hx hb dX3_splits_26 rfl hl (by decide) rfl (fun ls hl => ?_)
      refine lv_iconst (v := 0) hx hb dX3_splits_27 (by decide) ?_
      refine lv_istore_n (lv' := [(3, .int 0), (2, .int 0), (0, .ref m0), (1, .int (nI j0))]) hx hb dX3_splits_28 rfl hl (by decide) rfl (fun ls hl => ?_)
      have loop : ∀ (n k : Nat), k ≤ (cn 2) → (cn 2) - k < n → ∀ (H : Heap) (locs : List Loc), Mod z E M H → va_S (zA z) s.heap H locs → ∀ (ls : Array Slot), lv_has ls 5 [(3, .int (nI k)), (2, .int (splF lim ar j0 k)), (0, .ref m0), (1, .int (nI j0))] → W p l e ({ frames := 10, cells := 0, slots := 0, locals := 300 } : Room) s m args below meth c H locs 0 0 (vx_MQ below (Qg z E (pI (fun r M' => bRes (spl (cn 2) lim ar j0) r ∧ M = M'))) (XCm z E M xNo) args s 0 0 (zA z)) (F0 m 29 ls []) := by
        intro n
        induction n with
        | zero => intro k h1 h2; omega
        | succ n ih =>
          intro k hk1 hk2 H locs hM hS ls hl
          refine lv_iload_n hx hb dX3_splits_29 rfl (lv_at hl 0 rfl) ?_
          refine lv_aload_n hx hb dX3_splits_30 rfl (lv_at hl 2 rfl) ?_
          refine r_get (ci := 7) hF in_X3 hG hM hPm.1 rfl 15 (by decide) q772 (fun _ h => h) (.int (nI (cn 2))) rfl dX3_splits_31 ?_
          refine lv_icmp_ge (tgt := 136) hx hb dX3_splits_34 (by decide) (fun c_3 => ?_) (fun c_3 => ?_)
          · have c_3R := c_3
            have c_3 : (cn 2) ≤ k := (nI_leI (a := (cn 2)) (b := k) (by omega) (by omega)).mp c_3R
            have c_3B : ¬ (k < (cn 2)) := by omega
            have c_3RB := Int32.not_lt.mpr c_3R
            have e8 : k = cn 2 := by omega
            subst e8
            refine lv_iload_n hx hb dX3_splits_136 rfl (lv_at hl 1 rfl) ?_
            refine lv_aload_n hx hb dX3_splits_137 rfl (lv_at hl 2 rfl) ?_
            refine r_get (ci := 7) hF in_X3 hG hM hPm.1 rfl 14 (by decide) q771 (fun _ h => h) (.int lim) rfl dX3_splits_138 ?_
            refine lv_icmp_lt (tgt := 148) hx hb dX3_splits_141 (by decide) (fun c_4 => ?_) (fun c_4 => ?_)
            · have c_4B := Int32.not_le.mpr c_4
              refine lv_iconst (v := 0) hx hb dX3_splits_148 (by decide) ?_
              exact k_iret hx hb hr rfl hlocks hG hz hM hS (Nat.le_of_ble_eq_true rfl) (Nat.le_of_ble_eq_true rfl) dX3_splits_149 ⟨_, rfl, Or.inr ⟨by simp [spl, belowB, c_1, c_2, c_2B, c_3, c_3B, c_3R, c_3RB, c_4, c_4B], rfl⟩, rfl⟩
            · have c_4B := Int32.not_lt.mp c_4
              refine lv_iconst (v := 1) hx hb dX3_splits_144 (by decide) ?_
              refine lv_goto (tgt := 149) hx hb dX3_splits_145 (by decide) ?_
              exact k_iret hx hb hr rfl hlocks hG hz hM hS (Nat.le_of_ble_eq_true rfl) (Nat.le_of_ble_eq_true rfl) dX3_splits_149 ⟨_, rfl, Or.inl ⟨by simp [spl, belowB, c_1, c_2, c_2B, c_3, c_3B, c_3R, c_3RB, c_4, c_4B], rfl⟩, rfl⟩
          · have c_3R := c_3
            have c_3 : ¬ ((cn 2) ≤ k) := fun h9 => c_3R ((nI_leI (a := (cn 2)) (b := k) (by omega) (by omega)).mpr h9)
            have c_3B : k < (cn 2) := by omega
            have c_3RB := Int32.not_le.mp c_3R
            refine lv_aload_n hx hb dX3_splits_37 rfl (lv_at hl 2 rfl) ?_
            refine r_get (ci := 7) hF in_X3 hG hM hPm.1 rfl 16 (by decide) q773 (fun _ h => h) (.ref (aa 11)) rfl dX3_splits_38 ?_
            refine lv_iload_n hx hb dX3_splits_41 rfl (lv_at hl 0 rfl) ?_
            refine r_ialdN (n := 40) (f := (ar 11)) k hF hG hM hPm.a11 (by omega) (by decide) rfl dX3_splits_42 ?_
            refine lv_aload_n hx hb dX3_splits_43 rfl (lv_at hl 2 rfl) ?_
            refine r_get (ci := 7) hF in_X3 hG hM hPm.1 rfl 16 (by decide) q773 (fun _ h => h) (.ref (aa 11)) rfl dX3_splits_44 ?_
            refine lv_iload_n hx hb dX3_splits_47 rfl (lv_at hl 3 rfl) ?_
            refine r_ialdN (n := 40) (f := (ar 11)) j0 hF hG hM hPm.a11 (by omega) (by decide) rfl dX3_splits_48 ?_
            refine lv_icmp_ne (tgt := 86) hx hb dX3_splits_49 (by decide) (fun c_5 => ?_) (fun c_5 => ?_)
            · refine lv_iconst (v := 0) hx hb dX3_splits_86 (by decide) ?_
              refine lv_istore (lv' := [(4, .int 0), (3, .int (nI k)), (2, .int (splF lim ar j0 k)), (0, .ref m0), (1, .int (nI j0))]) hx hb dX3_splits_87 hl (by decide) rfl (fun ls hl => ?_)
              refine lv_iload_n hx hb dX3_splits_89 rfl (lv_at hl 2 rfl) ?_
              refine lv_iload hx hb dX3_splits_90 (lv_at hl 0 rfl) ?_
              refine lv_if_eq (tgt := 127) hx hb dX3_splits_92 (by decide) (fun _ => ?_) (fun c9 => absurd (by decide) c9)
              refine lv_iconst (v := 0) hx hb dX3_splits_127 (by decide) ?_
              refine lv_iadd hx hb dX3_splits_128 ?_
              refine lv_istore_n (lv' := [(2, .int ((splF lim ar j0 k) + 0)), (4, .int 0), (3, .int (nI k)), (0, .ref m0), (1, .int (nI j0))]) hx hb dX3_splits_129 rfl hl (by decide) rfl (fun ls hl => ?_)
              refine lv_iinc (v := (nI (k + 1))) (lv' := [(3, .int (nI (k + 1))), (2, .int ((splF lim ar j0 k) + 0)), (4, .int 0), (0, .ref m0), (1, .int (nI j0))]) hx hb dX3_splits_130 hl (k := 2) rfl (by rw [← nI_1]; rfl) (by decide) rfl (fun ls hl => ?_)
              refine lv_goto (tgt := 29) hx hb dX3_splits_133 (by decide) ?_
              have e_6 : ((splF lim ar j0 k) + 0) = (splF lim ar j0 (k + 1)) := by first | rfl | (simp only [splF, alike, belowB, c_1, c_2, c_2B, c_3, c_3B, c_3R, c_3RB, c_5]; done) | (simp only [splF, alike, belowB, c_1, c_2, c_2B, c_3, c_3B, c_3R, c_3RB, c_5]; rfl) | simp [splF, alike, belowB, c_1, c_2, c_2B, c_3, c_3B, c_3R, c_3RB, c_5]
              rw [e_6] at hl
              exact ih (k + 1) (by omega) (by omega) _ _ hM hS ls (lv_sub hl [0, 1, 3, 4] rfl)
            · refine lv_aload_n hx hb dX3_splits_52 rfl (lv_at hl 2 rfl) ?_
              refine r_get (ci := 7) hF in_X3 hG hM hPm.1 rfl 17 (by decide) q774 (fun _ h => h) (.ref (aa 12)) rfl dX3_splits_53 ?_
              refine lv_iload_n hx hb dX3_splits_56 rfl (lv_at hl 0 rfl) ?_
              refine r_ialdN (n := 40) (f := (ar 12)) k hF hG hM hPm.a12 (by omega) (by decide) rfl dX3_splits_57 ?_
              refine lv_aload_n hx hb dX3_splits_58 rfl (lv_at hl 2 rfl) ?_
              refine r_get (ci := 7) hF in_X3 hG hM hPm.1 rfl 17 (by decide) q774 (fun _ h => h) (.ref (aa 12)) rfl dX3_splits_59 ?_
              refine lv_iload_n hx hb dX3_splits_62 rfl (lv_at hl 3 rfl) ?_
              refine r_ialdN (n := 40) (f := (ar 12)) j0 hF hG hM hPm.a12 (by omega) (by decide) rfl dX3_splits_63 ?_
              refine lv_icmp_ne (tgt := 86) hx hb dX3_splits_64 (by decide) (fun c_7 => ?_) (fun c_7 => ?_)
              · refine lv_iconst (v := 0) hx hb dX3_splits_86 (by decide) ?_
                refine lv_istore (lv' := [(4, .int 0), (3, .int (nI k)), (2, .int (splF lim ar j0 k)), (0, .ref m0), (1, .int (nI j0))]) hx hb dX3_splits_87 hl (by decide) rfl (fun ls hl => ?_)
                refine lv_iload_n hx hb dX3_splits_89 rfl (lv_at hl 2 rfl) ?_
                refine lv_iload hx hb dX3_splits_90 (lv_at hl 0 rfl) ?_
                refine lv_if_eq (tgt := 127) hx hb dX3_splits_92 (by decide) (fun _ => ?_) (fun c9 => absurd (by decide) c9)
                refine lv_iconst (v := 0) hx hb dX3_splits_127 (by decide) ?_
                refine lv_iadd hx hb dX3_splits_128 ?_
                refine lv_istore_n (lv' := [(2, .int ((splF lim ar j0 k) + 0)), (4, .int 0), (3, .int (nI k)), (0, .ref m0), (1, .int (nI j0))]) hx hb dX3_splits_129 rfl hl (by decide) rfl (fun ls hl => ?_)
                refine lv_iinc (v := (nI (k + 1))) (lv' := [(3, .int (nI (k + 1))), (2, .int ((splF lim ar j0 k) + 0)), (4, .int 0), (0, .ref m0), (1, .int (nI j0))]) hx hb dX3_splits_130 hl (k := 2) rfl (by rw [← nI_1]; rfl) (by decide) rfl (fun ls hl => ?_)
                refine lv_goto (tgt := 29) hx hb dX3_splits_133 (by decide) ?_
                have e_8 : ((splF lim ar j0 k) + 0) = (splF lim ar j0 (k + 1)) := by first | rfl | (simp only [splF, alike, belowB, c_1, c_2, c_2B, c_3, c_3B, c_3R, c_3RB, (eq_true c_5), c_7]; done) | (simp only [splF, alike, belowB, c_1, c_2, c_2B, c_3, c_3B, c_3R, c_3RB, (eq_true c_5), c_7]; rfl) | simp [splF, alike, belowB, c_1, c_2, c_2B, c_3, c_3B, c_3R, c_3RB, (eq_true c_5), c_7]
                rw [e_8] at hl
                exact ih (k + 1) (by omega) (by omega) _ _ hM hS ls (lv_sub hl [0, 1, 3, 4] rfl)
              · refine lv_aload_n hx hb dX3_splits_67 rfl (lv_at hl 2 rfl) ?_
                refine r_get (ci := 7) hF in_X3 hG hM hPm.1 rfl 20 (by decide) q777 (fun _ h => h) (.ref (aa 15)) rfl dX3_splits_68 ?_
                refine lv_iload_n hx hb dX3_splits_71 rfl (lv_at hl 0 rfl) ?_
                refine r_ialdN (n := 40) (f := (ar 15)) k hF hG hM hPm.a15 (by omega) (by decide) rfl dX3_splits_72 ?_
                refine lv_aload_n hx hb dX3_splits_73 rfl (lv_at hl 2 rfl) ?_
                refine r_get (ci := 7) hF in_X3 hG hM hPm.1 rfl 20 (by decide) q777 (fun _ h => h) (.ref (aa 15)) rfl dX3_splits_74 ?_
                refine lv_iload_n hx hb dX3_splits_77 rfl (lv_at hl 3 rfl) ?_
                refine r_ialdN (n := 40) (f := (ar 15)) j0 hF hG hM hPm.a15 (by omega) (by decide) rfl dX3_splits_78 ?_
                refine lv_icmp_ne (tgt := 86) hx hb dX3_splits_79 (by decide) (fun c_9 => ?_) (fun c_9 => ?_)
                · refine lv_iconst (v := 0) hx hb dX3_splits_86 (by decide) ?_
                  refine lv_istore (lv' := [(4, .int 0), (3, .int (nI k)), (2, .int (splF lim ar j0 k)), (0, .ref m0), (1, .int (nI j0))]) hx hb dX3_splits_87 hl (by decide) rfl (fun ls hl => ?_)
                  refine lv_iload_n hx hb dX3_splits_89 rfl (lv_at hl 2 rfl) ?_
                  refine lv_iload hx hb dX3_splits_90 (lv_at hl 0 rfl) ?_
                  refine lv_if_eq (tgt := 127) hx hb dX3_splits_92 (by decide) (fun _ => ?_) (fun c9 => absurd (by decide) c9)
                  refine lv_iconst (v := 0) hx hb dX3_splits_127 (by decide) ?_
                  refine lv_iadd hx hb dX3_splits_128 ?_
                  refine lv_istore_n (lv' := [(2, .int ((splF lim ar j0 k) + 0)), (4, .int 0), (3, .int (nI k)), (0, .ref m0), (1, .int (nI j0))]) hx hb dX3_splits_129 rfl hl (by decide) rfl (fun ls hl => ?_)
                  refine lv_iinc (v := (nI (k + 1))) (lv' := [(3, .int (nI (k + 1))), (2, .int ((splF lim ar j0 k) + 0)), (4, .int 0), (0, .ref m0), (1, .int (nI j0))]) hx hb dX3_splits_130 hl (k := 2) rfl (by rw [← nI_1]; rfl) (by decide) rfl (fun ls hl => ?_)
                  refine lv_goto (tgt := 29) hx hb dX3_splits_133 (by decide) ?_
                  have e_10 : ((splF lim ar j0 k) + 0) = (splF lim ar j0 (k + 1)) := by first | rfl | (simp only [splF, alike, belowB, c_1, c_2, c_2B, c_3, c_3B, c_3R, c_3RB, (eq_true c_5), (eq_true c_7), c_9]; done) | (simp only [splF, alike, belowB, c_1, c_2, c_2B, c_3, c_3B, c_3R, c_3RB, (eq_true c_5), (eq_true c_7), c_9]; rfl) | simp [splF, alike, belowB, c_1, c_2, c_2B, c_3, c_3B, c_3R, c_3RB, (eq_true c_5), (eq_true c_7), c_9]
                  rw [e_10] at hl
                  exact ih (k + 1) (by omega) (by omega) _ _ hM hS ls (lv_sub hl [0, 1, 3, 4] rfl)
                · refine lv_iconst (v := 1) hx hb dX3_splits_82 (by decide) ?_
                  refine lv_goto (tgt := 87) hx hb dX3_splits_83 (by decide) ?_
                  refine lv_istore (lv' := [(4, .int 1), (3, .int (nI k)), (2, .int (splF lim ar j0 k)), (0, .ref m0), (1, .int (nI j0))]) hx hb dX3_splits_87 hl (by decide) rfl (fun ls hl => ?_)
                  refine lv_iload_n hx hb dX3_splits_89 rfl (lv_at hl 2 rfl) ?_
                  refine lv_iload hx hb dX3_splits_90 (lv_at hl 0 rfl) ?_
                  refine lv_if_eq (tgt := 127) hx hb dX3_splits_92 (by decide) (fun c9 => absurd c9 (by decide)) (fun _ => ?_)
                  refine lv_aload_n hx hb dX3_splits_95 rfl (lv_at hl 3 rfl) ?_
                  refine r_get (ci := 7) hF in_X3 hG hM hPm.1 rfl 21 (by decide) q778 (fun _ h => h) (.ref (aa 16)) rfl dX3_splits_96 ?_
                  refine lv_iload_n hx hb dX3_splits_99 rfl (lv_at hl 1 rfl) ?_
                  refine r_ialdN (n := 40) (f := (ar 16)) k hF hG hM hPm.a16 (by omega) (by decide) rfl dX3_splits_100 ?_
                  refine lv_iconst (v := 2) hx hb dX3_splits_101 (by decide) ?_
                  refine lv_icmp_eq (tgt := 127) hx hb dX3_splits_102 (by decide) (fun c_11 => ?_) (fun c_11 => ?_)
                  · refine lv_iconst (v := 0) hx hb dX3_splits_127 (by decide) ?_
                    refine lv_iadd hx hb dX3_splits_128 ?_
                    refine lv_istore_n (lv' := [(2, .int ((splF lim ar j0 k) + 0)), (4, .int 1), (3, .int (nI k)), (0, .ref m0), (1, .int (nI j0))]) hx hb dX3_splits_129 rfl hl (by decide) rfl (fun ls hl => ?_)
                    refine lv_iinc (v := (nI (k + 1))) (lv' := [(3, .int (nI (k + 1))), (2, .int ((splF lim ar j0 k) + 0)), (4, .int 1), (0, .ref m0), (1, .int (nI j0))]) hx hb dX3_splits_130 hl (k := 2) rfl (by rw [← nI_1]; rfl) (by decide) rfl (fun ls hl => ?_)
                    refine lv_goto (tgt := 29) hx hb dX3_splits_133 (by decide) ?_
                    have e_12 : ((splF lim ar j0 k) + 0) = (splF lim ar j0 (k + 1)) := by first | rfl | (simp only [splF, alike, belowB, c_1, c_2, c_2B, c_3, c_3B, c_3R, c_3RB, (eq_true c_5), (eq_true c_7), (eq_true c_9), (eq_true c_11)]; done) | (simp only [splF, alike, belowB, c_1, c_2, c_2B, c_3, c_3B, c_3R, c_3RB, (eq_true c_5), (eq_true c_7), (eq_true c_9), (eq_true c_11)]; rfl) | simp [splF, alike, belowB, c_1, c_2, c_2B, c_3, c_3B, c_3R, c_3RB, (eq_true c_5), (eq_true c_7), (eq_true c_9), (eq_true c_11)]
                    rw [e_12] at hl
                    exact ih (k + 1) (by omega) (by omega) _ _ hM hS ls (lv_sub hl [0, 1, 3, 4] rfl)
                  · refine lv_aload_n hx hb dX3_splits_105 rfl (lv_at hl 3 rfl) ?_
                    refine r_get (ci := 7) hF in_X3 hG hM hPm.1 rfl 18 (by decide) q775 (fun _ h => h) (.ref (aa 13)) rfl dX3_splits_106 ?_
                    refine lv_iload_n hx hb dX3_splits_109 rfl (lv_at hl 1 rfl) ?_
                    refine r_ialdN (n := 40) (f := (ar 13)) k hF hG hM hPm.a13 (by omega) (by decide) rfl dX3_splits_110 ?_
                    refine lv_aload_n hx hb dX3_splits_111 rfl (lv_at hl 3 rfl) ?_
                    refine r_get (ci := 7) hF in_X3 hG hM hPm.1 rfl 14 (by decide) q771 (fun _ h => h) (.int lim) rfl dX3_splits_112 ?_
                    refine lv_icmp_ge (tgt := 127) hx hb dX3_splits_115 (by decide) (fun c_13 => ?_) (fun c_13 => ?_)
                    · have c_13B := Int32.not_lt.mpr c_13
                      refine lv_iconst (v := 0) hx hb dX3_splits_127 (by decide) ?_
                      refine lv_iadd hx hb dX3_splits_128 ?_
                      refine lv_istore_n (lv' := [(2, .int ((splF lim ar j0 k) + 0)), (4, .int 1), (3, .int (nI k)), (0, .ref m0), (1, .int (nI j0))]) hx hb dX3_splits_129 rfl hl (by decide) rfl (fun ls hl => ?_)
                      refine lv_iinc (v := (nI (k + 1))) (lv' := [(3, .int (nI (k + 1))), (2, .int ((splF lim ar j0 k) + 0)), (4, .int 1), (0, .ref m0), (1, .int (nI j0))]) hx hb dX3_splits_130 hl (k := 2) rfl (by rw [← nI_1]; rfl) (by decide) rfl (fun ls hl => ?_)
                      refine lv_goto (tgt := 29) hx hb dX3_splits_133 (by decide) ?_
                      have e_14 : ((splF lim ar j0 k) + 0) = (splF lim ar j0 (k + 1)) := by first | rfl | (simp only [splF, alike, belowB, c_1, c_2, c_2B, c_3, c_3B, c_3R, c_3RB, (eq_true c_5), (eq_true c_7), (eq_true c_9), c_11, c_13, c_13B]; done) | (simp only [splF, alike, belowB, c_1, c_2, c_2B, c_3, c_3B, c_3R, c_3RB, (eq_true c_5), (eq_true c_7), (eq_true c_9), c_11, c_13, c_13B]; rfl) | simp [splF, alike, belowB, c_1, c_2, c_2B, c_3, c_3B, c_3R, c_3RB, (eq_true c_5), (eq_true c_7), (eq_true c_9), c_11, c_13, c_13B]
                      rw [e_14] at hl
                      exact ih (k + 1) (by omega) (by omega) _ _ hM hS ls (lv_sub hl [0, 1, 3, 4] rfl)
                    · have c_13B := Int32.not_le.mp c_13
                      refine lv_aload_n hx hb dX3_splits_118 rfl (lv_at hl 3 rfl) ?_
                      refine r_get (ci := 7) hF in_X3 hG hM hPm.1 rfl 18 (by decide) q775 (fun _ h => h) (.ref (aa 13)) rfl dX3_splits_119 ?_
                      refine lv_iload_n hx hb dX3_splits_122 rfl (lv_at hl 1 rfl) ?_
                      refine r_ialdN (n := 40) (f := (ar 13)) k hF hG hM hPm.a13 (by omega) (by decide) rfl dX3_splits_123 ?_
                      refine lv_goto (tgt := 128) hx hb dX3_splits_124 (by decide) ?_
                      refine lv_iadd hx hb dX3_splits_128 ?_
                      refine lv_istore_n (lv' := [(2, .int ((splF lim ar j0 k) + ((ar 13) k))), (4, .int 1), (3, .int (nI k)), (0, .ref m0), (1, .int (nI j0))]) hx hb dX3_splits_129 rfl hl (by decide) rfl (fun ls hl => ?_)
                      refine lv_iinc (v := (nI (k + 1))) (lv' := [(3, .int (nI (k + 1))), (2, .int ((splF lim ar j0 k) + ((ar 13) k))), (4, .int 1), (0, .ref m0), (1, .int (nI j0))]) hx hb dX3_splits_130 hl (k := 2) rfl (by rw [← nI_1]; rfl) (by decide) rfl (fun ls hl => ?_)
                      refine lv_goto (tgt := 29) hx hb dX3_splits_133 (by decide) ?_
                      have e_15 : ((splF lim ar j0 k) + ((ar 13) k)) = (splF lim ar j0 (k + 1)) := by first | rfl | (simp only [splF, alike, belowB, c_1, c_2, c_2B, c_3, c_3B, c_3R, c_3RB, (eq_true c_5), (eq_true c_7), (eq_true c_9), c_11, c_13, c_13B]; done) | (simp only [splF, alike, belowB, c_1, c_2, c_2B, c_3, c_3B, c_3R, c_3RB, (eq_true c_5), (eq_true c_7), (eq_true c_9), c_11, c_13, c_13B]; rfl) | simp [splF, alike, belowB, c_1, c_2, c_2B, c_3, c_3B, c_3R, c_3RB, (eq_true c_5), (eq_true c_7), (eq_true c_9), c_11, c_13, c_13B]
                      rw [e_15] at hl
                      exact ih (k + 1) (by omega) (by omega) _ _ hM hS ls (lv_sub hl [0, 1, 3, 4] rfl)
      exact loop ((cn 2) + 1) 0 (Nat.zero_le _) (by omega) _ _ hM hS ls (lv_sub hl [0, 1, 2, 3] rfl)
    · have c_2B := Int32.not_lt.mp c_2
      refine lv_iconst (v := 0) hx hb dX3_splits_23 (by decide) ?_
      exact k_iret hx hb hr rfl hlocks hG hz hM hS (Nat.le_of_ble_eq_true rfl) (Nat.le_of_ble_eq_true rfl) dX3_splits_24 ⟨_, rfl, Or.inr ⟨by simp [spl, belowB, c_1, c_2, c_2B], rfl⟩, rfl⟩
set_option maxHeartbeats 4000000 in
set_option maxRecDepth 100000 in
theorem metX3_release {l : Launch} {z : Nat} {E : EE} {M : MM} {m0 : Nat} {aa : Nat → Nat} {cn : Nat → Nat} {lim th : Int32} {ar : Nat → Nat → Int32} (hPm : PicM E M m0 aa cn lim th ar) (hW : WF cn lim ar) (p0 p1 : Int32) : Kt l yX3_release (ws_ yX3_release cX3_release 6 (some .int)) ({ frames := 50, cells := 0, slots := 0, locals := 1500 } : Room) z E [.ref m0, .int p0, .int p1] M (pI (fun r M' => mPost E M m0 aa (tRelease cn lim ar p0 p1) (aRelease cn lim ar p0) cn lim ar (cRelease cn lim ar p0) (lim) (rRelease cn lim ar p0 p1) r M')) xNo 0 0 := by
  refine k_body RX3 (by decide) rfl (Nat.le_of_ble_eq_true rfl) ?_
  intro p e s m args below meth c hx hb hr hml hown hlocks hname hno hts hz hG hM hS ls hl
  have hF : CallFix p m c cX3_release 6 s args lw_all RX3 := ⟨hx, hb, hml, hown, hts⟩
  have hl : lv_has ls 6 [(0, .ref m0), (1, .int p0), (2, .int p1)] := hl
  have hfr : Fr kM M M := Fr.rf
  have hwb := hW.b
  refine lv_aload_n hx hb dX3_release_0 rfl (lv_at hl 0 rfl) ?_
  refine lv_iload_n hx hb dX3_release_1 rfl (lv_at hl 1 rfl) ?_
  refine lv_iconst (v := 0) hx hb dX3_release_2 (by decide) ?_
  refine lv_aload_n hx hb dX3_release_3 rfl (lv_at hl 0 rfl) ?_
  refine r_get (ci := 7) hF in_X3 hG hM hPm.1 rfl 15 (by decide) q772 (fun _ h => h) (.int (nI (cn 2))) rfl dX3_release_4 ?_
  refine lv_iconst (v := 1) hx hb dX3_release_7 (by decide) ?_
  refine lv_isub hx hb dX3_release_8 ?_
  refine kS (k9 := 0) (n9 := 0) hF hG hz hM hS [.int p0, .int 0, .int ((nI (cn 2)) - 1)] [.ref m0] (metX3_in p0 0 ((nI (cn 2)) - 1)) (va_cwS 3 hts (lw_S q857 q858 q27 q859) rfl rfl rfl (by decide +kernel) ⟨(Nat.le_of_ble_eq_true rfl), (Nat.le_of_ble_eq_true rfl)⟩) rfl hl.1 rfl (Nat.le_of_ble_eq_true rfl) dX3_release_9 rfl rfl (Nat.le_of_ble_eq_true rfl) (Nat.le_of_ble_eq_true rfl) (fun _ _ _ _ _ h9 _ _ _ _ _ => h9.elim) (fun v9 M9_1 H locs hp9 hM9_1 hS => ?_)
  obtain ⟨r_1, rfl, b_2, rfl⟩ := hp9
  have hM := hM9_1
  rw [inB_inR (n := (cn 2)) (by omega)] at b_2
  rcases b_2 with ⟨b_2, rfl⟩ | ⟨b_2, rfl⟩
  · refine W.eq (g2 := F0 m 12 ls [.int 1, .ref m0]) rfl ?_
    obtain ⟨j0, hj0, rfl⟩ := inB_ex b_2 (by omega)
    have hnj0 : nx (nI j0) = j0 := nI_clamp (by omega)
    refine lv_if_eq (tgt := 24) hx hb dX3_release_12 (by decide) (fun c9 => absurd c9 (by decide)) (fun _ => ?_)
    refine lv_iload_n hx hb dX3_release_15 rfl (lv_at hl 2 rfl) ?_
    refine lv_iconst (v := 0) hx hb dX3_release_16 (by decide) ?_
    refine lv_iconst (v := 4) hx hb dX3_release_17 (by decide) ?_
    refine kS (k9 := 0) (n9 := 0) hF hG hz hM hS [.int p1, .int 0, .int 4] [.ref m0] (metX3_in p1 0 4) (va_cwS 3 hts (lw_S q857 q858 q27 q859) rfl rfl rfl (by decide +kernel) ⟨(Nat.le_of_ble_eq_true rfl), (Nat.le_of_ble_eq_true rfl)⟩) rfl hl.1 rfl (Nat.le_of_ble_eq_true rfl) dX3_release_18 rfl rfl (Nat.le_of_ble_eq_true rfl) (Nat.le_of_ble_eq_true rfl) (fun _ _ _ _ _ h9 _ _ _ _ _ => h9.elim) (fun v9 M9_2 H locs hp9 hM9_2 hS => ?_)
    obtain ⟨r_3, rfl, b_4, rfl⟩ := hp9
    have hM := hM9_2
    rcases b_4 with ⟨b_4, rfl⟩ | ⟨b_4, rfl⟩
    · refine W.eq (g2 := F0 m 21 ls [.int 1, .ref m0]) rfl ?_
      refine lv_if_ne (tgt := 28) hx hb dX3_release_21 (by decide) (fun _ => ?_) (fun c9 => absurd c9 (by decide))
      refine lv_iconst (v := 0) hx hb dX3_release_28 (by decide) ?_
      refine r_put (ci := 7) (ty := .int) (v := .int 0) hF in_X3 tyX3 tyX3_ok nmX3 hG hM hS hPm.1 rfl 28 (by decide) q785 (fun _ h => h) rfl (by decide +kernel) rfl rfl (Nat.le_of_ble_eq_true rfl) dX3_release_29 (fun H locs hM hS => ?_)
      obtain ⟨M_5, hM, hPm, hfr⟩ := PicM.stepF (cn' := cn) (lim' := lim) (th' := 0) hPm hfr hM
      refine lv_aload_n hx hb dX3_release_32 rfl (lv_at hl 0 rfl) ?_
      refine r_get (ci := 7) hF in_X3 hG hM hPm.1 rfl 28 (by decide) q785 (fun _ h => h) (.int 0) rfl dX3_release_33 ?_
      refine lv_if_le (tgt := 41) hx hb dX3_release_36 (by decide) (fun _ => ?_) (fun c9 => absurd (by decide) c9)
      refine lv_aload_n hx hb dX3_release_41 rfl (lv_at hl 0 rfl) ?_
      refine r_get (ci := 7) hF in_X3 hG hM hPm.1 rfl 21 (by decide) q778 (fun _ h => h) (.ref (aa 16)) rfl dX3_release_42 ?_
      refine lv_iload_n hx hb dX3_release_45 rfl (lv_at hl 1 rfl) ?_
      refine r_ialdN (n := 40) (f := (ar 16)) j0 hF hG hM hPm.a16 (by omega) (by decide) rfl dX3_release_46 ?_
      refine lv_if_ne (tgt := 74) hx hb dX3_release_47 (by decide) (fun c_6 => ?_) (fun c_6 => ?_)
      · refine lv_aload_n hx hb dX3_release_74 rfl (lv_at hl 0 rfl) ?_
        refine lv_iconst (v := 2) hx hb dX3_release_75 (by decide) ?_
        refine kV (k9 := 0) (n9 := 0) hF hG hz hM hS [.int 2] [] (metX3_fails hPm 2) (cwV 1 hts (lw_V q917 q919 qs14 q27 q920) rfl rfl rfl (by decide +kernel) ⟨(Nat.le_of_ble_eq_true rfl), (Nat.le_of_ble_eq_true rfl)⟩) (k_recv hG hM hPm.1 (ci := 7) rfl) rfl hl.1 rfl (Nat.le_of_ble_eq_true rfl) dX3_release_76 rfl rfl (Nat.le_of_ble_eq_true rfl) (Nat.le_of_ble_eq_true rfl) (fun _ _ _ _ _ h9 _ _ _ _ _ => h9.elim) (fun v9 M9_3 H locs hp9 hM9_3 hS => ?_)
        obtain ⟨r_7, rfl, r_7_e, hPm, hfr9⟩ := hp9
        have hM := hM9_3
        have hfr := hfr.tr hfr9
        subst r_7_e
        refine W.eq (g2 := F0 m 79 ls [.int 0]) rfl ?_
        have ht9 : tRelease cn lim ar (nI j0) p1 = (2 : Int32) := by simp [tRelease, b_2, hnj0, b_4, c_6]
        exact k_iret hx hb hr rfl hlocks hG hz hM hS (Nat.le_of_ble_eq_true rfl) (Nat.le_of_ble_eq_true rfl) dX3_release_79 ⟨_, rfl, mPost.bad ht9 (by decide) hPm hfr⟩
      · refine lv_aload_n hx hb dX3_release_50 rfl (lv_at hl 0 rfl) ?_
        refine r_get (ci := 7) hF in_X3 hG hM hPm.1 rfl 19 (by decide) q776 (fun _ h => h) (.ref (aa 14)) rfl dX3_release_51 ?_
        refine lv_iload_n hx hb dX3_release_54 rfl (lv_at hl 1 rfl) ?_
        refine r_ialdN (n := 40) (f := (ar 14)) j0 hF hG hM hPm.a14 (by omega) (by decide) rfl dX3_release_55 ?_
        refine lv_iload_n hx hb dX3_release_56 rfl (lv_at hl 2 rfl) ?_
        refine lv_icmp_eq (tgt := 74) hx hb dX3_release_57 (by decide) (fun c_9 => ?_) (fun c_9 => ?_)
        · refine lv_aload_n hx hb dX3_release_74 rfl (lv_at hl 0 rfl) ?_
          refine lv_iconst (v := 2) hx hb dX3_release_75 (by decide) ?_
          refine kV (k9 := 0) (n9 := 0) hF hG hz hM hS [.int 2] [] (metX3_fails hPm 2) (cwV 1 hts (lw_V q917 q919 qs14 q27 q920) rfl rfl rfl (by decide +kernel) ⟨(Nat.le_of_ble_eq_true rfl), (Nat.le_of_ble_eq_true rfl)⟩) (k_recv hG hM hPm.1 (ci := 7) rfl) rfl hl.1 rfl (Nat.le_of_ble_eq_true rfl) dX3_release_76 rfl rfl (Nat.le_of_ble_eq_true rfl) (Nat.le_of_ble_eq_true rfl) (fun _ _ _ _ _ h9 _ _ _ _ _ => h9.elim) (fun v9 M9_4 H locs hp9 hM9_4 hS => ?_)
          obtain ⟨r_10, rfl, r_10_e, hPm, hfr9⟩ := hp9
          have hM := hM9_4
          have hfr := hfr.tr hfr9
          subst r_10_e
          refine W.eq (g2 := F0 m 79 ls [.int 0]) rfl ?_
          have ht9 : tRelease cn lim ar (nI j0) p1 = (2 : Int32) := by simp [tRelease, b_2, hnj0, b_4, (eq_true c_6), (eq_true c_9)]
          exact k_iret hx hb hr rfl hlocks hG hz hM hS (Nat.le_of_ble_eq_true rfl) (Nat.le_of_ble_eq_true rfl) dX3_release_79 ⟨_, rfl, mPost.bad ht9 (by decide) hPm hfr⟩
        · refine lv_aload_n hx hb dX3_release_60 rfl (lv_at hl 0 rfl) ?_
          refine r_get (ci := 7) hF in_X3 hG hM hPm.1 rfl 22 (by decide) q779 (fun _ h => h) (.ref (aa 17)) rfl dX3_release_61 ?_
          refine lv_iload_n hx hb dX3_release_64 rfl (lv_at hl 1 rfl) ?_
          refine r_ialdN (n := 40) (f := (ar 17)) j0 hF hG hM hPm.a17 (by omega) (by decide) rfl dX3_release_65 ?_
          refine lv_iload_n hx hb dX3_release_66 rfl (lv_at hl 2 rfl) ?_
          refine lv_ishr hx hb dX3_release_67 ?_
          refine lv_iconst (v := 1) hx hb dX3_release_68 (by decide) ?_
          refine lv_iand hx hb dX3_release_69 ?_
          refine lv_iconst (v := 1) hx hb dX3_release_70 (by decide) ?_
          refine lv_icmp_ne (tgt := 80) hx hb dX3_release_71 (by decide) (fun c_12 => ?_) (fun c_12 => ?_)
          · refine lv_aload_n hx hb dX3_release_80 rfl (lv_at hl 0 rfl) ?_
            refine r_get (ci := 7) hF in_X3 hG hM hPm.1 rfl 18 (by decide) q775 (fun _ h => h) (.ref (aa 13)) rfl dX3_release_81 ?_
            refine lv_iload_n hx hb dX3_release_84 rfl (lv_at hl 1 rfl) ?_
            refine r_ialdN (n := 40) (f := (ar 13)) j0 hF hG hM hPm.a13 (by omega) (by decide) rfl dX3_release_85 ?_
            refine lv_aload_n hx hb dX3_release_86 rfl (lv_at hl 0 rfl) ?_
            refine r_get (ci := 7) hF in_X3 hG hM hPm.1 rfl 14 (by decide) q771 (fun _ h => h) (.int lim) rfl dX3_release_87 ?_
            refine lv_icmp_ge (tgt := 101) hx hb dX3_release_90 (by decide) (fun c_13 => ?_) (fun c_13 => ?_)
            · have c_13B := Int32.not_lt.mpr c_13
              refine lv_iconst (v := 2) hx hb dX3_release_101 (by decide) ?_
              refine lv_goto (tgt := 106) hx hb dX3_release_102 (by decide) ?_
              refine lv_istore_n (lv' := [(3, .int 2), (0, .ref m0), (1, .int (nI j0)), (2, .int p1)]) hx hb dX3_release_106 rfl hl (by decide) rfl (fun ls hl => ?_)
              refine lv_iconst (v := 1) hx hb dX3_release_107 (by decide) ?_
              refine lv_istore (lv' := [(4, .int 1), (3, .int 2), (0, .ref m0), (1, .int (nI j0)), (2, .int p1)]) hx hb dX3_release_108 hl (by decide) rfl (fun ls hl => ?_)
              refine lv_iconst (v := 0) hx hb dX3_release_110 (by decide) ?_
              refine lv_istore (lv' := [(5, .int 0), (4, .int 1), (3, .int 2), (0, .ref m0), (1, .int (nI j0)), (2, .int p1)]) hx hb dX3_release_111 hl (by decide) rfl (fun ls hl => ?_)
              refine lv_iload hx hb dX3_release_113 (lv_at hl 0 rfl) ?_
              refine lv_iconst (v := 5) hx hb dX3_release_115 (by decide) ?_
              refine lv_icmp_ge (tgt := 141) hx hb dX3_release_116 (by decide) (fun c9 => absurd c9 (by decide)) (fun _ => ?_)
              refine lv_iload hx hb dX3_release_119 (lv_at hl 1 rfl) ?_
              refine lv_aload_n hx hb dX3_release_121 rfl (lv_at hl 3 rfl) ?_
              refine r_get (ci := 7) hF in_X3 hG hM hPm.1 rfl 22 (by decide) q779 (fun _ h => h) (.ref (aa 17)) rfl dX3_release_122 ?_
              refine lv_iload_n hx hb dX3_release_125 rfl (lv_at hl 4 rfl) ?_
              refine r_ialdN (n := 40) (f := (ar 17)) j0 hF hG hM hPm.a17 (by omega) (by decide) rfl dX3_release_126 ?_
              refine lv_iload hx hb dX3_release_127 (lv_at hl 0 rfl) ?_
              refine lv_ishr hx hb dX3_release_129 ?_
              refine lv_iconst (v := 1) hx hb dX3_release_130 (by decide) ?_
              refine lv_iand hx hb dX3_release_131 ?_
              refine lv_iadd hx hb dX3_release_132 ?_
              refine lv_istore (lv' := [(4, .int ((1 : Int32) + ((((ar 17) j0) >>> (0 &&& 31 : Int32) : Int32) &&& 1 : Int32))), (5, .int 0), (3, .int 2), (0, .ref m0), (1, .int (nI j0)), (2, .int p1)]) hx hb dX3_release_133 hl (by decide) rfl (fun ls hl => ?_)
              refine lv_iinc (v := 1) (lv' := [(5, .int 1), (4, .int ((1 : Int32) + ((((ar 17) j0) >>> (0 &&& 31 : Int32) : Int32) &&& 1 : Int32))), (3, .int 2), (0, .ref m0), (1, .int (nI j0)), (2, .int p1)]) hx hb dX3_release_135 hl (k := 1) rfl (by decide) (by decide) rfl (fun ls hl => ?_)
              refine lv_goto (tgt := 113) hx hb dX3_release_138 (by decide) ?_
              refine lv_iload hx hb dX3_release_113 (lv_at hl 0 rfl) ?_
              refine lv_iconst (v := 5) hx hb dX3_release_115 (by decide) ?_
              refine lv_icmp_ge (tgt := 141) hx hb dX3_release_116 (by decide) (fun c9 => absurd c9 (by decide)) (fun _ => ?_)
              refine lv_iload hx hb dX3_release_119 (lv_at hl 1 rfl) ?_
              refine lv_aload_n hx hb dX3_release_121 rfl (lv_at hl 3 rfl) ?_
              refine r_get (ci := 7) hF in_X3 hG hM hPm.1 rfl 22 (by decide) q779 (fun _ h => h) (.ref (aa 17)) rfl dX3_release_122 ?_
              refine lv_iload_n hx hb dX3_release_125 rfl (lv_at hl 4 rfl) ?_
              refine r_ialdN (n := 40) (f := (ar 17)) j0 hF hG hM hPm.a17 (by omega) (by decide) rfl dX3_release_126 ?_
              refine lv_iload hx hb dX3_release_127 (lv_at hl 0 rfl) ?_
              refine lv_ishr hx hb dX3_release_129 ?_
              refine lv_iconst (v := 1) hx hb dX3_release_130 (by decide) ?_
              refine lv_iand hx hb dX3_release_131 ?_
              refine lv_iadd hx hb dX3_release_132 ?_
              refine lv_istore (lv' := [(4, .int (((1 : Int32) + ((((ar 17) j0) >>> (0 &&& 31 : Int32) : Int32) &&& 1 : Int32)) + ((((ar 17) j0) >>> (1 &&& 31 : Int32) : Int32) &&& 1 : Int32))), (5, .int 1), (3, .int 2), (0, .ref m0), (1, .int (nI j0)), (2, .int p1)]) hx hb dX3_release_133 hl (by decide) rfl (fun ls hl => ?_)
              refine lv_iinc (v := 2) (lv' := [(5, .int 2), (4, .int (((1 : Int32) + ((((ar 17) j0) >>> (0 &&& 31 : Int32) : Int32) &&& 1 : Int32)) + ((((ar 17) j0) >>> (1 &&& 31 : Int32) : Int32) &&& 1 : Int32))), (3, .int 2), (0, .ref m0), (1, .int (nI j0)), (2, .int p1)]) hx hb dX3_release_135 hl (k := 1) rfl (by decide) (by decide) rfl (fun ls hl => ?_)
              refine lv_goto (tgt := 113) hx hb dX3_release_138 (by decide) ?_
              refine lv_iload hx hb dX3_release_113 (lv_at hl 0 rfl) ?_
              refine lv_iconst (v := 5) hx hb dX3_release_115 (by decide) ?_
              refine lv_icmp_ge (tgt := 141) hx hb dX3_release_116 (by decide) (fun c9 => absurd c9 (by decide)) (fun _ => ?_)
              refine lv_iload hx hb dX3_release_119 (lv_at hl 1 rfl) ?_
              refine lv_aload_n hx hb dX3_release_121 rfl (lv_at hl 3 rfl) ?_
              refine r_get (ci := 7) hF in_X3 hG hM hPm.1 rfl 22 (by decide) q779 (fun _ h => h) (.ref (aa 17)) rfl dX3_release_122 ?_
              refine lv_iload_n hx hb dX3_release_125 rfl (lv_at hl 4 rfl) ?_
              refine r_ialdN (n := 40) (f := (ar 17)) j0 hF hG hM hPm.a17 (by omega) (by decide) rfl dX3_release_126 ?_
              refine lv_iload hx hb dX3_release_127 (lv_at hl 0 rfl) ?_
              refine lv_ishr hx hb dX3_release_129 ?_
              refine lv_iconst (v := 1) hx hb dX3_release_130 (by decide) ?_
              refine lv_iand hx hb dX3_release_131 ?_
              refine lv_iadd hx hb dX3_release_132 ?_
              refine lv_istore (lv' := [(4, .int ((((1 : Int32) + ((((ar 17) j0) >>> (0 &&& 31 : Int32) : Int32) &&& 1 : Int32)) + ((((ar 17) j0) >>> (1 &&& 31 : Int32) : Int32) &&& 1 : Int32)) + ((((ar 17) j0) >>> (2 &&& 31 : Int32) : Int32) &&& 1 : Int32))), (5, .int 2), (3, .int 2), (0, .ref m0), (1, .int (nI j0)), (2, .int p1)]) hx hb dX3_release_133 hl (by decide) rfl (fun ls hl => ?_)
              refine lv_iinc (v := 3) (lv' := [(5, .int 3), (4, .int ((((1 : Int32) + ((((ar 17) j0) >>> (0 &&& 31 : Int32) : Int32) &&& 1 : Int32)) + ((((ar 17) j0) >>> (1 &&& 31 : Int32) : Int32) &&& 1 : Int32)) + ((((ar 17) j0) >>> (2 &&& 31 : Int32) : Int32) &&& 1 : Int32))), (3, .int 2), (0, .ref m0), (1, .int (nI j0)), (2, .int p1)]) hx hb dX3_release_135 hl (k := 1) rfl (by decide) (by decide) rfl (fun ls hl => ?_)
              refine lv_goto (tgt := 113) hx hb dX3_release_138 (by decide) ?_
              refine lv_iload hx hb dX3_release_113 (lv_at hl 0 rfl) ?_
              refine lv_iconst (v := 5) hx hb dX3_release_115 (by decide) ?_
              refine lv_icmp_ge (tgt := 141) hx hb dX3_release_116 (by decide) (fun c9 => absurd c9 (by decide)) (fun _ => ?_)
              refine lv_iload hx hb dX3_release_119 (lv_at hl 1 rfl) ?_
              refine lv_aload_n hx hb dX3_release_121 rfl (lv_at hl 3 rfl) ?_
              refine r_get (ci := 7) hF in_X3 hG hM hPm.1 rfl 22 (by decide) q779 (fun _ h => h) (.ref (aa 17)) rfl dX3_release_122 ?_
              refine lv_iload_n hx hb dX3_release_125 rfl (lv_at hl 4 rfl) ?_
              refine r_ialdN (n := 40) (f := (ar 17)) j0 hF hG hM hPm.a17 (by omega) (by decide) rfl dX3_release_126 ?_
              refine lv_iload hx hb dX3_release_127 (lv_at hl 0 rfl) ?_
              refine lv_ishr hx hb dX3_release_129 ?_
              refine lv_iconst (v := 1) hx hb dX3_release_130 (by decide) ?_
              refine lv_iand hx hb dX3_release_131 ?_
              refine lv_iadd hx hb dX3_release_132 ?_
              refine lv_istore (lv' := [(4, .int (((((1 : Int32) + ((((ar 17) j0) >>> (0 &&& 31 : Int32) : Int32) &&& 1 : Int32)) + ((((ar 17) j0) >>> (1 &&& 31 : Int32) : Int32) &&& 1 : Int32)) + ((((ar 17) j0) >>> (2 &&& 31 : Int32) : Int32) &&& 1 : Int32)) + ((((ar 17) j0) >>> (3 &&& 31 : Int32) : Int32) &&& 1 : Int32))), (5, .int 3), (3, .int 2), (0, .ref m0), (1, .int (nI j0)), (2, .int p1)]) hx hb dX3_release_133 hl (by decide) rfl (fun ls hl => ?_)
              refine lv_iinc (v := 4) (lv' := [(5, .int 4), (4, .int (((((1 : Int32) + ((((ar 17) j0) >>> (0 &&& 31 : Int32) : Int32) &&& 1 : Int32)) + ((((ar 17) j0) >>> (1 &&& 31 : Int32) : Int32) &&& 1 : Int32)) + ((((ar 17) j0) >>> (2 &&& 31 : Int32) : Int32) &&& 1 : Int32)) + ((((ar 17) j0) >>> (3 &&& 31 : Int32) : Int32) &&& 1 : Int32))), (3, .int 2), (0, .ref m0), (1, .int (nI j0)), (2, .int p1)]) hx hb dX3_release_135 hl (k := 1) rfl (by decide) (by decide) rfl (fun ls hl => ?_)
              refine lv_goto (tgt := 113) hx hb dX3_release_138 (by decide) ?_
              refine lv_iload hx hb dX3_release_113 (lv_at hl 0 rfl) ?_
              refine lv_iconst (v := 5) hx hb dX3_release_115 (by decide) ?_
              refine lv_icmp_ge (tgt := 141) hx hb dX3_release_116 (by decide) (fun c9 => absurd c9 (by decide)) (fun _ => ?_)
              refine lv_iload hx hb dX3_release_119 (lv_at hl 1 rfl) ?_
              refine lv_aload_n hx hb dX3_release_121 rfl (lv_at hl 3 rfl) ?_
              refine r_get (ci := 7) hF in_X3 hG hM hPm.1 rfl 22 (by decide) q779 (fun _ h => h) (.ref (aa 17)) rfl dX3_release_122 ?_
              refine lv_iload_n hx hb dX3_release_125 rfl (lv_at hl 4 rfl) ?_
              refine r_ialdN (n := 40) (f := (ar 17)) j0 hF hG hM hPm.a17 (by omega) (by decide) rfl dX3_release_126 ?_
              refine lv_iload hx hb dX3_release_127 (lv_at hl 0 rfl) ?_
              refine lv_ishr hx hb dX3_release_129 ?_
              refine lv_iconst (v := 1) hx hb dX3_release_130 (by decide) ?_
              refine lv_iand hx hb dX3_release_131 ?_
              refine lv_iadd hx hb dX3_release_132 ?_
              refine lv_istore (lv' := [(4, .int ((((((1 : Int32) + ((((ar 17) j0) >>> (0 &&& 31 : Int32) : Int32) &&& 1 : Int32)) + ((((ar 17) j0) >>> (1 &&& 31 : Int32) : Int32) &&& 1 : Int32)) + ((((ar 17) j0) >>> (2 &&& 31 : Int32) : Int32) &&& 1 : Int32)) + ((((ar 17) j0) >>> (3 &&& 31 : Int32) : Int32) &&& 1 : Int32)) + ((((ar 17) j0) >>> (4 &&& 31 : Int32) : Int32) &&& 1 : Int32))), (5, .int 4), (3, .int 2), (0, .ref m0), (1, .int (nI j0)), (2, .int p1)]) hx hb dX3_release_133 hl (by decide) rfl (fun ls hl => ?_)
              refine lv_iinc (v := 5) (lv' := [(5, .int 5), (4, .int ((((((1 : Int32) + ((((ar 17) j0) >>> (0 &&& 31 : Int32) : Int32) &&& 1 : Int32)) + ((((ar 17) j0) >>> (1 &&& 31 : Int32) : Int32) &&& 1 : Int32)) + ((((ar 17) j0) >>> (2 &&& 31 : Int32) : Int32) &&& 1 : Int32)) + ((((ar 17) j0) >>> (3 &&& 31 : Int32) : Int32) &&& 1 : Int32)) + ((((ar 17) j0) >>> (4 &&& 31 : Int32) : Int32) &&& 1 : Int32))), (3, .int 2), (0, .ref m0), (1, .int (nI j0)), (2, .int p1)]) hx hb dX3_release_135 hl (k := 1) rfl (by decide) (by decide) rfl (fun ls hl => ?_)
              refine lv_goto (tgt := 113) hx hb dX3_release_138 (by decide) ?_
              refine lv_iload hx hb dX3_release_113 (lv_at hl 0 rfl) ?_
              refine lv_iconst (v := 5) hx hb dX3_release_115 (by decide) ?_
              refine lv_icmp_ge (tgt := 141) hx hb dX3_release_116 (by decide) (fun _ => ?_) (fun c9 => absurd (by decide) c9)
              have em9 : ((((((1 : Int32) + ((((ar 17) j0) >>> (0 &&& 31 : Int32) : Int32) &&& 1 : Int32)) + ((((ar 17) j0) >>> (1 &&& 31 : Int32) : Int32) &&& 1 : Int32)) + ((((ar 17) j0) >>> (2 &&& 31 : Int32) : Int32) &&& 1 : Int32)) + ((((ar 17) j0) >>> (3 &&& 31 : Int32) : Int32) &&& 1 : Int32)) + ((((ar 17) j0) >>> (4 &&& 31 : Int32) : Int32) &&& 1 : Int32)) = manyOf ar j0 := rfl
              rw [em9] at hl
              refine lv_aload_n hx hb dX3_release_141 rfl (lv_at hl 3 rfl) ?_
              refine r_get (ci := 7) hF in_X3 hG hM hPm.1 rfl 16 (by decide) q773 (fun _ h => h) (.ref (aa 11)) rfl dX3_release_142 ?_
              refine lv_iload_n hx hb dX3_release_145 rfl (lv_at hl 4 rfl) ?_
              refine r_ialdN (n := 40) (f := (ar 11)) j0 hF hG hM hPm.a11 (by omega) (by decide) rfl dX3_release_146 ?_
              obtain ⟨a0, ha0, ea0⟩ := (hW.pa hj0).1
              have hna0 : nx (nI a0) = a0 := nI_clamp (by omega)
              rw [ea0]
              refine lv_istore (lv' := [(5, .int (nI a0)), (4, .int (manyOf ar j0)), (3, .int 2), (0, .ref m0), (1, .int (nI j0)), (2, .int p1)]) hx hb dX3_release_147 hl (by decide) rfl (fun ls hl => ?_)
              refine lv_iload hx hb dX3_release_149 (lv_at hl 1 rfl) ?_
              refine lv_iload_n hx hb dX3_release_151 rfl (lv_at hl 2 rfl) ?_
              refine lv_icmp_lt (tgt := 235) hx hb dX3_release_152 (by decide) (fun c_14 => ?_) (fun c_14 => ?_)
              · have c_14B := Int32.not_le.mpr c_14
                have en9 : needOf (cn 2) lim ar j0 = 2 := by simp [needOf, b_2, hnj0, b_4, (eq_true c_6), c_9, c_12, c_13, c_13B, ea0, hna0, c_14, c_14B]
                have hneed : ¬ (needOf (cn 2) lim ar j0 ≤ manyOf ar j0) := by rw [en9]; exact Int32.not_le.mpr c_14
                refine lv_aload_n hx hb dX3_release_235 rfl (lv_at hl 3 rfl) ?_
                refine r_get (ci := 7) hF in_X3 hG hM hPm.1 rfl 22 (by decide) q779 (fun _ h => h) (.ref (aa 17)) rfl dX3_release_236 ?_
                refine lv_iload_n hx hb dX3_release_239 rfl (lv_at hl 4 rfl) ?_
                refine lv_dup2_11 hx hb dX3_release_240 rfl rfl ?_
                refine r_ialdN (n := 40) (f := (ar 17)) j0 hF hG hM hPm.a17 (by omega) (by decide) rfl dX3_release_241 ?_
                refine lv_iconst (v := 1) hx hb dX3_release_242 (by decide) ?_
                refine lv_iload_n hx hb dX3_release_243 rfl (lv_at hl 5 rfl) ?_
                refine lv_ishl hx hb dX3_release_244 ?_
                refine lv_ior hx hb dX3_release_245 ?_
                refine r_iast (n := 40) (f := (ar 17)) j0 hF hG hM hS hPm.a17 (by omega) (by decide) rfl dX3_release_246 (fun H locs hM hS => ?_)
                obtain ⟨M_15, hM, hPm, hfr⟩ := PicM.stepA 17 (by decide) hPm hfr hM
                refine lv_iload hx hb dX3_release_247 (lv_at hl 1 rfl) ?_
                refine lv_iload_n hx hb dX3_release_249 rfl (lv_at hl 2 rfl) ?_
                refine lv_icmp_lt (tgt := 257) hx hb dX3_release_250 (by decide) (fun _ => ?_) (fun c9 => absurd c_14 c9)
                refine lv_iload_n hx hb dX3_release_257 rfl (lv_at hl 2 rfl) ?_
                refine lv_iload hx hb dX3_release_258 (lv_at hl 1 rfl) ?_
                refine lv_isub hx hb dX3_release_260 ?_
                have ht9 : tRelease cn lim ar (nI j0) p1 = (0 : Int32) := by simp [tRelease, b_2, hnj0, b_4, (eq_true c_6), c_9, c_12, c_13, c_13B, ea0, hna0, c_14, c_14B, hneed, en9]
                have ha9 : ((2 : Int32) - (manyOf ar j0)) = aRelease cn lim ar (nI j0) := by simp [aRelease, b_2, hnj0, b_4, (eq_true c_6), c_9, c_12, c_13, c_13B, ea0, hna0, c_14, c_14B, hneed, en9]
                have er9 : rRelease cn lim ar (nI j0) p1 = (va_up ar 17 (upd (ar 17) j0 (((ar 17) j0) ||| ((1 : Int32) <<< (p1 &&& 31 : Int32) : Int32) : Int32))) := by first | rfl | (simp only [rRelease, aRelease, cRelease, rUse, b_2, hnj0, b_4, (eq_true c_6), c_9, c_12, c_13, c_13B, ea0, hna0, c_14, c_14B, hneed, en9]; done) | (simp only [rRelease, aRelease, cRelease, rUse, b_2, hnj0, b_4, (eq_true c_6), c_9, c_12, c_13, c_13B, ea0, hna0, c_14, c_14B, hneed, en9]; rfl) | simp [rRelease, aRelease, cRelease, rUse, b_2, hnj0, b_4, (eq_true c_6), c_9, c_12, c_13, c_13B, ea0, hna0, c_14, c_14B, hneed, en9]
                have ec9 : cRelease cn lim ar (nI j0) = cn := by first | rfl | (simp only [rRelease, aRelease, cRelease, rUse, b_2, hnj0, b_4, (eq_true c_6), c_9, c_12, c_13, c_13B, ea0, hna0, c_14, c_14B, hneed, en9]; done) | (simp only [rRelease, aRelease, cRelease, rUse, b_2, hnj0, b_4, (eq_true c_6), c_9, c_12, c_13, c_13B, ea0, hna0, c_14, c_14B, hneed, en9]; rfl) | simp [rRelease, aRelease, cRelease, rUse, b_2, hnj0, b_4, (eq_true c_6), c_9, c_12, c_13, c_13B, ea0, hna0, c_14, c_14B, hneed, en9]
                exact k_iret hx hb hr rfl hlocks hG hz hM hS (Nat.le_of_ble_eq_true rfl) (Nat.le_of_ble_eq_true rfl) dX3_release_261 ⟨_, rfl, mPost.ok ht9 ha9 (by rw [ec9, er9]; exact hPm) hfr⟩
              · have c_14B := Int32.not_lt.mp c_14
                have en9 : needOf (cn 2) lim ar j0 = 2 := by simp [needOf, b_2, hnj0, b_4, (eq_true c_6), c_9, c_12, c_13, c_13B, ea0, hna0, c_14, c_14B]
                have hneed : needOf (cn 2) lim ar j0 ≤ manyOf ar j0 := by rw [en9]; exact c_14B
                refine lv_aload_n hx hb dX3_release_155 rfl (lv_at hl 3 rfl) ?_
                refine r_get (ci := 7) hF in_X3 hG hM hPm.1 rfl 2 (by decide) q759 (fun _ h => h) (.int (nI (cn 4))) rfl dX3_release_156 ?_
                refine lv_bipush (v := 12) hx hb dX3_release_159 (by decide) ?_
                refine lv_icmp_gt (tgt := 188) hx hb dX3_release_161 (by decide) (fun c_16 => ?_) (fun c_16 => ?_)
                · have c_16R := c_16
                  have c_16 : 12 < (cn 4) := (nI_ltI (a := 12) (b := (cn 4)) (by omega) (by omega)).mp c_16R
                  have c_16B : ¬ ((cn 4) ≤ 12) := by omega
                  have c_16RB := Int32.not_le.mpr c_16R
                  refine lv_aload_n hx hb dX3_release_188 rfl (lv_at hl 3 rfl) ?_
                  refine lv_iconst (v := 2) hx hb dX3_release_189 (by decide) ?_
                  refine kV (k9 := 0) (n9 := 0) hF hG hz hM hS [.int 2] [] (metX3_fails hPm 2) (cwV 1 hts (lw_V q917 q919 qs14 q27 q920) rfl rfl rfl (by decide +kernel) ⟨(Nat.le_of_ble_eq_true rfl), (Nat.le_of_ble_eq_true rfl)⟩) (k_recv hG hM hPm.1 (ci := 7) rfl) rfl hl.1 rfl (Nat.le_of_ble_eq_true rfl) dX3_release_190 rfl rfl (Nat.le_of_ble_eq_true rfl) (Nat.le_of_ble_eq_true rfl) (fun _ _ _ _ _ h9 _ _ _ _ _ => h9.elim) (fun v9 M9_5 H locs hp9 hM9_5 hS => ?_)
                  obtain ⟨r_17, rfl, r_17_e, hPm, hfr9⟩ := hp9
                  have hM := hM9_5
                  have hfr := hfr.tr hfr9
                  subst r_17_e
                  refine W.eq (g2 := F0 m 193 ls [.int 0]) rfl ?_
                  have ht9 : tRelease cn lim ar (nI j0) p1 = (2 : Int32) := by simp [tRelease, b_2, hnj0, b_4, (eq_true c_6), c_9, c_12, c_13, c_13B, ea0, hna0, c_14, c_14B, hneed, en9, c_16, c_16B, c_16R, c_16RB]
                  exact k_iret hx hb hr rfl hlocks hG hz hM hS (Nat.le_of_ble_eq_true rfl) (Nat.le_of_ble_eq_true rfl) dX3_release_193 ⟨_, rfl, mPost.bad ht9 (by decide) hPm hfr⟩
                · have c_16R := c_16
                  have c_16 : ¬ (12 < (cn 4)) := fun h9 => c_16R ((nI_ltI (a := 12) (b := (cn 4)) (by omega) (by omega)).mpr h9)
                  have c_16B : (cn 4) ≤ 12 := by omega
                  have c_16RB := Int32.not_lt.mp c_16R
                  refine lv_aload_n hx hb dX3_release_164 rfl (lv_at hl 3 rfl) ?_
                  refine r_get (ci := 7) hF in_X3 hG hM hPm.1 rfl 3 (by decide) q760 (fun _ h => h) (.int (nI (cn 1))) rfl dX3_release_165 ?_
                  refine lv_bipush (v := 120) hx hb dX3_release_168 (by decide) ?_
                  refine lv_icmp_eq (tgt := 188) hx hb dX3_release_170 (by decide) (fun c_19 => ?_) (fun c_19 => ?_)
                  · have c_19R := c_19
                    have c_19 : (cn 1) = 120 := (nI_eq (a := (cn 1)) (b := 120) (by omega) (by omega)).mp c_19R
                    refine lv_aload_n hx hb dX3_release_188 rfl (lv_at hl 3 rfl) ?_
                    refine lv_iconst (v := 2) hx hb dX3_release_189 (by decide) ?_
                    refine kV (k9 := 0) (n9 := 0) hF hG hz hM hS [.int 2] [] (metX3_fails hPm 2) (cwV 1 hts (lw_V q917 q919 qs14 q27 q920) rfl rfl rfl (by decide +kernel) ⟨(Nat.le_of_ble_eq_true rfl), (Nat.le_of_ble_eq_true rfl)⟩) (k_recv hG hM hPm.1 (ci := 7) rfl) rfl hl.1 rfl (Nat.le_of_ble_eq_true rfl) dX3_release_190 rfl rfl (Nat.le_of_ble_eq_true rfl) (Nat.le_of_ble_eq_true rfl) (fun _ _ _ _ _ h9 _ _ _ _ _ => h9.elim) (fun v9 M9_6 H locs hp9 hM9_6 hS => ?_)
                    obtain ⟨r_20, rfl, r_20_e, hPm, hfr9⟩ := hp9
                    have hM := hM9_6
                    have hfr := hfr.tr hfr9
                    subst r_20_e
                    refine W.eq (g2 := F0 m 193 ls [.int 0]) rfl ?_
                    have ht9 : tRelease cn lim ar (nI j0) p1 = (2 : Int32) := by simp [tRelease, b_2, hnj0, b_4, (eq_true c_6), c_9, c_12, c_13, c_13B, ea0, hna0, c_14, c_14B, hneed, en9, c_16, c_16B, c_16R, c_16RB, (eq_true c_19), (eq_true c_19R)]
                    exact k_iret hx hb hr rfl hlocks hG hz hM hS (Nat.le_of_ble_eq_true rfl) (Nat.le_of_ble_eq_true rfl) dX3_release_193 ⟨_, rfl, mPost.bad ht9 (by decide) hPm hfr⟩
                  · have c_19R := c_19
                    have c_19 : ¬ ((cn 1) = 120) := fun h9 => c_19R ((nI_eq (a := (cn 1)) (b := 120) (by omega) (by omega)).mpr h9)
                    refine lv_aload_n hx hb dX3_release_173 rfl (lv_at hl 3 rfl) ?_
                    refine lv_iload hx hb dX3_release_174 (lv_at hl 0 rfl) ?_
                    refine kV (k9 := 0) (n9 := 0) hF hG hz hM hS [.int (nI a0)] [] (metX3_leftOf hPm a0 (by omega)) (cwV 1 hts (lw_V q913 q915 qs13 q27 q916) rfl rfl rfl (by decide +kernel) ⟨(Nat.le_of_ble_eq_true rfl), (Nat.le_of_ble_eq_true rfl)⟩) (k_recv hG hM hPm.1 (ci := 7) rfl) rfl hl.1 rfl (Nat.le_of_ble_eq_true rfl) dX3_release_176 rfl rfl (Nat.le_of_ble_eq_true rfl) (Nat.le_of_ble_eq_true rfl) (fun _ _ _ _ _ h9 _ _ _ _ _ => h9.elim) (fun v9 M9_7 H locs hp9 hM9_7 hS => ?_)
                    obtain ⟨r_22, rfl, r_22_e, rfl⟩ := hp9
                    have hM := hM9_7
                    subst r_22_e
                    refine W.eq (g2 := F0 m 179 ls [.int (lef ar a0)]) rfl ?_
                    refine lv_aload_n hx hb dX3_release_179 rfl (lv_at hl 3 rfl) ?_
                    refine r_get (ci := 7) hF in_X3 hG hM hPm.1 rfl 18 (by decide) q775 (fun _ h => h) (.ref (aa 13)) rfl dX3_release_180 ?_
                    refine lv_iload_n hx hb dX3_release_183 rfl (lv_at hl 4 rfl) ?_
                    refine r_ialdN (n := 40) (f := (ar 13)) j0 hF hG hM hPm.a13 (by omega) (by decide) rfl dX3_release_184 ?_
                    refine lv_icmp_ge (tgt := 194) hx hb dX3_release_185 (by decide) (fun c_23 => ?_) (fun c_23 => ?_)
                    · have c_23B := Int32.not_lt.mpr c_23
                      refine lv_aload_n hx hb dX3_release_194 rfl (lv_at hl 3 rfl) ?_
                      refine r_get (ci := 7) hF in_X3 hG hM hPm.1 rfl 21 (by decide) q778 (fun _ h => h) (.ref (aa 16)) rfl dX3_release_195 ?_
                      refine lv_iload_n hx hb dX3_release_198 rfl (lv_at hl 4 rfl) ?_
                      refine lv_iconst (v := 1) hx hb dX3_release_199 (by decide) ?_
                      refine r_iast (n := 40) (f := (ar 16)) j0 hF hG hM hS hPm.a16 (by omega) (by decide) rfl dX3_release_200 (fun H locs hM hS => ?_)
                      obtain ⟨M_24, hM, hPm, hfr⟩ := PicM.stepA 16 (by decide) hPm hfr hM
                      refine lv_aload_n hx hb dX3_release_201 rfl (lv_at hl 3 rfl) ?_
                      refine r_get (ci := 7) hF in_X3 hG hM hPm.1 rfl 13 (by decide) q770 (fun _ h => h) (.ref (aa 10)) rfl dX3_release_202 ?_
                      refine lv_iload hx hb dX3_release_205 (lv_at hl 0 rfl) ?_
                      refine lv_dup2_11 hx hb dX3_release_207 rfl rfl ?_
                      refine r_ialdN (n := 14) (f := (ar 10)) a0 hF hG hM hPm.a10 (by omega) (by decide) rfl dX3_release_208 ?_
                      refine lv_aload_n hx hb dX3_release_209 rfl (lv_at hl 3 rfl) ?_
                      refine r_get (ci := 7) hF in_X3 hG hM hPm.1 rfl 18 (by decide) q775 (fun _ h => h) (.ref (aa 13)) rfl dX3_release_210 ?_
                      refine lv_iload_n hx hb dX3_release_213 rfl (lv_at hl 4 rfl) ?_
                      refine r_ialdN (n := 40) (f := (ar 13)) j0 hF hG hM hPm.a13 (by omega) (by decide) rfl dX3_release_214 ?_
                      refine lv_iadd hx hb dX3_release_215 ?_
                      refine r_iast (n := 14) (f := (ar 10)) a0 hF hG hM hS hPm.a10 (by omega) (by decide) rfl dX3_release_216 (fun H locs hM hS => ?_)
                      obtain ⟨M_25, hM, hPm, hfr⟩ := PicM.stepA 10 (by decide) hPm hfr hM
                      refine lv_aload_n hx hb dX3_release_217 rfl (lv_at hl 3 rfl) ?_
                      refine lv_aload_n hx hb dX3_release_218 rfl (lv_at hl 3 rfl) ?_
                      refine r_get (ci := 7) hF in_X3 hG hM hPm.1 rfl 2 (by decide) q759 (fun _ h => h) (.int (nI (cn 4))) rfl dX3_release_219 ?_
                      refine lv_iload hx hb dX3_release_222 (lv_at hl 0 rfl) ?_
                      refine lv_iconst (v := 0) hx hb dX3_release_224 (by decide) ?_
                      refine lv_aload_n hx hb dX3_release_225 rfl (lv_at hl 3 rfl) ?_
                      refine r_get (ci := 7) hF in_X3 hG hM hPm.1 rfl 18 (by decide) q775 (fun _ h => h) (.ref (aa 13)) rfl dX3_release_226 ?_
                      refine lv_iload_n hx hb dX3_release_229 rfl (lv_at hl 4 rfl) ?_
                      refine r_ialdN (n := 40) (f := (ar 13)) j0 hF hG hM hPm.a13 (by omega) (by decide) rfl dX3_release_230 ?_
                      refine kV (k9 := 0) (n9 := 0) hF hG hz hM hS [.int (nI (cn 4)), .int (nI a0), .int 0, .int ((ar 13) j0)] [] (metX3_enters hPm (nI (cn 4)) (nI a0) 0 ((ar 13) j0) (show (cn 1) < 120 by omega)) (cwV 4 hts (lw_V q865 q867 qs10 q27 q868) rfl rfl rfl (by decide +kernel) ⟨(Nat.le_of_ble_eq_true rfl), (Nat.le_of_ble_eq_true rfl)⟩) (k_recv hG hM hPm.1 (ci := 7) rfl) rfl hl.1 rfl (Nat.le_of_ble_eq_true rfl) dX3_release_231 rfl rfl (Nat.le_of_ble_eq_true rfl) (Nat.le_of_ble_eq_true rfl) (fun _ _ _ _ _ h9 _ _ _ _ _ => h9.elim) (fun v9 M9_8 H locs hp9 hM9_8 hS => ?_)
                      obtain ⟨r_26, rfl, r_26_e, hPm, hfr9⟩ := hp9
                      have hM := hM9_8
                      have hfr := hfr.tr hfr9
                      subst r_26_e
                      rw [show lateOf cn (nI (cn 4)) = 0 from lateOf_0 (Int32.le_refl _)] at hPm
                      refine W.eq (g2 := F0 m 234 ls [.int (nI (cn 1))]) rfl ?_
                      refine lv_pop hx hb dX3_release_234 rfl ?_
                      refine lv_aload_n hx hb dX3_release_235 rfl (lv_at hl 3 rfl) ?_
                      refine r_get (ci := 7) hF in_X3 hG hM hPm.1 rfl 22 (by decide) q779 (fun _ h => h) (.ref (aa 17)) rfl dX3_release_236 ?_
                      refine lv_iload_n hx hb dX3_release_239 rfl (lv_at hl 4 rfl) ?_
                      refine lv_dup2_11 hx hb dX3_release_240 rfl rfl ?_
                      refine r_ialdN (n := 40) (f := (ar 17)) j0 hF hG hM hPm.a17 (by omega) (by decide) rfl dX3_release_241 ?_
                      refine lv_iconst (v := 1) hx hb dX3_release_242 (by decide) ?_
                      refine lv_iload_n hx hb dX3_release_243 rfl (lv_at hl 5 rfl) ?_
                      refine lv_ishl hx hb dX3_release_244 ?_
                      refine lv_ior hx hb dX3_release_245 ?_
                      refine r_iast (n := 40) (f := (ar 17)) j0 hF hG hM hS hPm.a17 (by omega) (by decide) rfl dX3_release_246 (fun H locs hM hS => ?_)
                      obtain ⟨M_27, hM, hPm, hfr⟩ := PicM.stepA 17 (by decide) hPm hfr hM
                      refine lv_iload hx hb dX3_release_247 (lv_at hl 1 rfl) ?_
                      refine lv_iload_n hx hb dX3_release_249 rfl (lv_at hl 2 rfl) ?_
                      refine lv_icmp_lt (tgt := 257) hx hb dX3_release_250 (by decide) (fun c9 => absurd c9 c_14) (fun _ => ?_)
                      refine lv_iconst (v := 0) hx hb dX3_release_253 (by decide) ?_
                      refine lv_goto (tgt := 261) hx hb dX3_release_254 (by decide) ?_
                      have ht9 : tRelease cn lim ar (nI j0) p1 = (0 : Int32) := by simp [tRelease, b_2, hnj0, b_4, (eq_true c_6), c_9, c_12, c_13, c_13B, ea0, hna0, c_14, c_14B, hneed, en9, c_16, c_16B, c_16R, c_16RB, c_19, c_19R, c_23, c_23B]
                      have ha9 : (0 : Int32) = aRelease cn lim ar (nI j0) := by simp [aRelease, b_2, hnj0, b_4, (eq_true c_6), c_9, c_12, c_13, c_13B, ea0, hna0, c_14, c_14B, hneed, en9, c_16, c_16B, c_16R, c_16RB, c_19, c_19R, c_23, c_23B]
                      have er9 : rRelease cn lim ar (nI j0) p1 = (va_up (rEnters cn (va_up (va_up ar 16 (upd (ar 16) j0 1)) 10 (upd (ar 10) a0 (((ar 10) a0) + ((ar 13) j0)))) 0 (nI a0) 0 ((ar 13) j0)) 17 (upd (ar 17) j0 (((ar 17) j0) ||| ((1 : Int32) <<< (p1 &&& 31 : Int32) : Int32) : Int32))) := by first | rfl | (simp only [rRelease, aRelease, cRelease, rUse, b_2, hnj0, b_4, (eq_true c_6), c_9, c_12, c_13, c_13B, ea0, hna0, c_14, c_14B, hneed, en9, c_16, c_16B, c_16R, c_16RB, c_19, c_19R, c_23, c_23B]; done) | (simp only [rRelease, aRelease, cRelease, rUse, b_2, hnj0, b_4, (eq_true c_6), c_9, c_12, c_13, c_13B, ea0, hna0, c_14, c_14B, hneed, en9, c_16, c_16B, c_16R, c_16RB, c_19, c_19R, c_23, c_23B]; rfl) | simp [rRelease, aRelease, cRelease, rUse, b_2, hnj0, b_4, (eq_true c_6), c_9, c_12, c_13, c_13B, ea0, hna0, c_14, c_14B, hneed, en9, c_16, c_16B, c_16R, c_16RB, c_19, c_19R, c_23, c_23B]
                      have ec9 : cRelease cn lim ar (nI j0) = (cUp cn 1) := by first | rfl | (simp only [rRelease, aRelease, cRelease, rUse, b_2, hnj0, b_4, (eq_true c_6), c_9, c_12, c_13, c_13B, ea0, hna0, c_14, c_14B, hneed, en9, c_16, c_16B, c_16R, c_16RB, c_19, c_19R, c_23, c_23B]; done) | (simp only [rRelease, aRelease, cRelease, rUse, b_2, hnj0, b_4, (eq_true c_6), c_9, c_12, c_13, c_13B, ea0, hna0, c_14, c_14B, hneed, en9, c_16, c_16B, c_16R, c_16RB, c_19, c_19R, c_23, c_23B]; rfl) | simp [rRelease, aRelease, cRelease, rUse, b_2, hnj0, b_4, (eq_true c_6), c_9, c_12, c_13, c_13B, ea0, hna0, c_14, c_14B, hneed, en9, c_16, c_16B, c_16R, c_16RB, c_19, c_19R, c_23, c_23B]
                      exact k_iret hx hb hr rfl hlocks hG hz hM hS (Nat.le_of_ble_eq_true rfl) (Nat.le_of_ble_eq_true rfl) dX3_release_261 ⟨_, rfl, mPost.ok ht9 ha9 (by rw [ec9, er9]; exact hPm) hfr⟩
                    · have c_23B := Int32.not_le.mp c_23
                      refine lv_aload_n hx hb dX3_release_188 rfl (lv_at hl 3 rfl) ?_
                      refine lv_iconst (v := 2) hx hb dX3_release_189 (by decide) ?_
                      refine kV (k9 := 0) (n9 := 0) hF hG hz hM hS [.int 2] [] (metX3_fails hPm 2) (cwV 1 hts (lw_V q917 q919 qs14 q27 q920) rfl rfl rfl (by decide +kernel) ⟨(Nat.le_of_ble_eq_true rfl), (Nat.le_of_ble_eq_true rfl)⟩) (k_recv hG hM hPm.1 (ci := 7) rfl) rfl hl.1 rfl (Nat.le_of_ble_eq_true rfl) dX3_release_190 rfl rfl (Nat.le_of_ble_eq_true rfl) (Nat.le_of_ble_eq_true rfl) (fun _ _ _ _ _ h9 _ _ _ _ _ => h9.elim) (fun v9 M9_9 H locs hp9 hM9_9 hS => ?_)
                      obtain ⟨r_28, rfl, r_28_e, hPm, hfr9⟩ := hp9
                      have hM := hM9_9
                      have hfr := hfr.tr hfr9
                      subst r_28_e
                      refine W.eq (g2 := F0 m 193 ls [.int 0]) rfl ?_
                      have ht9 : tRelease cn lim ar (nI j0) p1 = (2 : Int32) := by simp [tRelease, b_2, hnj0, b_4, (eq_true c_6), c_9, c_12, c_13, c_13B, ea0, hna0, c_14, c_14B, hneed, en9, c_16, c_16B, c_16R, c_16RB, c_19, c_19R, c_23, c_23B]
                      exact k_iret hx hb hr rfl hlocks hG hz hM hS (Nat.le_of_ble_eq_true rfl) (Nat.le_of_ble_eq_true rfl) dX3_release_193 ⟨_, rfl, mPost.bad ht9 (by decide) hPm hfr⟩
            · have c_13B := Int32.not_le.mp c_13
              refine lv_aload_n hx hb dX3_release_93 rfl (lv_at hl 0 rfl) ?_
              refine lv_iload_n hx hb dX3_release_94 rfl (lv_at hl 1 rfl) ?_
              refine kV (k9 := 0) (n9 := 0) hF hG hz hM hS [.int (nI j0)] [] (metX3_splits hPm j0 (by omega) (by omega)) (cwV 1 hts (lw_V q937 q939 qs15 q27 q940) rfl rfl rfl (by decide +kernel) ⟨(Nat.le_of_ble_eq_true rfl), (Nat.le_of_ble_eq_true rfl)⟩) (k_recv hG hM hPm.1 (ci := 7) rfl) rfl hl.1 rfl (Nat.le_of_ble_eq_true rfl) dX3_release_95 rfl rfl (Nat.le_of_ble_eq_true rfl) (Nat.le_of_ble_eq_true rfl) (fun _ _ _ _ _ h9 _ _ _ _ _ => h9.elim) (fun v9 M9_10 H locs hp9 hM9_10 hS => ?_)
              obtain ⟨r_30, rfl, b_31, rfl⟩ := hp9
              have hM := hM9_10
              rcases b_31 with ⟨b_31, rfl⟩ | ⟨b_31, rfl⟩
              · refine W.eq (g2 := F0 m 98 ls [.int 1]) rfl ?_
                refine lv_if_eq (tgt := 105) hx hb dX3_release_98 (by decide) (fun c9 => absurd c9 (by decide)) (fun _ => ?_)
                refine lv_iconst (v := 2) hx hb dX3_release_101 (by decide) ?_
                refine lv_goto (tgt := 106) hx hb dX3_release_102 (by decide) ?_
                refine lv_istore_n (lv' := [(3, .int 2), (0, .ref m0), (1, .int (nI j0)), (2, .int p1)]) hx hb dX3_release_106 rfl hl (by decide) rfl (fun ls hl => ?_)
                refine lv_iconst (v := 1) hx hb dX3_release_107 (by decide) ?_
                refine lv_istore (lv' := [(4, .int 1), (3, .int 2), (0, .ref m0), (1, .int (nI j0)), (2, .int p1)]) hx hb dX3_release_108 hl (by decide) rfl (fun ls hl => ?_)
                refine lv_iconst (v := 0) hx hb dX3_release_110 (by decide) ?_
                refine lv_istore (lv' := [(5, .int 0), (4, .int 1), (3, .int 2), (0, .ref m0), (1, .int (nI j0)), (2, .int p1)]) hx hb dX3_release_111 hl (by decide) rfl (fun ls hl => ?_)
                refine lv_iload hx hb dX3_release_113 (lv_at hl 0 rfl) ?_
                refine lv_iconst (v := 5) hx hb dX3_release_115 (by decide) ?_
                refine lv_icmp_ge (tgt := 141) hx hb dX3_release_116 (by decide) (fun c9 => absurd c9 (by decide)) (fun _ => ?_)
                refine lv_iload hx hb dX3_release_119 (lv_at hl 1 rfl) ?_
                refine lv_aload_n hx hb dX3_release_121 rfl (lv_at hl 3 rfl) ?_
                refine r_get (ci := 7) hF in_X3 hG hM hPm.1 rfl 22 (by decide) q779 (fun _ h => h) (.ref (aa 17)) rfl dX3_release_122 ?_
                refine lv_iload_n hx hb dX3_release_125 rfl (lv_at hl 4 rfl) ?_
                refine r_ialdN (n := 40) (f := (ar 17)) j0 hF hG hM hPm.a17 (by omega) (by decide) rfl dX3_release_126 ?_
                refine lv_iload hx hb dX3_release_127 (lv_at hl 0 rfl) ?_
                refine lv_ishr hx hb dX3_release_129 ?_
                refine lv_iconst (v := 1) hx hb dX3_release_130 (by decide) ?_
                refine lv_iand hx hb dX3_release_131 ?_
                refine lv_iadd hx hb dX3_release_132 ?_
                refine lv_istore (lv' := [(4, .int ((1 : Int32) + ((((ar 17) j0) >>> (0 &&& 31 : Int32) : Int32) &&& 1 : Int32))), (5, .int 0), (3, .int 2), (0, .ref m0), (1, .int (nI j0)), (2, .int p1)]) hx hb dX3_release_133 hl (by decide) rfl (fun ls hl => ?_)
                refine lv_iinc (v := 1) (lv' := [(5, .int 1), (4, .int ((1 : Int32) + ((((ar 17) j0) >>> (0 &&& 31 : Int32) : Int32) &&& 1 : Int32))), (3, .int 2), (0, .ref m0), (1, .int (nI j0)), (2, .int p1)]) hx hb dX3_release_135 hl (k := 1) rfl (by decide) (by decide) rfl (fun ls hl => ?_)
                refine lv_goto (tgt := 113) hx hb dX3_release_138 (by decide) ?_
                refine lv_iload hx hb dX3_release_113 (lv_at hl 0 rfl) ?_
                refine lv_iconst (v := 5) hx hb dX3_release_115 (by decide) ?_
                refine lv_icmp_ge (tgt := 141) hx hb dX3_release_116 (by decide) (fun c9 => absurd c9 (by decide)) (fun _ => ?_)
                refine lv_iload hx hb dX3_release_119 (lv_at hl 1 rfl) ?_
                refine lv_aload_n hx hb dX3_release_121 rfl (lv_at hl 3 rfl) ?_
                refine r_get (ci := 7) hF in_X3 hG hM hPm.1 rfl 22 (by decide) q779 (fun _ h => h) (.ref (aa 17)) rfl dX3_release_122 ?_
                refine lv_iload_n hx hb dX3_release_125 rfl (lv_at hl 4 rfl) ?_
                refine r_ialdN (n := 40) (f := (ar 17)) j0 hF hG hM hPm.a17 (by omega) (by decide) rfl dX3_release_126 ?_
                refine lv_iload hx hb dX3_release_127 (lv_at hl 0 rfl) ?_
                refine lv_ishr hx hb dX3_release_129 ?_
                refine lv_iconst (v := 1) hx hb dX3_release_130 (by decide) ?_
                refine lv_iand hx hb dX3_release_131 ?_
                refine lv_iadd hx hb dX3_release_132 ?_
                refine lv_istore (lv' := [(4, .int (((1 : Int32) + ((((ar 17) j0) >>> (0 &&& 31 : Int32) : Int32) &&& 1 : Int32)) + ((((ar 17) j0) >>> (1 &&& 31 : Int32) : Int32) &&& 1 : Int32))), (5, .int 1), (3, .int 2), (0, .ref m0), (1, .int (nI j0)), (2, .int p1)]) hx hb dX3_release_133 hl (by decide) rfl (fun ls hl => ?_)
                refine lv_iinc (v := 2) (lv' := [(5, .int 2), (4, .int (((1 : Int32) + ((((ar 17) j0) >>> (0 &&& 31 : Int32) : Int32) &&& 1 : Int32)) + ((((ar 17) j0) >>> (1 &&& 31 : Int32) : Int32) &&& 1 : Int32))), (3, .int 2), (0, .ref m0), (1, .int (nI j0)), (2, .int p1)]) hx hb dX3_release_135 hl (k := 1) rfl (by decide) (by decide) rfl (fun ls hl => ?_)
                refine lv_goto (tgt := 113) hx hb dX3_release_138 (by decide) ?_
                refine lv_iload hx hb dX3_release_113 (lv_at hl 0 rfl) ?_
                refine lv_iconst (v := 5) hx hb dX3_release_115 (by decide) ?_
                refine lv_icmp_ge (tgt := 141) hx hb dX3_release_116 (by decide) (fun c9 => absurd c9 (by decide)) (fun _ => ?_)
                refine lv_iload hx hb dX3_release_119 (lv_at hl 1 rfl) ?_
                refine lv_aload_n hx hb dX3_release_121 rfl (lv_at hl 3 rfl) ?_
                refine r_get (ci := 7) hF in_X3 hG hM hPm.1 rfl 22 (by decide) q779 (fun _ h => h) (.ref (aa 17)) rfl dX3_release_122 ?_
                refine lv_iload_n hx hb dX3_release_125 rfl (lv_at hl 4 rfl) ?_
                refine r_ialdN (n := 40) (f := (ar 17)) j0 hF hG hM hPm.a17 (by omega) (by decide) rfl dX3_release_126 ?_
                refine lv_iload hx hb dX3_release_127 (lv_at hl 0 rfl) ?_
                refine lv_ishr hx hb dX3_release_129 ?_
                refine lv_iconst (v := 1) hx hb dX3_release_130 (by decide) ?_
                refine lv_iand hx hb dX3_release_131 ?_
                refine lv_iadd hx hb dX3_release_132 ?_
                refine lv_istore (lv' := [(4, .int ((((1 : Int32) + ((((ar 17) j0) >>> (0 &&& 31 : Int32) : Int32) &&& 1 : Int32)) + ((((ar 17) j0) >>> (1 &&& 31 : Int32) : Int32) &&& 1 : Int32)) + ((((ar 17) j0) >>> (2 &&& 31 : Int32) : Int32) &&& 1 : Int32))), (5, .int 2), (3, .int 2), (0, .ref m0), (1, .int (nI j0)), (2, .int p1)]) hx hb dX3_release_133 hl (by decide) rfl (fun ls hl => ?_)
                refine lv_iinc (v := 3) (lv' := [(5, .int 3), (4, .int ((((1 : Int32) + ((((ar 17) j0) >>> (0 &&& 31 : Int32) : Int32) &&& 1 : Int32)) + ((((ar 17) j0) >>> (1 &&& 31 : Int32) : Int32) &&& 1 : Int32)) + ((((ar 17) j0) >>> (2 &&& 31 : Int32) : Int32) &&& 1 : Int32))), (3, .int 2), (0, .ref m0), (1, .int (nI j0)), (2, .int p1)]) hx hb dX3_release_135 hl (k := 1) rfl (by decide) (by decide) rfl (fun ls hl => ?_)
                refine lv_goto (tgt := 113) hx hb dX3_release_138 (by decide) ?_
                refine lv_iload hx hb dX3_release_113 (lv_at hl 0 rfl) ?_
                refine lv_iconst (v := 5) hx hb dX3_release_115 (by decide) ?_
                refine lv_icmp_ge (tgt := 141) hx hb dX3_release_116 (by decide) (fun c9 => absurd c9 (by decide)) (fun _ => ?_)
                refine lv_iload hx hb dX3_release_119 (lv_at hl 1 rfl) ?_
                refine lv_aload_n hx hb dX3_release_121 rfl (lv_at hl 3 rfl) ?_
                refine r_get (ci := 7) hF in_X3 hG hM hPm.1 rfl 22 (by decide) q779 (fun _ h => h) (.ref (aa 17)) rfl dX3_release_122 ?_
                refine lv_iload_n hx hb dX3_release_125 rfl (lv_at hl 4 rfl) ?_
                refine r_ialdN (n := 40) (f := (ar 17)) j0 hF hG hM hPm.a17 (by omega) (by decide) rfl dX3_release_126 ?_
                refine lv_iload hx hb dX3_release_127 (lv_at hl 0 rfl) ?_
                refine lv_ishr hx hb dX3_release_129 ?_
                refine lv_iconst (v := 1) hx hb dX3_release_130 (by decide) ?_
                refine lv_iand hx hb dX3_release_131 ?_
                refine lv_iadd hx hb dX3_release_132 ?_
                refine lv_istore (lv' := [(4, .int (((((1 : Int32) + ((((ar 17) j0) >>> (0 &&& 31 : Int32) : Int32) &&& 1 : Int32)) + ((((ar 17) j0) >>> (1 &&& 31 : Int32) : Int32) &&& 1 : Int32)) + ((((ar 17) j0) >>> (2 &&& 31 : Int32) : Int32) &&& 1 : Int32)) + ((((ar 17) j0) >>> (3 &&& 31 : Int32) : Int32) &&& 1 : Int32))), (5, .int 3), (3, .int 2), (0, .ref m0), (1, .int (nI j0)), (2, .int p1)]) hx hb dX3_release_133 hl (by decide) rfl (fun ls hl => ?_)
                refine lv_iinc (v := 4) (lv' := [(5, .int 4), (4, .int (((((1 : Int32) + ((((ar 17) j0) >>> (0 &&& 31 : Int32) : Int32) &&& 1 : Int32)) + ((((ar 17) j0) >>> (1 &&& 31 : Int32) : Int32) &&& 1 : Int32)) + ((((ar 17) j0) >>> (2 &&& 31 : Int32) : Int32) &&& 1 : Int32)) + ((((ar 17) j0) >>> (3 &&& 31 : Int32) : Int32) &&& 1 : Int32))), (3, .int 2), (0, .ref m0), (1, .int (nI j0)), (2, .int p1)]) hx hb dX3_release_135 hl (k := 1) rfl (by decide) (by decide) rfl (fun ls hl => ?_)
                refine lv_goto (tgt := 113) hx hb dX3_release_138 (by decide) ?_
                refine lv_iload hx hb dX3_release_113 (lv_at hl 0 rfl) ?_
                refine lv_iconst (v := 5) hx hb dX3_release_115 (by decide) ?_
                refine lv_icmp_ge (tgt := 141) hx hb dX3_release_116 (by decide) (fun c9 => absurd c9 (by decide)) (fun _ => ?_)
                refine lv_iload hx hb dX3_release_119 (lv_at hl 1 rfl) ?_
                refine lv_aload_n hx hb dX3_release_121 rfl (lv_at hl 3 rfl) ?_
                refine r_get (ci := 7) hF in_X3 hG hM hPm.1 rfl 22 (by decide) q779 (fun _ h => h) (.ref (aa 17)) rfl dX3_release_122 ?_
                refine lv_iload_n hx hb dX3_release_125 rfl (lv_at hl 4 rfl) ?_
                refine r_ialdN (n := 40) (f := (ar 17)) j0 hF hG hM hPm.a17 (by omega) (by decide) rfl dX3_release_126 ?_
                refine lv_iload hx hb dX3_release_127 (lv_at hl 0 rfl) ?_
                refine lv_ishr hx hb dX3_release_129 ?_
                refine lv_iconst (v := 1) hx hb dX3_release_130 (by decide) ?_
                refine lv_iand hx hb dX3_release_131 ?_
                refine lv_iadd hx hb dX3_release_132 ?_
                refine lv_istore (lv' := [(4, .int ((((((1 : Int32) + ((((ar 17) j0) >>> (0 &&& 31 : Int32) : Int32) &&& 1 : Int32)) + ((((ar 17) j0) >>> (1 &&& 31 : Int32) : Int32) &&& 1 : Int32)) + ((((ar 17) j0) >>> (2 &&& 31 : Int32) : Int32) &&& 1 : Int32)) + ((((ar 17) j0) >>> (3 &&& 31 : Int32) : Int32) &&& 1 : Int32)) + ((((ar 17) j0) >>> (4 &&& 31 : Int32) : Int32) &&& 1 : Int32))), (5, .int 4), (3, .int 2), (0, .ref m0), (1, .int (nI j0)), (2, .int p1)]) hx hb dX3_release_133 hl (by decide) rfl (fun ls hl => ?_)
                refine lv_iinc (v := 5) (lv' := [(5, .int 5), (4, .int ((((((1 : Int32) + ((((ar 17) j0) >>> (0 &&& 31 : Int32) : Int32) &&& 1 : Int32)) + ((((ar 17) j0) >>> (1 &&& 31 : Int32) : Int32) &&& 1 : Int32)) + ((((ar 17) j0) >>> (2 &&& 31 : Int32) : Int32) &&& 1 : Int32)) + ((((ar 17) j0) >>> (3 &&& 31 : Int32) : Int32) &&& 1 : Int32)) + ((((ar 17) j0) >>> (4 &&& 31 : Int32) : Int32) &&& 1 : Int32))), (3, .int 2), (0, .ref m0), (1, .int (nI j0)), (2, .int p1)]) hx hb dX3_release_135 hl (k := 1) rfl (by decide) (by decide) rfl (fun ls hl => ?_)
                refine lv_goto (tgt := 113) hx hb dX3_release_138 (by decide) ?_
                refine lv_iload hx hb dX3_release_113 (lv_at hl 0 rfl) ?_
                refine lv_iconst (v := 5) hx hb dX3_release_115 (by decide) ?_
                refine lv_icmp_ge (tgt := 141) hx hb dX3_release_116 (by decide) (fun _ => ?_) (fun c9 => absurd (by decide) c9)
                have em9 : ((((((1 : Int32) + ((((ar 17) j0) >>> (0 &&& 31 : Int32) : Int32) &&& 1 : Int32)) + ((((ar 17) j0) >>> (1 &&& 31 : Int32) : Int32) &&& 1 : Int32)) + ((((ar 17) j0) >>> (2 &&& 31 : Int32) : Int32) &&& 1 : Int32)) + ((((ar 17) j0) >>> (3 &&& 31 : Int32) : Int32) &&& 1 : Int32)) + ((((ar 17) j0) >>> (4 &&& 31 : Int32) : Int32) &&& 1 : Int32)) = manyOf ar j0 := rfl
                rw [em9] at hl
                refine lv_aload_n hx hb dX3_release_141 rfl (lv_at hl 3 rfl) ?_
                refine r_get (ci := 7) hF in_X3 hG hM hPm.1 rfl 16 (by decide) q773 (fun _ h => h) (.ref (aa 11)) rfl dX3_release_142 ?_
                refine lv_iload_n hx hb dX3_release_145 rfl (lv_at hl 4 rfl) ?_
                refine r_ialdN (n := 40) (f := (ar 11)) j0 hF hG hM hPm.a11 (by omega) (by decide) rfl dX3_release_146 ?_
                obtain ⟨a0, ha0, ea0⟩ := (hW.pa hj0).1
                have hna0 : nx (nI a0) = a0 := nI_clamp (by omega)
                rw [ea0]
                refine lv_istore (lv' := [(5, .int (nI a0)), (4, .int (manyOf ar j0)), (3, .int 2), (0, .ref m0), (1, .int (nI j0)), (2, .int p1)]) hx hb dX3_release_147 hl (by decide) rfl (fun ls hl => ?_)
                refine lv_iload hx hb dX3_release_149 (lv_at hl 1 rfl) ?_
                refine lv_iload_n hx hb dX3_release_151 rfl (lv_at hl 2 rfl) ?_
                refine lv_icmp_lt (tgt := 235) hx hb dX3_release_152 (by decide) (fun c_32 => ?_) (fun c_32 => ?_)
                · have c_32B := Int32.not_le.mpr c_32
                  have en9 : needOf (cn 2) lim ar j0 = 2 := by simp [needOf, b_2, hnj0, b_4, (eq_true c_6), c_9, c_12, c_13, c_13B, b_31, ea0, hna0, c_32, c_32B]
                  have hneed : ¬ (needOf (cn 2) lim ar j0 ≤ manyOf ar j0) := by rw [en9]; exact Int32.not_le.mpr c_32
                  refine lv_aload_n hx hb dX3_release_235 rfl (lv_at hl 3 rfl) ?_
                  refine r_get (ci := 7) hF in_X3 hG hM hPm.1 rfl 22 (by decide) q779 (fun _ h => h) (.ref (aa 17)) rfl dX3_release_236 ?_
                  refine lv_iload_n hx hb dX3_release_239 rfl (lv_at hl 4 rfl) ?_
                  refine lv_dup2_11 hx hb dX3_release_240 rfl rfl ?_
                  refine r_ialdN (n := 40) (f := (ar 17)) j0 hF hG hM hPm.a17 (by omega) (by decide) rfl dX3_release_241 ?_
                  refine lv_iconst (v := 1) hx hb dX3_release_242 (by decide) ?_
                  refine lv_iload_n hx hb dX3_release_243 rfl (lv_at hl 5 rfl) ?_
                  refine lv_ishl hx hb dX3_release_244 ?_
                  refine lv_ior hx hb dX3_release_245 ?_
                  refine r_iast (n := 40) (f := (ar 17)) j0 hF hG hM hS hPm.a17 (by omega) (by decide) rfl dX3_release_246 (fun H locs hM hS => ?_)
                  obtain ⟨M_33, hM, hPm, hfr⟩ := PicM.stepA 17 (by decide) hPm hfr hM
                  refine lv_iload hx hb dX3_release_247 (lv_at hl 1 rfl) ?_
                  refine lv_iload_n hx hb dX3_release_249 rfl (lv_at hl 2 rfl) ?_
                  refine lv_icmp_lt (tgt := 257) hx hb dX3_release_250 (by decide) (fun _ => ?_) (fun c9 => absurd c_32 c9)
                  refine lv_iload_n hx hb dX3_release_257 rfl (lv_at hl 2 rfl) ?_
                  refine lv_iload hx hb dX3_release_258 (lv_at hl 1 rfl) ?_
                  refine lv_isub hx hb dX3_release_260 ?_
                  have ht9 : tRelease cn lim ar (nI j0) p1 = (0 : Int32) := by simp [tRelease, b_2, hnj0, b_4, (eq_true c_6), c_9, c_12, c_13, c_13B, b_31, ea0, hna0, c_32, c_32B, hneed, en9]
                  have ha9 : ((2 : Int32) - (manyOf ar j0)) = aRelease cn lim ar (nI j0) := by simp [aRelease, b_2, hnj0, b_4, (eq_true c_6), c_9, c_12, c_13, c_13B, b_31, ea0, hna0, c_32, c_32B, hneed, en9]
                  have er9 : rRelease cn lim ar (nI j0) p1 = (va_up ar 17 (upd (ar 17) j0 (((ar 17) j0) ||| ((1 : Int32) <<< (p1 &&& 31 : Int32) : Int32) : Int32))) := by first | rfl | (simp only [rRelease, aRelease, cRelease, rUse, b_2, hnj0, b_4, (eq_true c_6), c_9, c_12, c_13, c_13B, b_31, ea0, hna0, c_32, c_32B, hneed, en9]; done) | (simp only [rRelease, aRelease, cRelease, rUse, b_2, hnj0, b_4, (eq_true c_6), c_9, c_12, c_13, c_13B, b_31, ea0, hna0, c_32, c_32B, hneed, en9]; rfl) | simp [rRelease, aRelease, cRelease, rUse, b_2, hnj0, b_4, (eq_true c_6), c_9, c_12, c_13, c_13B, b_31, ea0, hna0, c_32, c_32B, hneed, en9]
                  have ec9 : cRelease cn lim ar (nI j0) = cn := by first | rfl | (simp only [rRelease, aRelease, cRelease, rUse, b_2, hnj0, b_4, (eq_true c_6), c_9, c_12, c_13, c_13B, b_31, ea0, hna0, c_32, c_32B, hneed, en9]; done) | (simp only [rRelease, aRelease, cRelease, rUse, b_2, hnj0, b_4, (eq_true c_6), c_9, c_12, c_13, c_13B, b_31, ea0, hna0, c_32, c_32B, hneed, en9]; rfl) | simp [rRelease, aRelease, cRelease, rUse, b_2, hnj0, b_4, (eq_true c_6), c_9, c_12, c_13, c_13B, b_31, ea0, hna0, c_32, c_32B, hneed, en9]
                  exact k_iret hx hb hr rfl hlocks hG hz hM hS (Nat.le_of_ble_eq_true rfl) (Nat.le_of_ble_eq_true rfl) dX3_release_261 ⟨_, rfl, mPost.ok ht9 ha9 (by rw [ec9, er9]; exact hPm) hfr⟩
                · have c_32B := Int32.not_lt.mp c_32
                  have en9 : needOf (cn 2) lim ar j0 = 2 := by simp [needOf, b_2, hnj0, b_4, (eq_true c_6), c_9, c_12, c_13, c_13B, b_31, ea0, hna0, c_32, c_32B]
                  have hneed : needOf (cn 2) lim ar j0 ≤ manyOf ar j0 := by rw [en9]; exact c_32B
                  refine lv_aload_n hx hb dX3_release_155 rfl (lv_at hl 3 rfl) ?_
                  refine r_get (ci := 7) hF in_X3 hG hM hPm.1 rfl 2 (by decide) q759 (fun _ h => h) (.int (nI (cn 4))) rfl dX3_release_156 ?_
                  refine lv_bipush (v := 12) hx hb dX3_release_159 (by decide) ?_
                  refine lv_icmp_gt (tgt := 188) hx hb dX3_release_161 (by decide) (fun c_34 => ?_) (fun c_34 => ?_)
                  · have c_34R := c_34
                    have c_34 : 12 < (cn 4) := (nI_ltI (a := 12) (b := (cn 4)) (by omega) (by omega)).mp c_34R
                    have c_34B : ¬ ((cn 4) ≤ 12) := by omega
                    have c_34RB := Int32.not_le.mpr c_34R
                    refine lv_aload_n hx hb dX3_release_188 rfl (lv_at hl 3 rfl) ?_
                    refine lv_iconst (v := 2) hx hb dX3_release_189 (by decide) ?_
                    refine kV (k9 := 0) (n9 := 0) hF hG hz hM hS [.int 2] [] (metX3_fails hPm 2) (cwV 1 hts (lw_V q917 q919 qs14 q27 q920) rfl rfl rfl (by decide +kernel) ⟨(Nat.le_of_ble_eq_true rfl), (Nat.le_of_ble_eq_true rfl)⟩) (k_recv hG hM hPm.1 (ci := 7) rfl) rfl hl.1 rfl (Nat.le_of_ble_eq_true rfl) dX3_release_190 rfl rfl (Nat.le_of_ble_eq_true rfl) (Nat.le_of_ble_eq_true rfl) (fun _ _ _ _ _ h9 _ _ _ _ _ => h9.elim) (fun v9 M9_11 H locs hp9 hM9_11 hS => ?_)
                    obtain ⟨r_35, rfl, r_35_e, hPm, hfr9⟩ := hp9
                    have hM := hM9_11
                    have hfr := hfr.tr hfr9
                    subst r_35_e
                    refine W.eq (g2 := F0 m 193 ls [.int 0]) rfl ?_
                    have ht9 : tRelease cn lim ar (nI j0) p1 = (2 : Int32) := by simp [tRelease, b_2, hnj0, b_4, (eq_true c_6), c_9, c_12, c_13, c_13B, b_31, ea0, hna0, c_32, c_32B, hneed, en9, c_34, c_34B, c_34R, c_34RB]
                    exact k_iret hx hb hr rfl hlocks hG hz hM hS (Nat.le_of_ble_eq_true rfl) (Nat.le_of_ble_eq_true rfl) dX3_release_193 ⟨_, rfl, mPost.bad ht9 (by decide) hPm hfr⟩
                  · have c_34R := c_34
                    have c_34 : ¬ (12 < (cn 4)) := fun h9 => c_34R ((nI_ltI (a := 12) (b := (cn 4)) (by omega) (by omega)).mpr h9)
                    have c_34B : (cn 4) ≤ 12 := by omega
                    have c_34RB := Int32.not_lt.mp c_34R
                    refine lv_aload_n hx hb dX3_release_164 rfl (lv_at hl 3 rfl) ?_
                    refine r_get (ci := 7) hF in_X3 hG hM hPm.1 rfl 3 (by decide) q760 (fun _ h => h) (.int (nI (cn 1))) rfl dX3_release_165 ?_
                    refine lv_bipush (v := 120) hx hb dX3_release_168 (by decide) ?_
                    refine lv_icmp_eq (tgt := 188) hx hb dX3_release_170 (by decide) (fun c_37 => ?_) (fun c_37 => ?_)
                    · have c_37R := c_37
                      have c_37 : (cn 1) = 120 := (nI_eq (a := (cn 1)) (b := 120) (by omega) (by omega)).mp c_37R
                      refine lv_aload_n hx hb dX3_release_188 rfl (lv_at hl 3 rfl) ?_
                      refine lv_iconst (v := 2) hx hb dX3_release_189 (by decide) ?_
                      refine kV (k9 := 0) (n9 := 0) hF hG hz hM hS [.int 2] [] (metX3_fails hPm 2) (cwV 1 hts (lw_V q917 q919 qs14 q27 q920) rfl rfl rfl (by decide +kernel) ⟨(Nat.le_of_ble_eq_true rfl), (Nat.le_of_ble_eq_true rfl)⟩) (k_recv hG hM hPm.1 (ci := 7) rfl) rfl hl.1 rfl (Nat.le_of_ble_eq_true rfl) dX3_release_190 rfl rfl (Nat.le_of_ble_eq_true rfl) (Nat.le_of_ble_eq_true rfl) (fun _ _ _ _ _ h9 _ _ _ _ _ => h9.elim) (fun v9 M9_12 H locs hp9 hM9_12 hS => ?_)
                      obtain ⟨r_38, rfl, r_38_e, hPm, hfr9⟩ := hp9
                      have hM := hM9_12
                      have hfr := hfr.tr hfr9
                      subst r_38_e
                      refine W.eq (g2 := F0 m 193 ls [.int 0]) rfl ?_
                      have ht9 : tRelease cn lim ar (nI j0) p1 = (2 : Int32) := by simp [tRelease, b_2, hnj0, b_4, (eq_true c_6), c_9, c_12, c_13, c_13B, b_31, ea0, hna0, c_32, c_32B, hneed, en9, c_34, c_34B, c_34R, c_34RB, (eq_true c_37), (eq_true c_37R)]
                      exact k_iret hx hb hr rfl hlocks hG hz hM hS (Nat.le_of_ble_eq_true rfl) (Nat.le_of_ble_eq_true rfl) dX3_release_193 ⟨_, rfl, mPost.bad ht9 (by decide) hPm hfr⟩
                    · have c_37R := c_37
                      have c_37 : ¬ ((cn 1) = 120) := fun h9 => c_37R ((nI_eq (a := (cn 1)) (b := 120) (by omega) (by omega)).mpr h9)
                      refine lv_aload_n hx hb dX3_release_173 rfl (lv_at hl 3 rfl) ?_
                      refine lv_iload hx hb dX3_release_174 (lv_at hl 0 rfl) ?_
                      refine kV (k9 := 0) (n9 := 0) hF hG hz hM hS [.int (nI a0)] [] (metX3_leftOf hPm a0 (by omega)) (cwV 1 hts (lw_V q913 q915 qs13 q27 q916) rfl rfl rfl (by decide +kernel) ⟨(Nat.le_of_ble_eq_true rfl), (Nat.le_of_ble_eq_true rfl)⟩) (k_recv hG hM hPm.1 (ci := 7) rfl) rfl hl.1 rfl (Nat.le_of_ble_eq_true rfl) dX3_release_176 rfl rfl (Nat.le_of_ble_eq_true rfl) (Nat.le_of_ble_eq_true rfl) (fun _ _ _ _ _ h9 _ _ _ _ _ => h9.elim) (fun v9 M9_13 H locs hp9 hM9_13 hS => ?_)
                      obtain ⟨r_40, rfl, r_40_e, rfl⟩ := hp9
                      have hM := hM9_13
                      subst r_40_e
                      refine W.eq (g2 := F0 m 179 ls [.int (lef ar a0)]) rfl ?_
                      refine lv_aload_n hx hb dX3_release_179 rfl (lv_at hl 3 rfl) ?_
                      refine r_get (ci := 7) hF in_X3 hG hM hPm.1 rfl 18 (by decide) q775 (fun _ h => h) (.ref (aa 13)) rfl dX3_release_180 ?_
                      refine lv_iload_n hx hb dX3_release_183 rfl (lv_at hl 4 rfl) ?_
                      refine r_ialdN (n := 40) (f := (ar 13)) j0 hF hG hM hPm.a13 (by omega) (by decide) rfl dX3_release_184 ?_
                      refine lv_icmp_ge (tgt := 194) hx hb dX3_release_185 (by decide) (fun c_41 => ?_) (fun c_41 => ?_)
                      · have c_41B := Int32.not_lt.mpr c_41
                        refine lv_aload_n hx hb dX3_release_194 rfl (lv_at hl 3 rfl) ?_
                        refine r_get (ci := 7) hF in_X3 hG hM hPm.1 rfl 21 (by decide) q778 (fun _ h => h) (.ref (aa 16)) rfl dX3_release_195 ?_
                        refine lv_iload_n hx hb dX3_release_198 rfl (lv_at hl 4 rfl) ?_
                        refine lv_iconst (v := 1) hx hb dX3_release_199 (by decide) ?_
                        refine r_iast (n := 40) (f := (ar 16)) j0 hF hG hM hS hPm.a16 (by omega) (by decide) rfl dX3_release_200 (fun H locs hM hS => ?_)
                        obtain ⟨M_42, hM, hPm, hfr⟩ := PicM.stepA 16 (by decide) hPm hfr hM
                        refine lv_aload_n hx hb dX3_release_201 rfl (lv_at hl 3 rfl) ?_
                        refine r_get (ci := 7) hF in_X3 hG hM hPm.1 rfl 13 (by decide) q770 (fun _ h => h) (.ref (aa 10)) rfl dX3_release_202 ?_
                        refine lv_iload hx hb dX3_release_205 (lv_at hl 0 rfl) ?_
                        refine lv_dup2_11 hx hb dX3_release_207 rfl rfl ?_
                        refine r_ialdN (n := 14) (f := (ar 10)) a0 hF hG hM hPm.a10 (by omega) (by decide) rfl dX3_release_208 ?_
                        refine lv_aload_n hx hb dX3_release_209 rfl (lv_at hl 3 rfl) ?_
                        refine r_get (ci := 7) hF in_X3 hG hM hPm.1 rfl 18 (by decide) q775 (fun _ h => h) (.ref (aa 13)) rfl dX3_release_210 ?_
                        refine lv_iload_n hx hb dX3_release_213 rfl (lv_at hl 4 rfl) ?_
                        refine r_ialdN (n := 40) (f := (ar 13)) j0 hF hG hM hPm.a13 (by omega) (by decide) rfl dX3_release_214 ?_
                        refine lv_iadd hx hb dX3_release_215 ?_
                        refine r_iast (n := 14) (f := (ar 10)) a0 hF hG hM hS hPm.a10 (by omega) (by decide) rfl dX3_release_216 (fun H locs hM hS => ?_)
                        obtain ⟨M_43, hM, hPm, hfr⟩ := PicM.stepA 10 (by decide) hPm hfr hM
                        refine lv_aload_n hx hb dX3_release_217 rfl (lv_at hl 3 rfl) ?_
                        refine lv_aload_n hx hb dX3_release_218 rfl (lv_at hl 3 rfl) ?_
                        refine r_get (ci := 7) hF in_X3 hG hM hPm.1 rfl 2 (by decide) q759 (fun _ h => h) (.int (nI (cn 4))) rfl dX3_release_219 ?_
                        refine lv_iload hx hb dX3_release_222 (lv_at hl 0 rfl) ?_
                        refine lv_iconst (v := 0) hx hb dX3_release_224 (by decide) ?_
                        refine lv_aload_n hx hb dX3_release_225 rfl (lv_at hl 3 rfl) ?_
                        refine r_get (ci := 7) hF in_X3 hG hM hPm.1 rfl 18 (by decide) q775 (fun _ h => h) (.ref (aa 13)) rfl dX3_release_226 ?_
                        refine lv_iload_n hx hb dX3_release_229 rfl (lv_at hl 4 rfl) ?_
                        refine r_ialdN (n := 40) (f := (ar 13)) j0 hF hG hM hPm.a13 (by omega) (by decide) rfl dX3_release_230 ?_
                        refine kV (k9 := 0) (n9 := 0) hF hG hz hM hS [.int (nI (cn 4)), .int (nI a0), .int 0, .int ((ar 13) j0)] [] (metX3_enters hPm (nI (cn 4)) (nI a0) 0 ((ar 13) j0) (show (cn 1) < 120 by omega)) (cwV 4 hts (lw_V q865 q867 qs10 q27 q868) rfl rfl rfl (by decide +kernel) ⟨(Nat.le_of_ble_eq_true rfl), (Nat.le_of_ble_eq_true rfl)⟩) (k_recv hG hM hPm.1 (ci := 7) rfl) rfl hl.1 rfl (Nat.le_of_ble_eq_true rfl) dX3_release_231 rfl rfl (Nat.le_of_ble_eq_true rfl) (Nat.le_of_ble_eq_true rfl) (fun _ _ _ _ _ h9 _ _ _ _ _ => h9.elim) (fun v9 M9_14 H locs hp9 hM9_14 hS => ?_)
                        obtain ⟨r_44, rfl, r_44_e, hPm, hfr9⟩ := hp9
                        have hM := hM9_14
                        have hfr := hfr.tr hfr9
                        subst r_44_e
                        rw [show lateOf cn (nI (cn 4)) = 0 from lateOf_0 (Int32.le_refl _)] at hPm
                        refine W.eq (g2 := F0 m 234 ls [.int (nI (cn 1))]) rfl ?_
                        refine lv_pop hx hb dX3_release_234 rfl ?_
                        refine lv_aload_n hx hb dX3_release_235 rfl (lv_at hl 3 rfl) ?_
                        refine r_get (ci := 7) hF in_X3 hG hM hPm.1 rfl 22 (by decide) q779 (fun _ h => h) (.ref (aa 17)) rfl dX3_release_236 ?_
                        refine lv_iload_n hx hb dX3_release_239 rfl (lv_at hl 4 rfl) ?_
                        refine lv_dup2_11 hx hb dX3_release_240 rfl rfl ?_
                        refine r_ialdN (n := 40) (f := (ar 17)) j0 hF hG hM hPm.a17 (by omega) (by decide) rfl dX3_release_241 ?_
                        refine lv_iconst (v := 1) hx hb dX3_release_242 (by decide) ?_
                        refine lv_iload_n hx hb dX3_release_243 rfl (lv_at hl 5 rfl) ?_
                        refine lv_ishl hx hb dX3_release_244 ?_
                        refine lv_ior hx hb dX3_release_245 ?_
                        refine r_iast (n := 40) (f := (ar 17)) j0 hF hG hM hS hPm.a17 (by omega) (by decide) rfl dX3_release_246 (fun H locs hM hS => ?_)
                        obtain ⟨M_45, hM, hPm, hfr⟩ := PicM.stepA 17 (by decide) hPm hfr hM
                        refine lv_iload hx hb dX3_release_247 (lv_at hl 1 rfl) ?_
                        refine lv_iload_n hx hb dX3_release_249 rfl (lv_at hl 2 rfl) ?_
                        refine lv_icmp_lt (tgt := 257) hx hb dX3_release_250 (by decide) (fun c9 => absurd c9 c_32) (fun _ => ?_)
                        refine lv_iconst (v := 0) hx hb dX3_release_253 (by decide) ?_
                        refine lv_goto (tgt := 261) hx hb dX3_release_254 (by decide) ?_
                        have ht9 : tRelease cn lim ar (nI j0) p1 = (0 : Int32) := by simp [tRelease, b_2, hnj0, b_4, (eq_true c_6), c_9, c_12, c_13, c_13B, b_31, ea0, hna0, c_32, c_32B, hneed, en9, c_34, c_34B, c_34R, c_34RB, c_37, c_37R, c_41, c_41B]
                        have ha9 : (0 : Int32) = aRelease cn lim ar (nI j0) := by simp [aRelease, b_2, hnj0, b_4, (eq_true c_6), c_9, c_12, c_13, c_13B, b_31, ea0, hna0, c_32, c_32B, hneed, en9, c_34, c_34B, c_34R, c_34RB, c_37, c_37R, c_41, c_41B]
                        have er9 : rRelease cn lim ar (nI j0) p1 = (va_up (rEnters cn (va_up (va_up ar 16 (upd (ar 16) j0 1)) 10 (upd (ar 10) a0 (((ar 10) a0) + ((ar 13) j0)))) 0 (nI a0) 0 ((ar 13) j0)) 17 (upd (ar 17) j0 (((ar 17) j0) ||| ((1 : Int32) <<< (p1 &&& 31 : Int32) : Int32) : Int32))) := by first | rfl | (simp only [rRelease, aRelease, cRelease, rUse, b_2, hnj0, b_4, (eq_true c_6), c_9, c_12, c_13, c_13B, b_31, ea0, hna0, c_32, c_32B, hneed, en9, c_34, c_34B, c_34R, c_34RB, c_37, c_37R, c_41, c_41B]; done) | (simp only [rRelease, aRelease, cRelease, rUse, b_2, hnj0, b_4, (eq_true c_6), c_9, c_12, c_13, c_13B, b_31, ea0, hna0, c_32, c_32B, hneed, en9, c_34, c_34B, c_34R, c_34RB, c_37, c_37R, c_41, c_41B]; rfl) | simp [rRelease, aRelease, cRelease, rUse, b_2, hnj0, b_4, (eq_true c_6), c_9, c_12, c_13, c_13B, b_31, ea0, hna0, c_32, c_32B, hneed, en9, c_34, c_34B, c_34R, c_34RB, c_37, c_37R, c_41, c_41B]
                        have ec9 : cRelease cn lim ar (nI j0) = (cUp cn 1) := by first | rfl | (simp only [rRelease, aRelease, cRelease, rUse, b_2, hnj0, b_4, (eq_true c_6), c_9, c_12, c_13, c_13B, b_31, ea0, hna0, c_32, c_32B, hneed, en9, c_34, c_34B, c_34R, c_34RB, c_37, c_37R, c_41, c_41B]; done) | (simp only [rRelease, aRelease, cRelease, rUse, b_2, hnj0, b_4, (eq_true c_6), c_9, c_12, c_13, c_13B, b_31, ea0, hna0, c_32, c_32B, hneed, en9, c_34, c_34B, c_34R, c_34RB, c_37, c_37R, c_41, c_41B]; rfl) | simp [rRelease, aRelease, cRelease, rUse, b_2, hnj0, b_4, (eq_true c_6), c_9, c_12, c_13, c_13B, b_31, ea0, hna0, c_32, c_32B, hneed, en9, c_34, c_34B, c_34R, c_34RB, c_37, c_37R, c_41, c_41B]
                        exact k_iret hx hb hr rfl hlocks hG hz hM hS (Nat.le_of_ble_eq_true rfl) (Nat.le_of_ble_eq_true rfl) dX3_release_261 ⟨_, rfl, mPost.ok ht9 ha9 (by rw [ec9, er9]; exact hPm) hfr⟩
                      · have c_41B := Int32.not_le.mp c_41
                        refine lv_aload_n hx hb dX3_release_188 rfl (lv_at hl 3 rfl) ?_
                        refine lv_iconst (v := 2) hx hb dX3_release_189 (by decide) ?_
                        refine kV (k9 := 0) (n9 := 0) hF hG hz hM hS [.int 2] [] (metX3_fails hPm 2) (cwV 1 hts (lw_V q917 q919 qs14 q27 q920) rfl rfl rfl (by decide +kernel) ⟨(Nat.le_of_ble_eq_true rfl), (Nat.le_of_ble_eq_true rfl)⟩) (k_recv hG hM hPm.1 (ci := 7) rfl) rfl hl.1 rfl (Nat.le_of_ble_eq_true rfl) dX3_release_190 rfl rfl (Nat.le_of_ble_eq_true rfl) (Nat.le_of_ble_eq_true rfl) (fun _ _ _ _ _ h9 _ _ _ _ _ => h9.elim) (fun v9 M9_15 H locs hp9 hM9_15 hS => ?_)
                        obtain ⟨r_46, rfl, r_46_e, hPm, hfr9⟩ := hp9
                        have hM := hM9_15
                        have hfr := hfr.tr hfr9
                        subst r_46_e
                        refine W.eq (g2 := F0 m 193 ls [.int 0]) rfl ?_
                        have ht9 : tRelease cn lim ar (nI j0) p1 = (2 : Int32) := by simp [tRelease, b_2, hnj0, b_4, (eq_true c_6), c_9, c_12, c_13, c_13B, b_31, ea0, hna0, c_32, c_32B, hneed, en9, c_34, c_34B, c_34R, c_34RB, c_37, c_37R, c_41, c_41B]
                        exact k_iret hx hb hr rfl hlocks hG hz hM hS (Nat.le_of_ble_eq_true rfl) (Nat.le_of_ble_eq_true rfl) dX3_release_193 ⟨_, rfl, mPost.bad ht9 (by decide) hPm hfr⟩
              · refine W.eq (g2 := F0 m 98 ls [.int 0]) rfl ?_
                refine lv_if_eq (tgt := 105) hx hb dX3_release_98 (by decide) (fun _ => ?_) (fun c9 => absurd (by decide) c9)
                refine lv_iconst (v := 1) hx hb dX3_release_105 (by decide) ?_
                refine lv_istore_n (lv' := [(3, .int 1), (0, .ref m0), (1, .int (nI j0)), (2, .int p1)]) hx hb dX3_release_106 rfl hl (by decide) rfl (fun ls hl => ?_)
                refine lv_iconst (v := 1) hx hb dX3_release_107 (by decide) ?_
                refine lv_istore (lv' := [(4, .int 1), (3, .int 1), (0, .ref m0), (1, .int (nI j0)), (2, .int p1)]) hx hb dX3_release_108 hl (by decide) rfl (fun ls hl => ?_)
                refine lv_iconst (v := 0) hx hb dX3_release_110 (by decide) ?_
                refine lv_istore (lv' := [(5, .int 0), (4, .int 1), (3, .int 1), (0, .ref m0), (1, .int (nI j0)), (2, .int p1)]) hx hb dX3_release_111 hl (by decide) rfl (fun ls hl => ?_)
                refine lv_iload hx hb dX3_release_113 (lv_at hl 0 rfl) ?_
                refine lv_iconst (v := 5) hx hb dX3_release_115 (by decide) ?_
                refine lv_icmp_ge (tgt := 141) hx hb dX3_release_116 (by decide) (fun c9 => absurd c9 (by decide)) (fun _ => ?_)
                refine lv_iload hx hb dX3_release_119 (lv_at hl 1 rfl) ?_
                refine lv_aload_n hx hb dX3_release_121 rfl (lv_at hl 3 rfl) ?_
                refine r_get (ci := 7) hF in_X3 hG hM hPm.1 rfl 22 (by decide) q779 (fun _ h => h) (.ref (aa 17)) rfl dX3_release_122 ?_
                refine lv_iload_n hx hb dX3_release_125 rfl (lv_at hl 4 rfl) ?_
                refine r_ialdN (n := 40) (f := (ar 17)) j0 hF hG hM hPm.a17 (by omega) (by decide) rfl dX3_release_126 ?_
                refine lv_iload hx hb dX3_release_127 (lv_at hl 0 rfl) ?_
                refine lv_ishr hx hb dX3_release_129 ?_
                refine lv_iconst (v := 1) hx hb dX3_release_130 (by decide) ?_
                refine lv_iand hx hb dX3_release_131 ?_
                refine lv_iadd hx hb dX3_release_132 ?_
                refine lv_istore (lv' := [(4, .int ((1 : Int32) + ((((ar 17) j0) >>> (0 &&& 31 : Int32) : Int32) &&& 1 : Int32))), (5, .int 0), (3, .int 1), (0, .ref m0), (1, .int (nI j0)), (2, .int p1)]) hx hb dX3_release_133 hl (by decide) rfl (fun ls hl => ?_)
                refine lv_iinc (v := 1) (lv' := [(5, .int 1), (4, .int ((1 : Int32) + ((((ar 17) j0) >>> (0 &&& 31 : Int32) : Int32) &&& 1 : Int32))), (3, .int 1), (0, .ref m0), (1, .int (nI j0)), (2, .int p1)]) hx hb dX3_release_135 hl (k := 1) rfl (by decide) (by decide) rfl (fun ls hl => ?_)
                refine lv_goto (tgt := 113) hx hb dX3_release_138 (by decide) ?_
                refine lv_iload hx hb dX3_release_113 (lv_at hl 0 rfl) ?_
                refine lv_iconst (v := 5) hx hb dX3_release_115 (by decide) ?_
                refine lv_icmp_ge (tgt := 141) hx hb dX3_release_116 (by decide) (fun c9 => absurd c9 (by decide)) (fun _ => ?_)
                refine lv_iload hx hb dX3_release_119 (lv_at hl 1 rfl) ?_
                refine lv_aload_n hx hb dX3_release_121 rfl (lv_at hl 3 rfl) ?_
                refine r_get (ci := 7) hF in_X3 hG hM hPm.1 rfl 22 (by decide) q779 (fun _ h => h) (.ref (aa 17)) rfl dX3_release_122 ?_
                refine lv_iload_n hx hb dX3_release_125 rfl (lv_at hl 4 rfl) ?_
                refine r_ialdN (n := 40) (f := (ar 17)) j0 hF hG hM hPm.a17 (by omega) (by decide) rfl dX3_release_126 ?_
                refine lv_iload hx hb dX3_release_127 (lv_at hl 0 rfl) ?_
                refine lv_ishr hx hb dX3_release_129 ?_
                refine lv_iconst (v := 1) hx hb dX3_release_130 (by decide) ?_
                refine lv_iand hx hb dX3_release_131 ?_
                refine lv_iadd hx hb dX3_release_132 ?_
                refine lv_istore (lv' := [(4, .int (((1 : Int32) + ((((ar 17) j0) >>> (0 &&& 31 : Int32) : Int32) &&& 1 : Int32)) + ((((ar 17) j0) >>> (1 &&& 31 : Int32) : Int32) &&& 1 : Int32))), (5, .int 1), (3, .int 1), (0, .ref m0), (1, .int (nI j0)), (2, .int p1)]) hx hb dX3_release_133 hl (by decide) rfl (fun ls hl => ?_)
                refine lv_iinc (v := 2) (lv' := [(5, .int 2), (4, .int (((1 : Int32) + ((((ar 17) j0) >>> (0 &&& 31 : Int32) : Int32) &&& 1 : Int32)) + ((((ar 17) j0) >>> (1 &&& 31 : Int32) : Int32) &&& 1 : Int32))), (3, .int 1), (0, .ref m0), (1, .int (nI j0)), (2, .int p1)]) hx hb dX3_release_135 hl (k := 1) rfl (by decide) (by decide) rfl (fun ls hl => ?_)
                refine lv_goto (tgt := 113) hx hb dX3_release_138 (by decide) ?_
                refine lv_iload hx hb dX3_release_113 (lv_at hl 0 rfl) ?_
                refine lv_iconst (v := 5) hx hb dX3_release_115 (by decide) ?_
                refine lv_icmp_ge (tgt := 141) hx hb dX3_release_116 (by decide) (fun c9 => absurd c9 (by decide)) (fun _ => ?_)
                refine lv_iload hx hb dX3_release_119 (lv_at hl 1 rfl) ?_
                refine lv_aload_n hx hb dX3_release_121 rfl (lv_at hl 3 rfl) ?_
                refine r_get (ci := 7) hF in_X3 hG hM hPm.1 rfl 22 (by decide) q779 (fun _ h => h) (.ref (aa 17)) rfl dX3_release_122 ?_
                refine lv_iload_n hx hb dX3_release_125 rfl (lv_at hl 4 rfl) ?_
                refine r_ialdN (n := 40) (f := (ar 17)) j0 hF hG hM hPm.a17 (by omega) (by decide) rfl dX3_release_126 ?_
                refine lv_iload hx hb dX3_release_127 (lv_at hl 0 rfl) ?_
                refine lv_ishr hx hb dX3_release_129 ?_
                refine lv_iconst (v := 1) hx hb dX3_release_130 (by decide) ?_
                refine lv_iand hx hb dX3_release_131 ?_
                refine lv_iadd hx hb dX3_release_132 ?_
                refine lv_istore (lv' := [(4, .int ((((1 : Int32) + ((((ar 17) j0) >>> (0 &&& 31 : Int32) : Int32) &&& 1 : Int32)) + ((((ar 17) j0) >>> (1 &&& 31 : Int32) : Int32) &&& 1 : Int32)) + ((((ar 17) j0) >>> (2 &&& 31 : Int32) : Int32) &&& 1 : Int32))), (5, .int 2), (3, .int 1), (0, .ref m0), (1, .int (nI j0)), (2, .int p1)]) hx hb dX3_release_133 hl (by decide) rfl (fun ls hl => ?_)
                refine lv_iinc (v := 3) (lv' := [(5, .int 3), (4, .int ((((1 : Int32) + ((((ar 17) j0) >>> (0 &&& 31 : Int32) : Int32) &&& 1 : Int32)) + ((((ar 17) j0) >>> (1 &&& 31 : Int32) : Int32) &&& 1 : Int32)) + ((((ar 17) j0) >>> (2 &&& 31 : Int32) : Int32) &&& 1 : Int32))), (3, .int 1), (0, .ref m0), (1, .int (nI j0)), (2, .int p1)]) hx hb dX3_release_135 hl (k := 1) rfl (by decide) (by decide) rfl (fun ls hl => ?_)
                refine lv_goto (tgt := 113) hx hb dX3_release_138 (by decide) ?_
                refine lv_iload hx hb dX3_release_113 (lv_at hl 0 rfl) ?_
                refine lv_iconst (v := 5) hx hb dX3_release_115 (by decide) ?_
                refine lv_icmp_ge (tgt := 141) hx hb dX3_release_116 (by decide) (fun c9 => absurd c9 (by decide)) (fun _ => ?_)
                refine lv_iload hx hb dX3_release_119 (lv_at hl 1 rfl) ?_
                refine lv_aload_n hx hb dX3_release_121 rfl (lv_at hl 3 rfl) ?_
                refine r_get (ci := 7) hF in_X3 hG hM hPm.1 rfl 22 (by decide) q779 (fun _ h => h) (.ref (aa 17)) rfl dX3_release_122 ?_
                refine lv_iload_n hx hb dX3_release_125 rfl (lv_at hl 4 rfl) ?_
                refine r_ialdN (n := 40) (f := (ar 17)) j0 hF hG hM hPm.a17 (by omega) (by decide) rfl dX3_release_126 ?_
                refine lv_iload hx hb dX3_release_127 (lv_at hl 0 rfl) ?_
                refine lv_ishr hx hb dX3_release_129 ?_
                refine lv_iconst (v := 1) hx hb dX3_release_130 (by decide) ?_
                refine lv_iand hx hb dX3_release_131 ?_
                refine lv_iadd hx hb dX3_release_132 ?_
                refine lv_istore (lv' := [(4, .int (((((1 : Int32) + ((((ar 17) j0) >>> (0 &&& 31 : Int32) : Int32) &&& 1 : Int32)) + ((((ar 17) j0) >>> (1 &&& 31 : Int32) : Int32) &&& 1 : Int32)) + ((((ar 17) j0) >>> (2 &&& 31 : Int32) : Int32) &&& 1 : Int32)) + ((((ar 17) j0) >>> (3 &&& 31 : Int32) : Int32) &&& 1 : Int32))), (5, .int 3), (3, .int 1), (0, .ref m0), (1, .int (nI j0)), (2, .int p1)]) hx hb dX3_release_133 hl (by decide) rfl (fun ls hl => ?_)
                refine lv_iinc (v := 4) (lv' := [(5, .int 4), (4, .int (((((1 : Int32) + ((((ar 17) j0) >>> (0 &&& 31 : Int32) : Int32) &&& 1 : Int32)) + ((((ar 17) j0) >>> (1 &&& 31 : Int32) : Int32) &&& 1 : Int32)) + ((((ar 17) j0) >>> (2 &&& 31 : Int32) : Int32) &&& 1 : Int32)) + ((((ar 17) j0) >>> (3 &&& 31 : Int32) : Int32) &&& 1 : Int32))), (3, .int 1), (0, .ref m0), (1, .int (nI j0)), (2, .int p1)]) hx hb dX3_release_135 hl (k := 1) rfl (by decide) (by decide) rfl (fun ls hl => ?_)
                refine lv_goto (tgt := 113) hx hb dX3_release_138 (by decide) ?_
                refine lv_iload hx hb dX3_release_113 (lv_at hl 0 rfl) ?_
                refine lv_iconst (v := 5) hx hb dX3_release_115 (by decide) ?_
                refine lv_icmp_ge (tgt := 141) hx hb dX3_release_116 (by decide) (fun c9 => absurd c9 (by decide)) (fun _ => ?_)
                refine lv_iload hx hb dX3_release_119 (lv_at hl 1 rfl) ?_
                refine lv_aload_n hx hb dX3_release_121 rfl (lv_at hl 3 rfl) ?_
                refine r_get (ci := 7) hF in_X3 hG hM hPm.1 rfl 22 (by decide) q779 (fun _ h => h) (.ref (aa 17)) rfl dX3_release_122 ?_
                refine lv_iload_n hx hb dX3_release_125 rfl (lv_at hl 4 rfl) ?_
                refine r_ialdN (n := 40) (f := (ar 17)) j0 hF hG hM hPm.a17 (by omega) (by decide) rfl dX3_release_126 ?_
                refine lv_iload hx hb dX3_release_127 (lv_at hl 0 rfl) ?_
                refine lv_ishr hx hb dX3_release_129 ?_
                refine lv_iconst (v := 1) hx hb dX3_release_130 (by decide) ?_
                refine lv_iand hx hb dX3_release_131 ?_
                refine lv_iadd hx hb dX3_release_132 ?_
                refine lv_istore (lv' := [(4, .int ((((((1 : Int32) + ((((ar 17) j0) >>> (0 &&& 31 : Int32) : Int32) &&& 1 : Int32)) + ((((ar 17) j0) >>> (1 &&& 31 : Int32) : Int32) &&& 1 : Int32)) + ((((ar 17) j0) >>> (2 &&& 31 : Int32) : Int32) &&& 1 : Int32)) + ((((ar 17) j0) >>> (3 &&& 31 : Int32) : Int32) &&& 1 : Int32)) + ((((ar 17) j0) >>> (4 &&& 31 : Int32) : Int32) &&& 1 : Int32))), (5, .int 4), (3, .int 1), (0, .ref m0), (1, .int (nI j0)), (2, .int p1)]) hx hb dX3_release_133 hl (by decide) rfl (fun ls hl => ?_)
                refine lv_iinc (v := 5) (lv' := [(5, .int 5), (4, .int ((((((1 : Int32) + ((((ar 17) j0) >>> (0 &&& 31 : Int32) : Int32) &&& 1 : Int32)) + ((((ar 17) j0) >>> (1 &&& 31 : Int32) : Int32) &&& 1 : Int32)) + ((((ar 17) j0) >>> (2 &&& 31 : Int32) : Int32) &&& 1 : Int32)) + ((((ar 17) j0) >>> (3 &&& 31 : Int32) : Int32) &&& 1 : Int32)) + ((((ar 17) j0) >>> (4 &&& 31 : Int32) : Int32) &&& 1 : Int32))), (3, .int 1), (0, .ref m0), (1, .int (nI j0)), (2, .int p1)]) hx hb dX3_release_135 hl (k := 1) rfl (by decide) (by decide) rfl (fun ls hl => ?_)
                refine lv_goto (tgt := 113) hx hb dX3_release_138 (by decide) ?_
                refine lv_iload hx hb dX3_release_113 (lv_at hl 0 rfl) ?_
                refine lv_iconst (v := 5) hx hb dX3_release_115 (by decide) ?_
                refine lv_icmp_ge (tgt := 141) hx hb dX3_release_116 (by decide) (fun _ => ?_) (fun c9 => absurd (by decide) c9)
                have em9 : ((((((1 : Int32) + ((((ar 17) j0) >>> (0 &&& 31 : Int32) : Int32) &&& 1 : Int32)) + ((((ar 17) j0) >>> (1 &&& 31 : Int32) : Int32) &&& 1 : Int32)) + ((((ar 17) j0) >>> (2 &&& 31 : Int32) : Int32) &&& 1 : Int32)) + ((((ar 17) j0) >>> (3 &&& 31 : Int32) : Int32) &&& 1 : Int32)) + ((((ar 17) j0) >>> (4 &&& 31 : Int32) : Int32) &&& 1 : Int32)) = manyOf ar j0 := rfl
                rw [em9] at hl
                refine lv_aload_n hx hb dX3_release_141 rfl (lv_at hl 3 rfl) ?_
                refine r_get (ci := 7) hF in_X3 hG hM hPm.1 rfl 16 (by decide) q773 (fun _ h => h) (.ref (aa 11)) rfl dX3_release_142 ?_
                refine lv_iload_n hx hb dX3_release_145 rfl (lv_at hl 4 rfl) ?_
                refine r_ialdN (n := 40) (f := (ar 11)) j0 hF hG hM hPm.a11 (by omega) (by decide) rfl dX3_release_146 ?_
                obtain ⟨a0, ha0, ea0⟩ := (hW.pa hj0).1
                have hna0 : nx (nI a0) = a0 := nI_clamp (by omega)
                rw [ea0]
                refine lv_istore (lv' := [(5, .int (nI a0)), (4, .int (manyOf ar j0)), (3, .int 1), (0, .ref m0), (1, .int (nI j0)), (2, .int p1)]) hx hb dX3_release_147 hl (by decide) rfl (fun ls hl => ?_)
                refine lv_iload hx hb dX3_release_149 (lv_at hl 1 rfl) ?_
                refine lv_iload_n hx hb dX3_release_151 rfl (lv_at hl 2 rfl) ?_
                refine lv_icmp_lt (tgt := 235) hx hb dX3_release_152 (by decide) (fun c_48 => ?_) (fun c_48 => ?_)
                · have c_48B := Int32.not_le.mpr c_48
                  have en9 : needOf (cn 2) lim ar j0 = 1 := by simp [needOf, b_2, hnj0, b_4, (eq_true c_6), c_9, c_12, c_13, c_13B, b_31, ea0, hna0, c_48, c_48B]
                  have hneed : ¬ (needOf (cn 2) lim ar j0 ≤ manyOf ar j0) := by rw [en9]; exact Int32.not_le.mpr c_48
                  refine lv_aload_n hx hb dX3_release_235 rfl (lv_at hl 3 rfl) ?_
                  refine r_get (ci := 7) hF in_X3 hG hM hPm.1 rfl 22 (by decide) q779 (fun _ h => h) (.ref (aa 17)) rfl dX3_release_236 ?_
                  refine lv_iload_n hx hb dX3_release_239 rfl (lv_at hl 4 rfl) ?_
                  refine lv_dup2_11 hx hb dX3_release_240 rfl rfl ?_
                  refine r_ialdN (n := 40) (f := (ar 17)) j0 hF hG hM hPm.a17 (by omega) (by decide) rfl dX3_release_241 ?_
                  refine lv_iconst (v := 1) hx hb dX3_release_242 (by decide) ?_
                  refine lv_iload_n hx hb dX3_release_243 rfl (lv_at hl 5 rfl) ?_
                  refine lv_ishl hx hb dX3_release_244 ?_
                  refine lv_ior hx hb dX3_release_245 ?_
                  refine r_iast (n := 40) (f := (ar 17)) j0 hF hG hM hS hPm.a17 (by omega) (by decide) rfl dX3_release_246 (fun H locs hM hS => ?_)
                  obtain ⟨M_49, hM, hPm, hfr⟩ := PicM.stepA 17 (by decide) hPm hfr hM
                  refine lv_iload hx hb dX3_release_247 (lv_at hl 1 rfl) ?_
                  refine lv_iload_n hx hb dX3_release_249 rfl (lv_at hl 2 rfl) ?_
                  refine lv_icmp_lt (tgt := 257) hx hb dX3_release_250 (by decide) (fun _ => ?_) (fun c9 => absurd c_48 c9)
                  refine lv_iload_n hx hb dX3_release_257 rfl (lv_at hl 2 rfl) ?_
                  refine lv_iload hx hb dX3_release_258 (lv_at hl 1 rfl) ?_
                  refine lv_isub hx hb dX3_release_260 ?_
                  have ht9 : tRelease cn lim ar (nI j0) p1 = (0 : Int32) := by simp [tRelease, b_2, hnj0, b_4, (eq_true c_6), c_9, c_12, c_13, c_13B, b_31, ea0, hna0, c_48, c_48B, hneed, en9]
                  have ha9 : ((1 : Int32) - (manyOf ar j0)) = aRelease cn lim ar (nI j0) := by simp [aRelease, b_2, hnj0, b_4, (eq_true c_6), c_9, c_12, c_13, c_13B, b_31, ea0, hna0, c_48, c_48B, hneed, en9]
                  have er9 : rRelease cn lim ar (nI j0) p1 = (va_up ar 17 (upd (ar 17) j0 (((ar 17) j0) ||| ((1 : Int32) <<< (p1 &&& 31 : Int32) : Int32) : Int32))) := by first | rfl | (simp only [rRelease, aRelease, cRelease, rUse, b_2, hnj0, b_4, (eq_true c_6), c_9, c_12, c_13, c_13B, b_31, ea0, hna0, c_48, c_48B, hneed, en9]; done) | (simp only [rRelease, aRelease, cRelease, rUse, b_2, hnj0, b_4, (eq_true c_6), c_9, c_12, c_13, c_13B, b_31, ea0, hna0, c_48, c_48B, hneed, en9]; rfl) | simp [rRelease, aRelease, cRelease, rUse, b_2, hnj0, b_4, (eq_true c_6), c_9, c_12, c_13, c_13B, b_31, ea0, hna0, c_48, c_48B, hneed, en9]
                  have ec9 : cRelease cn lim ar (nI j0) = cn := by first | rfl | (simp only [rRelease, aRelease, cRelease, rUse, b_2, hnj0, b_4, (eq_true c_6), c_9, c_12, c_13, c_13B, b_31, ea0, hna0, c_48, c_48B, hneed, en9]; done) | (simp only [rRelease, aRelease, cRelease, rUse, b_2, hnj0, b_4, (eq_true c_6), c_9, c_12, c_13, c_13B, b_31, ea0, hna0, c_48, c_48B, hneed, en9]; rfl) | simp [rRelease, aRelease, cRelease, rUse, b_2, hnj0, b_4, (eq_true c_6), c_9, c_12, c_13, c_13B, b_31, ea0, hna0, c_48, c_48B, hneed, en9]
                  exact k_iret hx hb hr rfl hlocks hG hz hM hS (Nat.le_of_ble_eq_true rfl) (Nat.le_of_ble_eq_true rfl) dX3_release_261 ⟨_, rfl, mPost.ok ht9 ha9 (by rw [ec9, er9]; exact hPm) hfr⟩
                · have c_48B := Int32.not_lt.mp c_48
                  have en9 : needOf (cn 2) lim ar j0 = 1 := by simp [needOf, b_2, hnj0, b_4, (eq_true c_6), c_9, c_12, c_13, c_13B, b_31, ea0, hna0, c_48, c_48B]
                  have hneed : needOf (cn 2) lim ar j0 ≤ manyOf ar j0 := by rw [en9]; exact c_48B
                  refine lv_aload_n hx hb dX3_release_155 rfl (lv_at hl 3 rfl) ?_
                  refine r_get (ci := 7) hF in_X3 hG hM hPm.1 rfl 2 (by decide) q759 (fun _ h => h) (.int (nI (cn 4))) rfl dX3_release_156 ?_
                  refine lv_bipush (v := 12) hx hb dX3_release_159 (by decide) ?_
                  refine lv_icmp_gt (tgt := 188) hx hb dX3_release_161 (by decide) (fun c_50 => ?_) (fun c_50 => ?_)
                  · have c_50R := c_50
                    have c_50 : 12 < (cn 4) := (nI_ltI (a := 12) (b := (cn 4)) (by omega) (by omega)).mp c_50R
                    have c_50B : ¬ ((cn 4) ≤ 12) := by omega
                    have c_50RB := Int32.not_le.mpr c_50R
                    refine lv_aload_n hx hb dX3_release_188 rfl (lv_at hl 3 rfl) ?_
                    refine lv_iconst (v := 2) hx hb dX3_release_189 (by decide) ?_
                    refine kV (k9 := 0) (n9 := 0) hF hG hz hM hS [.int 2] [] (metX3_fails hPm 2) (cwV 1 hts (lw_V q917 q919 qs14 q27 q920) rfl rfl rfl (by decide +kernel) ⟨(Nat.le_of_ble_eq_true rfl), (Nat.le_of_ble_eq_true rfl)⟩) (k_recv hG hM hPm.1 (ci := 7) rfl) rfl hl.1 rfl (Nat.le_of_ble_eq_true rfl) dX3_release_190 rfl rfl (Nat.le_of_ble_eq_true rfl) (Nat.le_of_ble_eq_true rfl) (fun _ _ _ _ _ h9 _ _ _ _ _ => h9.elim) (fun v9 M9_16 H locs hp9 hM9_16 hS => ?_)
                    obtain ⟨r_51, rfl, r_51_e, hPm, hfr9⟩ := hp9
                    have hM := hM9_16
                    have hfr := hfr.tr hfr9
                    subst r_51_e
                    refine W.eq (g2 := F0 m 193 ls [.int 0]) rfl ?_
                    have ht9 : tRelease cn lim ar (nI j0) p1 = (2 : Int32) := by simp [tRelease, b_2, hnj0, b_4, (eq_true c_6), c_9, c_12, c_13, c_13B, b_31, ea0, hna0, c_48, c_48B, hneed, en9, c_50, c_50B, c_50R, c_50RB]
                    exact k_iret hx hb hr rfl hlocks hG hz hM hS (Nat.le_of_ble_eq_true rfl) (Nat.le_of_ble_eq_true rfl) dX3_release_193 ⟨_, rfl, mPost.bad ht9 (by decide) hPm hfr⟩
                  · have c_50R := c_50
                    have c_50 : ¬ (12 < (cn 4)) := fun h9 => c_50R ((nI_ltI (a := 12) (b := (cn 4)) (by omega) (by omega)).mpr h9)
                    have c_50B : (cn 4) ≤ 12 := by omega
                    have c_50RB := Int32.not_lt.mp c_50R
                    refine lv_aload_n hx hb dX3_release_164 rfl (lv_at hl 3 rfl) ?_
                    refine r_get (ci := 7) hF in_X3 hG hM hPm.1 rfl 3 (by decide) q760 (fun _ h => h) (.int (nI (cn 1))) rfl dX3_release_165 ?_
                    refine lv_bipush (v := 120) hx hb dX3_release_168 (by decide) ?_
                    refine lv_icmp_eq (tgt := 188) hx hb dX3_release_170 (by decide) (fun c_53 => ?_) (fun c_53 => ?_)
                    · have c_53R := c_53
                      have c_53 : (cn 1) = 120 := (nI_eq (a := (cn 1)) (b := 120) (by omega) (by omega)).mp c_53R
                      refine lv_aload_n hx hb dX3_release_188 rfl (lv_at hl 3 rfl) ?_
                      refine lv_iconst (v := 2) hx hb dX3_release_189 (by decide) ?_
                      refine kV (k9 := 0) (n9 := 0) hF hG hz hM hS [.int 2] [] (metX3_fails hPm 2) (cwV 1 hts (lw_V q917 q919 qs14 q27 q920) rfl rfl rfl (by decide +kernel) ⟨(Nat.le_of_ble_eq_true rfl), (Nat.le_of_ble_eq_true rfl)⟩) (k_recv hG hM hPm.1 (ci := 7) rfl) rfl hl.1 rfl (Nat.le_of_ble_eq_true rfl) dX3_release_190 rfl rfl (Nat.le_of_ble_eq_true rfl) (Nat.le_of_ble_eq_true rfl) (fun _ _ _ _ _ h9 _ _ _ _ _ => h9.elim) (fun v9 M9_17 H locs hp9 hM9_17 hS => ?_)
                      obtain ⟨r_54, rfl, r_54_e, hPm, hfr9⟩ := hp9
                      have hM := hM9_17
                      have hfr := hfr.tr hfr9
                      subst r_54_e
                      refine W.eq (g2 := F0 m 193 ls [.int 0]) rfl ?_
                      have ht9 : tRelease cn lim ar (nI j0) p1 = (2 : Int32) := by simp [tRelease, b_2, hnj0, b_4, (eq_true c_6), c_9, c_12, c_13, c_13B, b_31, ea0, hna0, c_48, c_48B, hneed, en9, c_50, c_50B, c_50R, c_50RB, (eq_true c_53), (eq_true c_53R)]
                      exact k_iret hx hb hr rfl hlocks hG hz hM hS (Nat.le_of_ble_eq_true rfl) (Nat.le_of_ble_eq_true rfl) dX3_release_193 ⟨_, rfl, mPost.bad ht9 (by decide) hPm hfr⟩
                    · have c_53R := c_53
                      have c_53 : ¬ ((cn 1) = 120) := fun h9 => c_53R ((nI_eq (a := (cn 1)) (b := 120) (by omega) (by omega)).mpr h9)
                      refine lv_aload_n hx hb dX3_release_173 rfl (lv_at hl 3 rfl) ?_
                      refine lv_iload hx hb dX3_release_174 (lv_at hl 0 rfl) ?_
                      refine kV (k9 := 0) (n9 := 0) hF hG hz hM hS [.int (nI a0)] [] (metX3_leftOf hPm a0 (by omega)) (cwV 1 hts (lw_V q913 q915 qs13 q27 q916) rfl rfl rfl (by decide +kernel) ⟨(Nat.le_of_ble_eq_true rfl), (Nat.le_of_ble_eq_true rfl)⟩) (k_recv hG hM hPm.1 (ci := 7) rfl) rfl hl.1 rfl (Nat.le_of_ble_eq_true rfl) dX3_release_176 rfl rfl (Nat.le_of_ble_eq_true rfl) (Nat.le_of_ble_eq_true rfl) (fun _ _ _ _ _ h9 _ _ _ _ _ => h9.elim) (fun v9 M9_18 H locs hp9 hM9_18 hS => ?_)
                      obtain ⟨r_56, rfl, r_56_e, rfl⟩ := hp9
                      have hM := hM9_18
                      subst r_56_e
                      refine W.eq (g2 := F0 m 179 ls [.int (lef ar a0)]) rfl ?_
                      refine lv_aload_n hx hb dX3_release_179 rfl (lv_at hl 3 rfl) ?_
                      refine r_get (ci := 7) hF in_X3 hG hM hPm.1 rfl 18 (by decide) q775 (fun _ h => h) (.ref (aa 13)) rfl dX3_release_180 ?_
                      refine lv_iload_n hx hb dX3_release_183 rfl (lv_at hl 4 rfl) ?_
                      refine r_ialdN (n := 40) (f := (ar 13)) j0 hF hG hM hPm.a13 (by omega) (by decide) rfl dX3_release_184 ?_
                      refine lv_icmp_ge (tgt := 194) hx hb dX3_release_185 (by decide) (fun c_57 => ?_) (fun c_57 => ?_)
                      · have c_57B := Int32.not_lt.mpr c_57
                        refine lv_aload_n hx hb dX3_release_194 rfl (lv_at hl 3 rfl) ?_
                        refine r_get (ci := 7) hF in_X3 hG hM hPm.1 rfl 21 (by decide) q778 (fun _ h => h) (.ref (aa 16)) rfl dX3_release_195 ?_
                        refine lv_iload_n hx hb dX3_release_198 rfl (lv_at hl 4 rfl) ?_
                        refine lv_iconst (v := 1) hx hb dX3_release_199 (by decide) ?_
                        refine r_iast (n := 40) (f := (ar 16)) j0 hF hG hM hS hPm.a16 (by omega) (by decide) rfl dX3_release_200 (fun H locs hM hS => ?_)
                        obtain ⟨M_58, hM, hPm, hfr⟩ := PicM.stepA 16 (by decide) hPm hfr hM
                        refine lv_aload_n hx hb dX3_release_201 rfl (lv_at hl 3 rfl) ?_
                        refine r_get (ci := 7) hF in_X3 hG hM hPm.1 rfl 13 (by decide) q770 (fun _ h => h) (.ref (aa 10)) rfl dX3_release_202 ?_
                        refine lv_iload hx hb dX3_release_205 (lv_at hl 0 rfl) ?_
                        refine lv_dup2_11 hx hb dX3_release_207 rfl rfl ?_
                        refine r_ialdN (n := 14) (f := (ar 10)) a0 hF hG hM hPm.a10 (by omega) (by decide) rfl dX3_release_208 ?_
                        refine lv_aload_n hx hb dX3_release_209 rfl (lv_at hl 3 rfl) ?_
                        refine r_get (ci := 7) hF in_X3 hG hM hPm.1 rfl 18 (by decide) q775 (fun _ h => h) (.ref (aa 13)) rfl dX3_release_210 ?_
                        refine lv_iload_n hx hb dX3_release_213 rfl (lv_at hl 4 rfl) ?_
                        refine r_ialdN (n := 40) (f := (ar 13)) j0 hF hG hM hPm.a13 (by omega) (by decide) rfl dX3_release_214 ?_
                        refine lv_iadd hx hb dX3_release_215 ?_
                        refine r_iast (n := 14) (f := (ar 10)) a0 hF hG hM hS hPm.a10 (by omega) (by decide) rfl dX3_release_216 (fun H locs hM hS => ?_)
                        obtain ⟨M_59, hM, hPm, hfr⟩ := PicM.stepA 10 (by decide) hPm hfr hM
                        refine lv_aload_n hx hb dX3_release_217 rfl (lv_at hl 3 rfl) ?_
                        refine lv_aload_n hx hb dX3_release_218 rfl (lv_at hl 3 rfl) ?_
                        refine r_get (ci := 7) hF in_X3 hG hM hPm.1 rfl 2 (by decide) q759 (fun _ h => h) (.int (nI (cn 4))) rfl dX3_release_219 ?_
                        refine lv_iload hx hb dX3_release_222 (lv_at hl 0 rfl) ?_
                        refine lv_iconst (v := 0) hx hb dX3_release_224 (by decide) ?_
                        refine lv_aload_n hx hb dX3_release_225 rfl (lv_at hl 3 rfl) ?_
                        refine r_get (ci := 7) hF in_X3 hG hM hPm.1 rfl 18 (by decide) q775 (fun _ h => h) (.ref (aa 13)) rfl dX3_release_226 ?_
                        refine lv_iload_n hx hb dX3_release_229 rfl (lv_at hl 4 rfl) ?_
                        refine r_ialdN (n := 40) (f := (ar 13)) j0 hF hG hM hPm.a13 (by omega) (by decide) rfl dX3_release_230 ?_
                        refine kV (k9 := 0) (n9 := 0) hF hG hz hM hS [.int (nI (cn 4)), .int (nI a0), .int 0, .int ((ar 13) j0)] [] (metX3_enters hPm (nI (cn 4)) (nI a0) 0 ((ar 13) j0) (show (cn 1) < 120 by omega)) (cwV 4 hts (lw_V q865 q867 qs10 q27 q868) rfl rfl rfl (by decide +kernel) ⟨(Nat.le_of_ble_eq_true rfl), (Nat.le_of_ble_eq_true rfl)⟩) (k_recv hG hM hPm.1 (ci := 7) rfl) rfl hl.1 rfl (Nat.le_of_ble_eq_true rfl) dX3_release_231 rfl rfl (Nat.le_of_ble_eq_true rfl) (Nat.le_of_ble_eq_true rfl) (fun _ _ _ _ _ h9 _ _ _ _ _ => h9.elim) (fun v9 M9_19 H locs hp9 hM9_19 hS => ?_)
                        obtain ⟨r_60, rfl, r_60_e, hPm, hfr9⟩ := hp9
                        have hM := hM9_19
                        have hfr := hfr.tr hfr9
                        subst r_60_e
                        rw [show lateOf cn (nI (cn 4)) = 0 from lateOf_0 (Int32.le_refl _)] at hPm
                        refine W.eq (g2 := F0 m 234 ls [.int (nI (cn 1))]) rfl ?_
                        refine lv_pop hx hb dX3_release_234 rfl ?_
                        refine lv_aload_n hx hb dX3_release_235 rfl (lv_at hl 3 rfl) ?_
                        refine r_get (ci := 7) hF in_X3 hG hM hPm.1 rfl 22 (by decide) q779 (fun _ h => h) (.ref (aa 17)) rfl dX3_release_236 ?_
                        refine lv_iload_n hx hb dX3_release_239 rfl (lv_at hl 4 rfl) ?_
                        refine lv_dup2_11 hx hb dX3_release_240 rfl rfl ?_
                        refine r_ialdN (n := 40) (f := (ar 17)) j0 hF hG hM hPm.a17 (by omega) (by decide) rfl dX3_release_241 ?_
                        refine lv_iconst (v := 1) hx hb dX3_release_242 (by decide) ?_
                        refine lv_iload_n hx hb dX3_release_243 rfl (lv_at hl 5 rfl) ?_
                        refine lv_ishl hx hb dX3_release_244 ?_
                        refine lv_ior hx hb dX3_release_245 ?_
                        refine r_iast (n := 40) (f := (ar 17)) j0 hF hG hM hS hPm.a17 (by omega) (by decide) rfl dX3_release_246 (fun H locs hM hS => ?_)
                        obtain ⟨M_61, hM, hPm, hfr⟩ := PicM.stepA 17 (by decide) hPm hfr hM
                        refine lv_iload hx hb dX3_release_247 (lv_at hl 1 rfl) ?_
                        refine lv_iload_n hx hb dX3_release_249 rfl (lv_at hl 2 rfl) ?_
                        refine lv_icmp_lt (tgt := 257) hx hb dX3_release_250 (by decide) (fun c9 => absurd c9 c_48) (fun _ => ?_)
                        refine lv_iconst (v := 0) hx hb dX3_release_253 (by decide) ?_
                        refine lv_goto (tgt := 261) hx hb dX3_release_254 (by decide) ?_
                        have ht9 : tRelease cn lim ar (nI j0) p1 = (0 : Int32) := by simp [tRelease, b_2, hnj0, b_4, (eq_true c_6), c_9, c_12, c_13, c_13B, b_31, ea0, hna0, c_48, c_48B, hneed, en9, c_50, c_50B, c_50R, c_50RB, c_53, c_53R, c_57, c_57B]
                        have ha9 : (0 : Int32) = aRelease cn lim ar (nI j0) := by simp [aRelease, b_2, hnj0, b_4, (eq_true c_6), c_9, c_12, c_13, c_13B, b_31, ea0, hna0, c_48, c_48B, hneed, en9, c_50, c_50B, c_50R, c_50RB, c_53, c_53R, c_57, c_57B]
                        have er9 : rRelease cn lim ar (nI j0) p1 = (va_up (rEnters cn (va_up (va_up ar 16 (upd (ar 16) j0 1)) 10 (upd (ar 10) a0 (((ar 10) a0) + ((ar 13) j0)))) 0 (nI a0) 0 ((ar 13) j0)) 17 (upd (ar 17) j0 (((ar 17) j0) ||| ((1 : Int32) <<< (p1 &&& 31 : Int32) : Int32) : Int32))) := by first | rfl | (simp only [rRelease, aRelease, cRelease, rUse, b_2, hnj0, b_4, (eq_true c_6), c_9, c_12, c_13, c_13B, b_31, ea0, hna0, c_48, c_48B, hneed, en9, c_50, c_50B, c_50R, c_50RB, c_53, c_53R, c_57, c_57B]; done) | (simp only [rRelease, aRelease, cRelease, rUse, b_2, hnj0, b_4, (eq_true c_6), c_9, c_12, c_13, c_13B, b_31, ea0, hna0, c_48, c_48B, hneed, en9, c_50, c_50B, c_50R, c_50RB, c_53, c_53R, c_57, c_57B]; rfl) | simp [rRelease, aRelease, cRelease, rUse, b_2, hnj0, b_4, (eq_true c_6), c_9, c_12, c_13, c_13B, b_31, ea0, hna0, c_48, c_48B, hneed, en9, c_50, c_50B, c_50R, c_50RB, c_53, c_53R, c_57, c_57B]
                        have ec9 : cRelease cn lim ar (nI j0) = (cUp cn 1) := by first | rfl | (simp only [rRelease, aRelease, cRelease, rUse, b_2, hnj0, b_4, (eq_true c_6), c_9, c_12, c_13, c_13B, b_31, ea0, hna0, c_48, c_48B, hneed, en9, c_50, c_50B, c_50R, c_50RB, c_53, c_53R, c_57, c_57B]; done) | (simp only [rRelease, aRelease, cRelease, rUse, b_2, hnj0, b_4, (eq_true c_6), c_9, c_12, c_13, c_13B, b_31, ea0, hna0, c_48, c_48B, hneed, en9, c_50, c_50B, c_50R, c_50RB, c_53, c_53R, c_57, c_57B]; rfl) | simp [rRelease, aRelease, cRelease, rUse, b_2, hnj0, b_4, (eq_true c_6), c_9, c_12, c_13, c_13B, b_31, ea0, hna0, c_48, c_48B, hneed, en9, c_50, c_50B, c_50R, c_50RB, c_53, c_53R, c_57, c_57B]
                        exact k_iret hx hb hr rfl hlocks hG hz hM hS (Nat.le_of_ble_eq_true rfl) (Nat.le_of_ble_eq_true rfl) dX3_release_261 ⟨_, rfl, mPost.ok ht9 ha9 (by rw [ec9, er9]; exact hPm) hfr⟩
                      · have c_57B := Int32.not_le.mp c_57
                        refine lv_aload_n hx hb dX3_release_188 rfl (lv_at hl 3 rfl) ?_
                        refine lv_iconst (v := 2) hx hb dX3_release_189 (by decide) ?_
                        refine kV (k9 := 0) (n9 := 0) hF hG hz hM hS [.int 2] [] (metX3_fails hPm 2) (cwV 1 hts (lw_V q917 q919 qs14 q27 q920) rfl rfl rfl (by decide +kernel) ⟨(Nat.le_of_ble_eq_true rfl), (Nat.le_of_ble_eq_true rfl)⟩) (k_recv hG hM hPm.1 (ci := 7) rfl) rfl hl.1 rfl (Nat.le_of_ble_eq_true rfl) dX3_release_190 rfl rfl (Nat.le_of_ble_eq_true rfl) (Nat.le_of_ble_eq_true rfl) (fun _ _ _ _ _ h9 _ _ _ _ _ => h9.elim) (fun v9 M9_20 H locs hp9 hM9_20 hS => ?_)
                        obtain ⟨r_62, rfl, r_62_e, hPm, hfr9⟩ := hp9
                        have hM := hM9_20
                        have hfr := hfr.tr hfr9
                        subst r_62_e
                        refine W.eq (g2 := F0 m 193 ls [.int 0]) rfl ?_
                        have ht9 : tRelease cn lim ar (nI j0) p1 = (2 : Int32) := by simp [tRelease, b_2, hnj0, b_4, (eq_true c_6), c_9, c_12, c_13, c_13B, b_31, ea0, hna0, c_48, c_48B, hneed, en9, c_50, c_50B, c_50R, c_50RB, c_53, c_53R, c_57, c_57B]
                        exact k_iret hx hb hr rfl hlocks hG hz hM hS (Nat.le_of_ble_eq_true rfl) (Nat.le_of_ble_eq_true rfl) dX3_release_193 ⟨_, rfl, mPost.bad ht9 (by decide) hPm hfr⟩
          · refine lv_aload_n hx hb dX3_release_74 rfl (lv_at hl 0 rfl) ?_
            refine lv_iconst (v := 2) hx hb dX3_release_75 (by decide) ?_
            refine kV (k9 := 0) (n9 := 0) hF hG hz hM hS [.int 2] [] (metX3_fails hPm 2) (cwV 1 hts (lw_V q917 q919 qs14 q27 q920) rfl rfl rfl (by decide +kernel) ⟨(Nat.le_of_ble_eq_true rfl), (Nat.le_of_ble_eq_true rfl)⟩) (k_recv hG hM hPm.1 (ci := 7) rfl) rfl hl.1 rfl (Nat.le_of_ble_eq_true rfl) dX3_release_76 rfl rfl (Nat.le_of_ble_eq_true rfl) (Nat.le_of_ble_eq_true rfl) (fun _ _ _ _ _ h9 _ _ _ _ _ => h9.elim) (fun v9 M9_21 H locs hp9 hM9_21 hS => ?_)
            obtain ⟨r_64, rfl, r_64_e, hPm, hfr9⟩ := hp9
            have hM := hM9_21
            have hfr := hfr.tr hfr9
            subst r_64_e
            refine W.eq (g2 := F0 m 79 ls [.int 0]) rfl ?_
            have ht9 : tRelease cn lim ar (nI j0) p1 = (2 : Int32) := by simp [tRelease, b_2, hnj0, b_4, (eq_true c_6), c_9, (eq_true c_12)]
            exact k_iret hx hb hr rfl hlocks hG hz hM hS (Nat.le_of_ble_eq_true rfl) (Nat.le_of_ble_eq_true rfl) dX3_release_79 ⟨_, rfl, mPost.bad ht9 (by decide) hPm hfr⟩
    · refine W.eq (g2 := F0 m 21 ls [.int 0, .ref m0]) rfl ?_
      refine lv_if_ne (tgt := 28) hx hb dX3_release_21 (by decide) (fun c9 => absurd c9 (by decide)) (fun _ => ?_)
      refine lv_iconst (v := 1) hx hb dX3_release_24 (by decide) ?_
      refine lv_goto (tgt := 29) hx hb dX3_release_25 (by decide) ?_
      refine r_put (ci := 7) (ty := .int) (v := .int 1) hF in_X3 tyX3 tyX3_ok nmX3 hG hM hS hPm.1 rfl 28 (by decide) q785 (fun _ h => h) rfl (by decide +kernel) rfl rfl (Nat.le_of_ble_eq_true rfl) dX3_release_29 (fun H locs hM hS => ?_)
      obtain ⟨M_66, hM, hPm, hfr⟩ := PicM.stepF (cn' := cn) (lim' := lim) (th' := 1) hPm hfr hM
      refine lv_aload_n hx hb dX3_release_32 rfl (lv_at hl 0 rfl) ?_
      refine r_get (ci := 7) hF in_X3 hG hM hPm.1 rfl 28 (by decide) q785 (fun _ h => h) (.int 1) rfl dX3_release_33 ?_
      refine lv_if_le (tgt := 41) hx hb dX3_release_36 (by decide) (fun c9 => absurd c9 (by decide)) (fun _ => ?_)
      refine lv_iconst (v := 0) hx hb dX3_release_39 (by decide) ?_
      have ht9 : tRelease cn lim ar (nI j0) p1 = (1 : Int32) := by simp [tRelease, b_2, hnj0, b_4]
      exact k_iret hx hb hr rfl hlocks hG hz hM hS (Nat.le_of_ble_eq_true rfl) (Nat.le_of_ble_eq_true rfl) dX3_release_40 ⟨_, rfl, mPost.bad ht9 (by decide) hPm hfr⟩
  · refine W.eq (g2 := F0 m 12 ls [.int 0, .ref m0]) rfl ?_
    refine lv_if_eq (tgt := 24) hx hb dX3_release_12 (by decide) (fun _ => ?_) (fun c9 => absurd (by decide) c9)
    refine lv_iconst (v := 1) hx hb dX3_release_24 (by decide) ?_
    refine lv_goto (tgt := 29) hx hb dX3_release_25 (by decide) ?_
    refine r_put (ci := 7) (ty := .int) (v := .int 1) hF in_X3 tyX3 tyX3_ok nmX3 hG hM hS hPm.1 rfl 28 (by decide) q785 (fun _ h => h) rfl (by decide +kernel) rfl rfl (Nat.le_of_ble_eq_true rfl) dX3_release_29 (fun H locs hM hS => ?_)
    obtain ⟨M_67, hM, hPm, hfr⟩ := PicM.stepF (cn' := cn) (lim' := lim) (th' := 1) hPm hfr hM
    refine lv_aload_n hx hb dX3_release_32 rfl (lv_at hl 0 rfl) ?_
    refine r_get (ci := 7) hF in_X3 hG hM hPm.1 rfl 28 (by decide) q785 (fun _ h => h) (.int 1) rfl dX3_release_33 ?_
    refine lv_if_le (tgt := 41) hx hb dX3_release_36 (by decide) (fun c9 => absurd c9 (by decide)) (fun _ => ?_)
    refine lv_iconst (v := 0) hx hb dX3_release_39 (by decide) ?_
    have ht9 : tRelease cn lim ar p0 p1 = (1 : Int32) := by simp [tRelease, b_2]
    exact k_iret hx hb hr rfl hlocks hG hz hM hS (Nat.le_of_ble_eq_true rfl) (Nat.le_of_ble_eq_true rfl) dX3_release_40 ⟨_, rfl, mPost.bad ht9 (by decide) hPm hfr⟩
set_option maxHeartbeats 4000000 in
set_option maxRecDepth 100000 in
theorem metX3_stateOf {l : Launch} {z : Nat} {E : EE} {M : MM} {m0 : Nat} {aa : Nat → Nat} {cn : Nat → Nat} {lim th : Int32} {ar : Nat → Nat → Int32} (hPm : PicM E M m0 aa cn lim th ar) (hW : WF cn lim ar) (p0 : Int32) : Kt l yX3_stateOf (ws_ yX3_stateOf cX3_stateOf 2 (some .int)) ({ frames := 30, cells := 0, slots := 0, locals := 900 } : Room) z E [.ref m0, .int p0] M (pI (fun r M' => mPost E M m0 aa (tPay cn p0) (ar 16 (nx p0)) cn lim ar (cn) (lim) (ar) r M')) xNo 0 0 := by
  refine k_body RX3 (by decide) rfl (Nat.le_of_ble_eq_true rfl) ?_
  intro p e s m args below meth c hx hb hr hml hown hlocks hname hno hts hz hG hM hS ls hl
  have hF : CallFix p m c cX3_stateOf 2 s args lw_all RX3 := ⟨hx, hb, hml, hown, hts⟩
  have hl : lv_has ls 2 [(0, .ref m0), (1, .int p0)] := hl
  have hfr : Fr kM M M := Fr.rf
  have hwb := hW.b
  refine lv_aload_n hx hb dX3_stateOf_0 rfl (lv_at hl 0 rfl) ?_
  refine lv_iload_n hx hb dX3_stateOf_1 rfl (lv_at hl 1 rfl) ?_
  refine kV (k9 := 0) (n9 := 0) hF hG hz hM hS [.int p0] [] (metX3_isPayment hPm hW p0) (cwV 1 hts (lw_V q945 q947 qs16 q27 q948) rfl rfl rfl (by decide +kernel) ⟨(Nat.le_of_ble_eq_true rfl), (Nat.le_of_ble_eq_true rfl)⟩) (k_recv hG hM hPm.1 (ci := 7) rfl) rfl hl.1 rfl (Nat.le_of_ble_eq_true rfl) dX3_stateOf_2 rfl rfl (Nat.le_of_ble_eq_true rfl) (Nat.le_of_ble_eq_true rfl) (fun _ _ _ _ _ h9 _ _ _ _ _ => h9.elim) (fun v9 M9_1 H locs hp9 hM9_1 hS => ?_)
  obtain ⟨r_1, rfl, hq9, hfr9⟩ := hp9
  have hM := hM9_1
  have hfr := hfr.tr hfr9
  rcases hq9 with ⟨b_2, rfl, hPm⟩ | ⟨b_2, rfl, hPm⟩
  · refine W.eq (g2 := F0 m 5 ls [.int 1]) rfl ?_
    obtain ⟨j0, hj0, rfl⟩ := inB_ex b_2 (by omega)
    have hnj0 : nx (nI j0) = j0 := nI_clamp (by omega)
    refine lv_if_eq (tgt := 17) hx hb dX3_stateOf_5 (by decide) (fun c9 => absurd c9 (by decide)) (fun _ => ?_)
    refine lv_aload_n hx hb dX3_stateOf_8 rfl (lv_at hl 0 rfl) ?_
    refine r_get (ci := 7) hF in_X3 hG hM hPm.1 rfl 21 (by decide) q778 (fun _ h => h) (.ref (aa 16)) rfl dX3_stateOf_9 ?_
    refine lv_iload_n hx hb dX3_stateOf_12 rfl (lv_at hl 1 rfl) ?_
    refine r_ialdN (n := 40) (f := (ar 16)) j0 hF hG hM hPm.a16 (by omega) (by decide) rfl dX3_stateOf_13 ?_
    refine lv_goto (tgt := 18) hx hb dX3_stateOf_14 (by decide) ?_
    have ht9 : tPay cn (nI j0) = (0 : Int32) := by simp [tPay, b_2, hnj0]
    have ha9 : ((ar 16) j0) = ar 16 (nx (nI j0)) := by first | rfl | (simp only [b_2, hnj0]; done) | (simp only [b_2, hnj0]; rfl) | simp [b_2, hnj0]
    exact k_iret hx hb hr rfl hlocks hG hz hM hS (Nat.le_of_ble_eq_true rfl) (Nat.le_of_ble_eq_true rfl) dX3_stateOf_18 ⟨_, rfl, mPost.ok ht9 ha9 hPm hfr⟩
  · refine W.eq (g2 := F0 m 5 ls [.int 0]) rfl ?_
    refine lv_if_eq (tgt := 17) hx hb dX3_stateOf_5 (by decide) (fun _ => ?_) (fun c9 => absurd (by decide) c9)
    refine lv_iconst (v := 0) hx hb dX3_stateOf_17 (by decide) ?_
    have ht9 : tPay cn p0 = (1 : Int32) := by simp [tPay, b_2]
    exact k_iret hx hb hr rfl hlocks hG hz hM hS (Nat.le_of_ble_eq_true rfl) (Nat.le_of_ble_eq_true rfl) dX3_stateOf_18 ⟨_, rfl, mPost.bad ht9 (by decide) hPm hfr⟩
set_option maxHeartbeats 4000000 in
set_option maxRecDepth 100000 in
theorem metX3_isSplit {l : Launch} {z : Nat} {E : EE} {M : MM} {m0 : Nat} {aa : Nat → Nat} {cn : Nat → Nat} {lim th : Int32} {ar : Nat → Nat → Int32} (hPm : PicM E M m0 aa cn lim th ar) (hW : WF cn lim ar) (p0 : Int32) : Kt l yX3_isSplit (ws_ yX3_isSplit cX3_isSplit 2 (some .boolean)) ({ frames := 40, cells := 0, slots := 0, locals := 1200 } : Room) z E [.ref m0, .int p0] M (pI (fun r M' => mPost E M m0 aa (tPay cn p0) (if spl (cn 2) lim ar (nx p0) = true then 1 else 0) cn lim ar (cn) (lim) (ar) r M')) xNo 0 0 := by
  refine k_body RX3 (by decide) rfl (Nat.le_of_ble_eq_true rfl) ?_
  intro p e s m args below meth c hx hb hr hml hown hlocks hname hno hts hz hG hM hS ls hl
  have hF : CallFix p m c cX3_isSplit 2 s args lw_all RX3 := ⟨hx, hb, hml, hown, hts⟩
  have hl : lv_has ls 2 [(0, .ref m0), (1, .int p0)] := hl
  have hfr : Fr kM M M := Fr.rf
  have hwb := hW.b
  refine lv_aload_n hx hb dX3_isSplit_0 rfl (lv_at hl 0 rfl) ?_
  refine lv_iload_n hx hb dX3_isSplit_1 rfl (lv_at hl 1 rfl) ?_
  refine kV (k9 := 0) (n9 := 0) hF hG hz hM hS [.int p0] [] (metX3_isPayment hPm hW p0) (cwV 1 hts (lw_V q945 q947 qs16 q27 q948) rfl rfl rfl (by decide +kernel) ⟨(Nat.le_of_ble_eq_true rfl), (Nat.le_of_ble_eq_true rfl)⟩) (k_recv hG hM hPm.1 (ci := 7) rfl) rfl hl.1 rfl (Nat.le_of_ble_eq_true rfl) dX3_isSplit_2 rfl rfl (Nat.le_of_ble_eq_true rfl) (Nat.le_of_ble_eq_true rfl) (fun _ _ _ _ _ h9 _ _ _ _ _ => h9.elim) (fun v9 M9_1 H locs hp9 hM9_1 hS => ?_)
  obtain ⟨r_1, rfl, hq9, hfr9⟩ := hp9
  have hM := hM9_1
  have hfr := hfr.tr hfr9
  rcases hq9 with ⟨b_2, rfl, hPm⟩ | ⟨b_2, rfl, hPm⟩
  · refine W.eq (g2 := F0 m 5 ls [.int 1]) rfl ?_
    obtain ⟨j0, hj0, rfl⟩ := inB_ex b_2 (by omega)
    have hnj0 : nx (nI j0) = j0 := nI_clamp (by omega)
    refine lv_if_eq (tgt := 20) hx hb dX3_isSplit_5 (by decide) (fun c9 => absurd c9 (by decide)) (fun _ => ?_)
    refine lv_aload_n hx hb dX3_isSplit_8 rfl (lv_at hl 0 rfl) ?_
    refine lv_iload_n hx hb dX3_isSplit_9 rfl (lv_at hl 1 rfl) ?_
    refine kV (k9 := 0) (n9 := 0) hF hG hz hM hS [.int (nI j0)] [] (metX3_splits hPm j0 (by omega) (by omega)) (cwV 1 hts (lw_V q937 q939 qs15 q27 q940) rfl rfl rfl (by decide +kernel) ⟨(Nat.le_of_ble_eq_true rfl), (Nat.le_of_ble_eq_true rfl)⟩) (k_recv hG hM hPm.1 (ci := 7) rfl) rfl hl.1 rfl (Nat.le_of_ble_eq_true rfl) dX3_isSplit_10 rfl rfl (Nat.le_of_ble_eq_true rfl) (Nat.le_of_ble_eq_true rfl) (fun _ _ _ _ _ h9 _ _ _ _ _ => h9.elim) (fun v9 M9_2 H locs hp9 hM9_2 hS => ?_)
    obtain ⟨r_3, rfl, b_4, rfl⟩ := hp9
    have hM := hM9_2
    rcases b_4 with ⟨b_4, rfl⟩ | ⟨b_4, rfl⟩
    · refine W.eq (g2 := F0 m 13 ls [.int 1]) rfl ?_
      refine lv_if_eq (tgt := 20) hx hb dX3_isSplit_13 (by decide) (fun c9 => absurd c9 (by decide)) (fun _ => ?_)
      refine lv_iconst (v := 1) hx hb dX3_isSplit_16 (by decide) ?_
      refine lv_goto (tgt := 21) hx hb dX3_isSplit_17 (by decide) ?_
      have ht9 : tPay cn (nI j0) = (0 : Int32) := by simp [tPay, b_2, hnj0, b_4]
      have ha9 : (1 : Int32) = if spl (cn 2) lim ar (nx (nI j0)) = true then 1 else 0 := by first | rfl | (simp only [b_2, hnj0, b_4]; done) | (simp only [b_2, hnj0, b_4]; rfl) | simp [b_2, hnj0, b_4]
      exact k_iret hx hb hr rfl hlocks hG hz hM hS (Nat.le_of_ble_eq_true rfl) (Nat.le_of_ble_eq_true rfl) dX3_isSplit_21 ⟨_, rfl, mPost.ok ht9 ha9 hPm hfr⟩
    · refine W.eq (g2 := F0 m 13 ls [.int 0]) rfl ?_
      refine lv_if_eq (tgt := 20) hx hb dX3_isSplit_13 (by decide) (fun _ => ?_) (fun c9 => absurd (by decide) c9)
      refine lv_iconst (v := 0) hx hb dX3_isSplit_20 (by decide) ?_
      have ht9 : tPay cn (nI j0) = (0 : Int32) := by simp [tPay, b_2, hnj0, b_4]
      have ha9 : (0 : Int32) = if spl (cn 2) lim ar (nx (nI j0)) = true then 1 else 0 := by first | rfl | (simp only [b_2, hnj0, b_4]; done) | (simp only [b_2, hnj0, b_4]; rfl) | simp [b_2, hnj0, b_4]
      exact k_iret hx hb hr rfl hlocks hG hz hM hS (Nat.le_of_ble_eq_true rfl) (Nat.le_of_ble_eq_true rfl) dX3_isSplit_21 ⟨_, rfl, mPost.ok ht9 ha9 hPm hfr⟩
  · refine W.eq (g2 := F0 m 5 ls [.int 0]) rfl ?_
    refine lv_if_eq (tgt := 20) hx hb dX3_isSplit_5 (by decide) (fun _ => ?_) (fun c9 => absurd (by decide) c9)
    refine lv_iconst (v := 0) hx hb dX3_isSplit_20 (by decide) ?_
    have ht9 : tPay cn p0 = (1 : Int32) := by simp [tPay, b_2]
    exact k_iret hx hb hr rfl hlocks hG hz hM hS (Nat.le_of_ble_eq_true rfl) (Nat.le_of_ble_eq_true rfl) dX3_isSplit_21 ⟨_, rfl, mPost.bad ht9 (by decide) hPm hfr⟩
set_option maxHeartbeats 4000000 in
set_option maxRecDepth 100000 in
theorem metX3_advance {l : Launch} {z : Nat} {E : EE} {M : MM} {m0 : Nat} {aa : Nat → Nat} {cn : Nat → Nat} {lim th : Int32} {ar : Nat → Nat → Int32} (hPm : PicM E M m0 aa cn lim th ar) (hW : WF cn lim ar) (p0 p1 : Int32) : Kt l yX3_advance (ws_ yX3_advance cX3_advance 4 (some .int)) ({ frames := 50, cells := 0, slots := 0, locals := 1500 } : Room) z E [.ref m0, .int p0, .int p1] M (pI (fun r M' => mPost E M m0 aa (tAdvance cn ar p0 p1) (nI (cn 3)) cn lim ar (cUp (cUp cn 1) 3) (lim) (rAdvance cn ar p0 p1) r M')) xNo 0 0 := by
  refine k_body RX3 (by decide) rfl (Nat.le_of_ble_eq_true rfl) ?_
  intro p e s m args below meth c hx hb hr hml hown hlocks hname hno hts hz hG hM hS ls hl
  have hF : CallFix p m c cX3_advance 4 s args lw_all RX3 := ⟨hx, hb, hml, hown, hts⟩
  have hl : lv_has ls 4 [(0, .ref m0), (1, .int p0), (2, .int p1)] := hl
  have hfr : Fr kM M M := Fr.rf
  have hwb := hW.b
  refine lv_aload_n hx hb dX3_advance_0 rfl (lv_at hl 0 rfl) ?_
  refine lv_iload_n hx hb dX3_advance_1 rfl (lv_at hl 1 rfl) ?_
  refine lv_iconst (v := 0) hx hb dX3_advance_2 (by decide) ?_
  refine lv_iconst (v := 4) hx hb dX3_advance_3 (by decide) ?_
  refine kS (k9 := 0) (n9 := 0) hF hG hz hM hS [.int p0, .int 0, .int 4] [.ref m0] (metX3_in p0 0 4) (va_cwS 3 hts (lw_S q857 q858 q27 q859) rfl rfl rfl (by decide +kernel) ⟨(Nat.le_of_ble_eq_true rfl), (Nat.le_of_ble_eq_true rfl)⟩) rfl hl.1 rfl (Nat.le_of_ble_eq_true rfl) dX3_advance_4 rfl rfl (Nat.le_of_ble_eq_true rfl) (Nat.le_of_ble_eq_true rfl) (fun _ _ _ _ _ h9 _ _ _ _ _ => h9.elim) (fun v9 M9_1 H locs hp9 hM9_1 hS => ?_)
  obtain ⟨r_1, rfl, b_2, rfl⟩ := hp9
  have hM := hM9_1
  rcases b_2 with ⟨b_2, rfl⟩ | ⟨b_2, rfl⟩
  · refine W.eq (g2 := F0 m 7 ls [.int 1, .ref m0]) rfl ?_
    refine lv_if_ne (tgt := 14) hx hb dX3_advance_7 (by decide) (fun _ => ?_) (fun c9 => absurd c9 (by decide))
    refine lv_iload_n hx hb dX3_advance_14 rfl (lv_at hl 2 rfl) ?_
    refine lv_iconst (v := 1) hx hb dX3_advance_15 (by decide) ?_
    refine lv_ldc (v := 1000000) hx hb hown (hts _ q864) dX3_advance_16 ?_
    refine kS (k9 := 0) (n9 := 0) hF hG hz hM hS [.int p1, .int 1, .int 1000000] [.ref m0] (metX3_in p1 1 1000000) (va_cwS 3 hts (lw_S q857 q858 q27 q859) rfl rfl rfl (by decide +kernel) ⟨(Nat.le_of_ble_eq_true rfl), (Nat.le_of_ble_eq_true rfl)⟩) rfl hl.1 rfl (Nat.le_of_ble_eq_true rfl) dX3_advance_18 rfl rfl (Nat.le_of_ble_eq_true rfl) (Nat.le_of_ble_eq_true rfl) (fun _ _ _ _ _ h9 _ _ _ _ _ => h9.elim) (fun v9 M9_2 H locs hp9 hM9_2 hS => ?_)
    obtain ⟨r_3, rfl, b_4, rfl⟩ := hp9
    have hM := hM9_2
    rcases b_4 with ⟨b_4, rfl⟩ | ⟨b_4, rfl⟩
    · refine W.eq (g2 := F0 m 21 ls [.int 1, .ref m0]) rfl ?_
      refine lv_if_ne (tgt := 28) hx hb dX3_advance_21 (by decide) (fun _ => ?_) (fun c9 => absurd c9 (by decide))
      refine lv_aload_n hx hb dX3_advance_28 rfl (lv_at hl 0 rfl) ?_
      refine r_get (ci := 7) hF in_X3 hG hM hPm.1 rfl 2 (by decide) q759 (fun _ h => h) (.int (nI (cn 4))) rfl dX3_advance_29 ?_
      refine lv_bipush (v := 12) hx hb dX3_advance_32 (by decide) ?_
      refine lv_icmp_gt (tgt := 46) hx hb dX3_advance_34 (by decide) (fun c_5 => ?_) (fun c_5 => ?_)
      · have c_5R := c_5
        have c_5 : 12 < (cn 4) := (nI_ltI (a := 12) (b := (cn 4)) (by omega) (by omega)).mp c_5R
        have c_5B : ¬ ((cn 4) ≤ 12) := by omega
        have c_5RB := Int32.not_le.mpr c_5R
        refine lv_iconst (v := 3) hx hb dX3_advance_46 (by decide) ?_
        refine lv_goto (tgt := 51) hx hb dX3_advance_47 (by decide) ?_
        refine r_put (ci := 7) (ty := .int) (v := .int 3) hF in_X3 tyX3 tyX3_ok nmX3 hG hM hS hPm.1 rfl 28 (by decide) q785 (fun _ h => h) rfl (by decide +kernel) rfl rfl (Nat.le_of_ble_eq_true rfl) dX3_advance_51 (fun H locs hM hS => ?_)
        obtain ⟨M_6, hM, hPm, hfr⟩ := PicM.stepF (cn' := cn) (lim' := lim) (th' := 3) hPm hfr hM
        refine lv_iconst (v := 0) hx hb dX3_advance_54 (by decide) ?_
        refine lv_istore_n (lv' := [(3, .int 0), (0, .ref m0), (1, .int p0), (2, .int p1)]) hx hb dX3_advance_55 rfl hl (by decide) rfl (fun ls hl => ?_)
        refine lv_iload_n hx hb dX3_advance_56 rfl (lv_at hl 0 rfl) ?_
        refine lv_aload_n hx hb dX3_advance_57 rfl (lv_at hl 1 rfl) ?_
        refine r_get (ci := 7) hF in_X3 hG hM hPm.1 rfl 24 (by decide) q781 (fun _ h => h) (.int (nI (cn 3))) rfl dX3_advance_58 ?_
        refine lv_icmp_ge (tgt := 105) hx hb dX3_advance_61 (by decide) (fun c_7 => ?_) (fun c_7 => ?_)
        · have c_7R := c_7
          have c_7 : (cn 3) ≤ 0 := (nI_leI (a := (cn 3)) (b := 0) (by omega) (by omega)).mp c_7R
          have c_7B : ¬ (0 < (cn 3)) := by omega
          have c_7RB := Int32.not_lt.mpr c_7R
          refine lv_aload_n hx hb dX3_advance_105 rfl (lv_at hl 1 rfl) ?_
          refine r_get (ci := 7) hF in_X3 hG hM hPm.1 rfl 28 (by decide) q785 (fun _ h => h) (.int 3) rfl dX3_advance_106 ?_
          refine lv_if_le (tgt := 114) hx hb dX3_advance_109 (by decide) (fun c9 => absurd c9 (by decide)) (fun _ => ?_)
          refine lv_iconst (v := 0) hx hb dX3_advance_112 (by decide) ?_
          have ht9 : tAdvance cn ar p0 p1 = (3 : Int32) := by simp [tAdvance, b_2, b_4, c_5, c_5B, c_5R, c_5RB, c_7, c_7B, c_7R, c_7RB]
          exact k_iret hx hb hr rfl hlocks hG hz hM hS (Nat.le_of_ble_eq_true rfl) (Nat.le_of_ble_eq_true rfl) dX3_advance_113 ⟨_, rfl, mPost.bad ht9 (by decide) hPm hfr⟩
        · have c_7R := c_7
          have c_7 : ¬ ((cn 3) ≤ 0) := fun h9 => c_7R ((nI_leI (a := (cn 3)) (b := 0) (by omega) (by omega)).mpr h9)
          have c_7B : 0 < (cn 3) := by omega
          have c_7RB := Int32.not_le.mp c_7R
          refine lv_aload_n hx hb dX3_advance_64 rfl (lv_at hl 1 rfl) ?_
          refine r_get (ci := 7) hF in_X3 hG hM hPm.1 rfl 28 (by decide) q785 (fun _ h => h) (.int 3) rfl dX3_advance_65 ?_
          refine lv_if_ne (tgt := 105) hx hb dX3_advance_68 (by decide) (fun _ => ?_) (fun c9 => absurd c9 (by decide))
          refine lv_aload_n hx hb dX3_advance_105 rfl (lv_at hl 1 rfl) ?_
          refine r_get (ci := 7) hF in_X3 hG hM hPm.1 rfl 28 (by decide) q785 (fun _ h => h) (.int 3) rfl dX3_advance_106 ?_
          refine lv_if_le (tgt := 114) hx hb dX3_advance_109 (by decide) (fun c9 => absurd c9 (by decide)) (fun _ => ?_)
          refine lv_iconst (v := 0) hx hb dX3_advance_112 (by decide) ?_
          have ht9 : tAdvance cn ar p0 p1 = (3 : Int32) := by simp [tAdvance, b_2, b_4, c_5, c_5B, c_5R, c_5RB, c_7, c_7B, c_7R, c_7RB]
          exact k_iret hx hb hr rfl hlocks hG hz hM hS (Nat.le_of_ble_eq_true rfl) (Nat.le_of_ble_eq_true rfl) dX3_advance_113 ⟨_, rfl, mPost.bad ht9 (by decide) hPm hfr⟩
      · have c_5R := c_5
        have c_5 : ¬ (12 < (cn 4)) := fun h9 => c_5R ((nI_ltI (a := 12) (b := (cn 4)) (by omega) (by omega)).mpr h9)
        have c_5B : (cn 4) ≤ 12 := by omega
        have c_5RB := Int32.not_lt.mp c_5R
        refine lv_aload_n hx hb dX3_advance_37 rfl (lv_at hl 0 rfl) ?_
        refine r_get (ci := 7) hF in_X3 hG hM hPm.1 rfl 3 (by decide) q760 (fun _ h => h) (.int (nI (cn 1))) rfl dX3_advance_38 ?_
        refine lv_bipush (v := 120) hx hb dX3_advance_41 (by decide) ?_
        refine lv_icmp_ne (tgt := 50) hx hb dX3_advance_43 (by decide) (fun c_8 => ?_) (fun c_8 => ?_)
        · have c_8R := c_8
          have c_8 : ¬ ((cn 1) = 120) := fun h9 => c_8R ((nI_eq (a := (cn 1)) (b := 120) (by omega) (by omega)).mpr h9)
          refine lv_iconst (v := 0) hx hb dX3_advance_50 (by decide) ?_
          refine r_put (ci := 7) (ty := .int) (v := .int 0) hF in_X3 tyX3 tyX3_ok nmX3 hG hM hS hPm.1 rfl 28 (by decide) q785 (fun _ h => h) rfl (by decide +kernel) rfl rfl (Nat.le_of_ble_eq_true rfl) dX3_advance_51 (fun H locs hM hS => ?_)
          obtain ⟨M_9, hM, hPm, hfr⟩ := PicM.stepF (cn' := cn) (lim' := lim) (th' := 0) hPm hfr hM
          refine lv_iconst (v := 0) hx hb dX3_advance_54 (by decide) ?_
          refine lv_istore_n (lv' := [(3, .int 0), (0, .ref m0), (1, .int p0), (2, .int p1)]) hx hb dX3_advance_55 rfl hl (by decide) rfl (fun ls hl => ?_)
          have loop : ∀ (n k : Nat), k ≤ cn 3 → cn 3 - k < n → ∀ (M1 : MM) (H : Heap) (locs : List Loc), Mod z E M1 H → va_S (zA z) s.heap H locs → PicM E M1 m0 aa cn lim 0 ar → Fr kM M M1 → hasF ar p0 k = false → ∀ (ls : Array Slot), lv_has ls 4 [(3, .int (nI k)), (0, .ref m0), (1, .int p0), (2, .int p1)] → W p l e ({ frames := 50, cells := 0, slots := 0, locals := 1500 } : Room) s m args below meth c H locs 0 0 (vx_MQ below (Qg z E (pI (fun r M' => mPost E M m0 aa (tAdvance cn ar p0 p1) (nI (cn 3)) cn lim ar (cUp (cUp cn 1) 3) (lim) (rAdvance cn ar p0 p1) r M'))) (XCm z E M xNo) args s 0 0 (zA z)) (F0 m 56 ls []) := by
            intro n
            induction n with
            | zero => intro k h1 h2; omega
            | succ n ih =>
              intro k hk1 hk2 M1 H locs hM hS hPm hfr hhas ls hl
              refine lv_iload_n hx hb dX3_advance_56 rfl (lv_at hl 0 rfl) ?_
              refine lv_aload_n hx hb dX3_advance_57 rfl (lv_at hl 1 rfl) ?_
              refine r_get (ci := 7) hF in_X3 hG hM hPm.1 rfl 24 (by decide) q781 (fun _ h => h) (.int (nI (cn 3))) rfl dX3_advance_58 ?_
              refine lv_icmp_ge (tgt := 105) hx hb dX3_advance_61 (by decide) (fun c_10 => ?_) (fun c_10 => ?_)
              · have c_10R := c_10
                have c_10 : (cn 3) ≤ k := (nI_leI (a := (cn 3)) (b := k) (by omega) (by omega)).mp c_10R
                have c_10B : ¬ (k < (cn 3)) := by omega
                have c_10RB := Int32.not_lt.mpr c_10R
                have e8 : k = cn 3 := by omega
                subst e8
                refine lv_aload_n hx hb dX3_advance_105 rfl (lv_at hl 1 rfl) ?_
                refine r_get (ci := 7) hF in_X3 hG hM hPm.1 rfl 28 (by decide) q785 (fun _ h => h) (.int 0) rfl dX3_advance_106 ?_
                refine lv_if_le (tgt := 114) hx hb dX3_advance_109 (by decide) (fun _ => ?_) (fun c9 => absurd (by decide) c9)
                refine lv_aload_n hx hb dX3_advance_114 rfl (lv_at hl 1 rfl) ?_
                refine r_get (ci := 7) hF in_X3 hG hM hPm.1 rfl 25 (by decide) q782 (fun _ h => h) (.ref (aa 19)) rfl dX3_advance_115 ?_
                refine lv_aload_n hx hb dX3_advance_118 rfl (lv_at hl 1 rfl) ?_
                refine r_get (ci := 7) hF in_X3 hG hM hPm.1 rfl 24 (by decide) q781 (fun _ h => h) (.int (nI (cn 3))) rfl dX3_advance_119 ?_
                refine lv_iload_n hx hb dX3_advance_122 rfl (lv_at hl 2 rfl) ?_
                refine r_iast (n := 120) (f := (ar 19)) (cn 3) hF hG hM hS hPm.a19 (by omega) (by decide) rfl dX3_advance_123 (fun H locs hM hS => ?_)
                obtain ⟨M_11, hM, hPm, hfr⟩ := PicM.stepA 19 (by decide) hPm hfr hM
                refine lv_aload_n hx hb dX3_advance_124 rfl (lv_at hl 1 rfl) ?_
                refine r_get (ci := 7) hF in_X3 hG hM hPm.1 rfl 26 (by decide) q783 (fun _ h => h) (.ref (aa 20)) rfl dX3_advance_125 ?_
                refine lv_aload_n hx hb dX3_advance_128 rfl (lv_at hl 1 rfl) ?_
                refine r_get (ci := 7) hF in_X3 hG hM hPm.1 rfl 24 (by decide) q781 (fun _ h => h) (.int (nI (cn 3))) rfl dX3_advance_129 ?_
                refine lv_iload_n hx hb dX3_advance_132 rfl (lv_at hl 3 rfl) ?_
                refine r_iast (n := 120) (f := (ar 20)) (cn 3) hF hG hM hS hPm.a20 (by omega) (by decide) rfl dX3_advance_133 (fun H locs hM hS => ?_)
                obtain ⟨M_12, hM, hPm, hfr⟩ := PicM.stepA 20 (by decide) hPm hfr hM
                refine lv_aload_n hx hb dX3_advance_134 rfl (lv_at hl 1 rfl) ?_
                refine lv_aload_n hx hb dX3_advance_135 rfl (lv_at hl 1 rfl) ?_
                refine r_get (ci := 7) hF in_X3 hG hM hPm.1 rfl 2 (by decide) q759 (fun _ h => h) (.int (nI (cn 4))) rfl dX3_advance_136 ?_
                refine lv_iconst (v := 1) hx hb dX3_advance_139 (by decide) ?_
                refine lv_iconst (v := 0) hx hb dX3_advance_140 (by decide) ?_
                refine lv_iload_n hx hb dX3_advance_141 rfl (lv_at hl 3 rfl) ?_
                refine kV (k9 := 0) (n9 := 0) hF hG hz hM hS [.int (nI (cn 4)), .int 1, .int 0, .int p1] [] (metX3_enters hPm (nI (cn 4)) 1 0 p1 (show (cn 1) < 120 by omega)) (cwV 4 hts (lw_V q865 q867 qs10 q27 q868) rfl rfl rfl (by decide +kernel) ⟨(Nat.le_of_ble_eq_true rfl), (Nat.le_of_ble_eq_true rfl)⟩) (k_recv hG hM hPm.1 (ci := 7) rfl) rfl hl.1 rfl (Nat.le_of_ble_eq_true rfl) dX3_advance_142 rfl rfl (Nat.le_of_ble_eq_true rfl) (Nat.le_of_ble_eq_true rfl) (fun _ _ _ _ _ h9 _ _ _ _ _ => h9.elim) (fun v9 M9_3 H locs hp9 hM9_3 hS => ?_)
                obtain ⟨r_13, rfl, r_13_e, hPm, hfr9⟩ := hp9
                have hM := hM9_3
                have hfr := hfr.tr hfr9
                subst r_13_e
                rw [show lateOf cn (nI (cn 4)) = 0 from lateOf_0 (Int32.le_refl _)] at hPm
                refine W.eq (g2 := F0 m 145 ls [.int (nI (cn 1))]) rfl ?_
                refine lv_pop hx hb dX3_advance_145 rfl ?_
                refine lv_aload_n hx hb dX3_advance_146 rfl (lv_at hl 1 rfl) ?_
                refine lv_dup hx hb dX3_advance_147 rfl ?_
                refine r_get (ci := 7) hF in_X3 hG hM hPm.1 rfl 24 (by decide) q781 (fun _ h => h) (.int (nI (cn 3))) rfl dX3_advance_148 ?_
                refine lv_iconst (v := 1) hx hb dX3_advance_151 (by decide) ?_
                refine lv_iadd hx hb dX3_advance_152 ?_
                rw [nI_1]
                refine r_put (ci := 7) (ty := .int) (v := .int (nI ((cn 3) + 1))) hF in_X3 tyX3 tyX3_ok nmX3 hG hM hS hPm.1 rfl 24 (by decide) q781 (fun _ h => h) rfl (by decide +kernel) rfl rfl (Nat.le_of_ble_eq_true rfl) dX3_advance_153 (fun H locs hM hS => ?_)
                obtain ⟨M_14, hM, hPm, hfr⟩ := PicM.stepF (cn' := (cUp (cUp cn 1) 3)) (lim' := lim) (th' := 0) hPm hfr hM
                refine lv_aload_n hx hb dX3_advance_156 rfl (lv_at hl 1 rfl) ?_
                refine r_get (ci := 7) hF in_X3 hG hM hPm.1 rfl 24 (by decide) q781 (fun _ h => h) (.int (nI ((cn 3) + 1))) rfl dX3_advance_157 ?_
                refine lv_iconst (v := 1) hx hb dX3_advance_160 (by decide) ?_
                refine lv_isub hx hb dX3_advance_161 ?_
                have ht9 : tAdvance cn ar p0 p1 = (0 : Int32) := by simp [tAdvance, b_2, b_4, c_5, c_5B, c_5R, c_5RB, c_8, c_8R, c_10, c_10B, c_10R, c_10RB, hhas]
                have ha9 : ((nI ((cn 3) + 1)) - 1) = nI (cn 3) := by exact nI_pred _
                have er9 : rAdvance cn ar p0 p1 = (rEnters cn (va_up (va_up ar 19 (upd (ar 19) (cn 3) p0)) 20 (upd (ar 20) (cn 3) p1)) 0 1 0 p1) := by first | rfl | (simp only [rAdvance, b_2, b_4, c_5, c_5B, c_5R, c_5RB, c_8, c_8R, c_10, c_10B, c_10R, c_10RB, hhas]; done) | (simp only [rAdvance, b_2, b_4, c_5, c_5B, c_5R, c_5RB, c_8, c_8R, c_10, c_10B, c_10R, c_10RB, hhas]; rfl) | simp [rAdvance, b_2, b_4, c_5, c_5B, c_5R, c_5RB, c_8, c_8R, c_10, c_10B, c_10R, c_10RB, hhas]
                have ec9 : cUp (cUp cn 1) 3 = (cUp (cUp cn 1) 3) := by first | rfl | (simp only [rAdvance, b_2, b_4, c_5, c_5B, c_5R, c_5RB, c_8, c_8R, c_10, c_10B, c_10R, c_10RB, hhas]; done) | (simp only [rAdvance, b_2, b_4, c_5, c_5B, c_5R, c_5RB, c_8, c_8R, c_10, c_10B, c_10R, c_10RB, hhas]; rfl) | simp [rAdvance, b_2, b_4, c_5, c_5B, c_5R, c_5RB, c_8, c_8R, c_10, c_10B, c_10R, c_10RB, hhas]
                exact k_iret hx hb hr rfl hlocks hG hz hM hS (Nat.le_of_ble_eq_true rfl) (Nat.le_of_ble_eq_true rfl) dX3_advance_162 ⟨_, rfl, mPost.ok ht9 ha9 (by rw [ec9, er9]; exact hPm) hfr⟩
              · have c_10R := c_10
                have c_10 : ¬ ((cn 3) ≤ k) := fun h9 => c_10R ((nI_leI (a := (cn 3)) (b := k) (by omega) (by omega)).mpr h9)
                have c_10B : k < (cn 3) := by omega
                have c_10RB := Int32.not_le.mp c_10R
                refine lv_aload_n hx hb dX3_advance_64 rfl (lv_at hl 1 rfl) ?_
                refine r_get (ci := 7) hF in_X3 hG hM hPm.1 rfl 28 (by decide) q785 (fun _ h => h) (.int 0) rfl dX3_advance_65 ?_
                refine lv_if_ne (tgt := 105) hx hb dX3_advance_68 (by decide) (fun c9 => absurd c9 (by decide)) (fun _ => ?_)
                refine lv_aload_n hx hb dX3_advance_71 rfl (lv_at hl 1 rfl) ?_
                refine lv_aload_n hx hb dX3_advance_72 rfl (lv_at hl 1 rfl) ?_
                refine r_get (ci := 7) hF in_X3 hG hM hPm.1 rfl 25 (by decide) q782 (fun _ h => h) (.ref (aa 19)) rfl dX3_advance_73 ?_
                refine lv_iload_n hx hb dX3_advance_76 rfl (lv_at hl 0 rfl) ?_
                refine r_ialdN (n := 120) (f := (ar 19)) k hF hG hM hPm.a19 (by omega) (by decide) rfl dX3_advance_77 ?_
                refine lv_iload_n hx hb dX3_advance_78 rfl (lv_at hl 2 rfl) ?_
                refine lv_icmp_ne (tgt := 95) hx hb dX3_advance_79 (by decide) (fun c_15 => ?_) (fun c_15 => ?_)
                · refine lv_iconst (v := 0) hx hb dX3_advance_95 (by decide) ?_
                  refine r_put (ci := 7) (ty := .int) (v := .int 0) hF in_X3 tyX3 tyX3_ok nmX3 hG hM hS hPm.1 rfl 28 (by decide) q785 (fun _ h => h) rfl (by decide +kernel) rfl rfl (Nat.le_of_ble_eq_true rfl) dX3_advance_96 (fun H locs hM hS => ?_)
                  obtain ⟨M_16, hM, hPm, hfr⟩ := PicM.stepF (cn' := cn) (lim' := lim) (th' := 0) hPm hfr hM
                  refine lv_iinc (v := (nI (k + 1))) (lv' := [(3, .int (nI (k + 1))), (0, .ref m0), (1, .int p0), (2, .int p1)]) hx hb dX3_advance_99 hl (k := 0) rfl (by rw [← nI_1]; rfl) (by decide) rfl (fun ls hl => ?_)
                  refine lv_goto (tgt := 56) hx hb dX3_advance_102 (by decide) ?_
                  exact ih (k + 1) (by omega) (by omega) _ _ _ hM hS hPm hfr (by simp [hasF, hhas, b_2, b_4, c_5, c_5B, c_5R, c_5RB, c_8, c_8R, c_10, c_10B, c_10R, c_10RB, c_15]) ls (lv_sub hl [0, 1, 2, 3] rfl)
                · refine lv_aload_n hx hb dX3_advance_82 rfl (lv_at hl 1 rfl) ?_
                  refine r_get (ci := 7) hF in_X3 hG hM hPm.1 rfl 27 (by decide) q784 (fun _ h => h) (.ref (aa 21)) rfl dX3_advance_83 ?_
                  refine lv_iload_n hx hb dX3_advance_86 rfl (lv_at hl 0 rfl) ?_
                  refine r_ialdN (n := 120) (f := (ar 21)) k hF hG hM hPm.a21 (by omega) (by decide) rfl dX3_advance_87 ?_
                  refine lv_if_ne (tgt := 95) hx hb dX3_advance_88 (by decide) (fun c_17 => ?_) (fun c_17 => ?_)
                  · refine lv_iconst (v := 0) hx hb dX3_advance_95 (by decide) ?_
                    refine r_put (ci := 7) (ty := .int) (v := .int 0) hF in_X3 tyX3 tyX3_ok nmX3 hG hM hS hPm.1 rfl 28 (by decide) q785 (fun _ h => h) rfl (by decide +kernel) rfl rfl (Nat.le_of_ble_eq_true rfl) dX3_advance_96 (fun H locs hM hS => ?_)
                    obtain ⟨M_18, hM, hPm, hfr⟩ := PicM.stepF (cn' := cn) (lim' := lim) (th' := 0) hPm hfr hM
                    refine lv_iinc (v := (nI (k + 1))) (lv' := [(3, .int (nI (k + 1))), (0, .ref m0), (1, .int p0), (2, .int p1)]) hx hb dX3_advance_99 hl (k := 0) rfl (by rw [← nI_1]; rfl) (by decide) rfl (fun ls hl => ?_)
                    refine lv_goto (tgt := 56) hx hb dX3_advance_102 (by decide) ?_
                    exact ih (k + 1) (by omega) (by omega) _ _ _ hM hS hPm hfr (by simp [hasF, hhas, b_2, b_4, c_5, c_5B, c_5R, c_5RB, c_8, c_8R, c_10, c_10B, c_10R, c_10RB, (eq_true c_15), c_17]) ls (lv_sub hl [0, 1, 2, 3] rfl)
                  · have hyes : hasF ar p0 (cn 3) = true := hasF_t (k := k) (by omega) c_15 c_17
                    refine lv_iconst (v := 3) hx hb dX3_advance_91 (by decide) ?_
                    refine lv_goto (tgt := 96) hx hb dX3_advance_92 (by decide) ?_
                    refine r_put (ci := 7) (ty := .int) (v := .int 3) hF in_X3 tyX3 tyX3_ok nmX3 hG hM hS hPm.1 rfl 28 (by decide) q785 (fun _ h => h) rfl (by decide +kernel) rfl rfl (Nat.le_of_ble_eq_true rfl) dX3_advance_96 (fun H locs hM hS => ?_)
                    obtain ⟨M_19, hM, hPm, hfr⟩ := PicM.stepF (cn' := cn) (lim' := lim) (th' := 3) hPm hfr hM
                    refine lv_iinc (v := (nI (k + 1))) (lv' := [(3, .int (nI (k + 1))), (0, .ref m0), (1, .int p0), (2, .int p1)]) hx hb dX3_advance_99 hl (k := 0) rfl (by rw [← nI_1]; rfl) (by decide) rfl (fun ls hl => ?_)
                    refine lv_goto (tgt := 56) hx hb dX3_advance_102 (by decide) ?_
                    refine lv_iload_n hx hb dX3_advance_56 rfl (lv_at hl 0 rfl) ?_
                    refine lv_aload_n hx hb dX3_advance_57 rfl (lv_at hl 1 rfl) ?_
                    refine r_get (ci := 7) hF in_X3 hG hM hPm.1 rfl 24 (by decide) q781 (fun _ h => h) (.int (nI (cn 3))) rfl dX3_advance_58 ?_
                    refine lv_icmp_ge (tgt := 105) hx hb dX3_advance_61 (by decide) (fun c_20 => ?_) (fun c_20 => ?_)
                    · have c_20R := c_20
                      have c_20 : (cn 3) ≤ (k + 1) := (nI_leI (a := (cn 3)) (b := (k + 1)) (by omega) (by omega)).mp c_20R
                      have c_20B : ¬ ((k + 1) < (cn 3)) := by omega
                      have c_20RB := Int32.not_lt.mpr c_20R
                      refine lv_aload_n hx hb dX3_advance_105 rfl (lv_at hl 1 rfl) ?_
                      refine r_get (ci := 7) hF in_X3 hG hM hPm.1 rfl 28 (by decide) q785 (fun _ h => h) (.int 3) rfl dX3_advance_106 ?_
                      refine lv_if_le (tgt := 114) hx hb dX3_advance_109 (by decide) (fun c9 => absurd c9 (by decide)) (fun _ => ?_)
                      refine lv_iconst (v := 0) hx hb dX3_advance_112 (by decide) ?_
                      have ht9 : tAdvance cn ar p0 p1 = (3 : Int32) := by simp [tAdvance, b_2, b_4, c_5, c_5B, c_5R, c_5RB, c_8, c_8R, c_10, c_10B, c_10R, c_10RB, (eq_true c_15), (eq_true c_17), hyes, c_20, c_20B, c_20R, c_20RB]
                      exact k_iret hx hb hr rfl hlocks hG hz hM hS (Nat.le_of_ble_eq_true rfl) (Nat.le_of_ble_eq_true rfl) dX3_advance_113 ⟨_, rfl, mPost.bad ht9 (by decide) hPm hfr⟩
                    · have c_20R := c_20
                      have c_20 : ¬ ((cn 3) ≤ (k + 1)) := fun h9 => c_20R ((nI_leI (a := (cn 3)) (b := (k + 1)) (by omega) (by omega)).mpr h9)
                      have c_20B : (k + 1) < (cn 3) := by omega
                      have c_20RB := Int32.not_le.mp c_20R
                      refine lv_aload_n hx hb dX3_advance_64 rfl (lv_at hl 1 rfl) ?_
                      refine r_get (ci := 7) hF in_X3 hG hM hPm.1 rfl 28 (by decide) q785 (fun _ h => h) (.int 3) rfl dX3_advance_65 ?_
                      refine lv_if_ne (tgt := 105) hx hb dX3_advance_68 (by decide) (fun _ => ?_) (fun c9 => absurd c9 (by decide))
                      refine lv_aload_n hx hb dX3_advance_105 rfl (lv_at hl 1 rfl) ?_
                      refine r_get (ci := 7) hF in_X3 hG hM hPm.1 rfl 28 (by decide) q785 (fun _ h => h) (.int 3) rfl dX3_advance_106 ?_
                      refine lv_if_le (tgt := 114) hx hb dX3_advance_109 (by decide) (fun c9 => absurd c9 (by decide)) (fun _ => ?_)
                      refine lv_iconst (v := 0) hx hb dX3_advance_112 (by decide) ?_
                      have ht9 : tAdvance cn ar p0 p1 = (3 : Int32) := by simp [tAdvance, b_2, b_4, c_5, c_5B, c_5R, c_5RB, c_8, c_8R, c_10, c_10B, c_10R, c_10RB, (eq_true c_15), (eq_true c_17), hyes, c_20, c_20B, c_20R, c_20RB]
                      exact k_iret hx hb hr rfl hlocks hG hz hM hS (Nat.le_of_ble_eq_true rfl) (Nat.le_of_ble_eq_true rfl) dX3_advance_113 ⟨_, rfl, mPost.bad ht9 (by decide) hPm hfr⟩
          exact loop (cn 3 + 1) 0 (Nat.zero_le _) (by omega) _ _ _ hM hS hPm hfr rfl ls (lv_sub hl [0, 1, 2, 3] rfl)
        · have c_8R := c_8
          have c_8 : (cn 1) = 120 := (nI_eq (a := (cn 1)) (b := 120) (by omega) (by omega)).mp c_8R
          refine lv_iconst (v := 3) hx hb dX3_advance_46 (by decide) ?_
          refine lv_goto (tgt := 51) hx hb dX3_advance_47 (by decide) ?_
          refine r_put (ci := 7) (ty := .int) (v := .int 3) hF in_X3 tyX3 tyX3_ok nmX3 hG hM hS hPm.1 rfl 28 (by decide) q785 (fun _ h => h) rfl (by decide +kernel) rfl rfl (Nat.le_of_ble_eq_true rfl) dX3_advance_51 (fun H locs hM hS => ?_)
          obtain ⟨M_21, hM, hPm, hfr⟩ := PicM.stepF (cn' := cn) (lim' := lim) (th' := 3) hPm hfr hM
          refine lv_iconst (v := 0) hx hb dX3_advance_54 (by decide) ?_
          refine lv_istore_n (lv' := [(3, .int 0), (0, .ref m0), (1, .int p0), (2, .int p1)]) hx hb dX3_advance_55 rfl hl (by decide) rfl (fun ls hl => ?_)
          refine lv_iload_n hx hb dX3_advance_56 rfl (lv_at hl 0 rfl) ?_
          refine lv_aload_n hx hb dX3_advance_57 rfl (lv_at hl 1 rfl) ?_
          refine r_get (ci := 7) hF in_X3 hG hM hPm.1 rfl 24 (by decide) q781 (fun _ h => h) (.int (nI (cn 3))) rfl dX3_advance_58 ?_
          refine lv_icmp_ge (tgt := 105) hx hb dX3_advance_61 (by decide) (fun c_22 => ?_) (fun c_22 => ?_)
          · have c_22R := c_22
            have c_22 : (cn 3) ≤ 0 := (nI_leI (a := (cn 3)) (b := 0) (by omega) (by omega)).mp c_22R
            have c_22B : ¬ (0 < (cn 3)) := by omega
            have c_22RB := Int32.not_lt.mpr c_22R
            refine lv_aload_n hx hb dX3_advance_105 rfl (lv_at hl 1 rfl) ?_
            refine r_get (ci := 7) hF in_X3 hG hM hPm.1 rfl 28 (by decide) q785 (fun _ h => h) (.int 3) rfl dX3_advance_106 ?_
            refine lv_if_le (tgt := 114) hx hb dX3_advance_109 (by decide) (fun c9 => absurd c9 (by decide)) (fun _ => ?_)
            refine lv_iconst (v := 0) hx hb dX3_advance_112 (by decide) ?_
            have ht9 : tAdvance cn ar p0 p1 = (3 : Int32) := by simp [tAdvance, b_2, b_4, c_5, c_5B, c_5R, c_5RB, (eq_true c_8), (eq_true c_8R), c_22, c_22B, c_22R, c_22RB]
            exact k_iret hx hb hr rfl hlocks hG hz hM hS (Nat.le_of_ble_eq_true rfl) (Nat.le_of_ble_eq_true rfl) dX3_advance_113 ⟨_, rfl, mPost.bad ht9 (by decide) hPm hfr⟩
          · have c_22R := c_22
            have c_22 : ¬ ((cn 3) ≤ 0) := fun h9 => c_22R ((nI_leI (a := (cn 3)) (b := 0) (by omega) (by omega)).mpr h9)
            have c_22B : 0 < (cn 3) := by omega
            have c_22RB := Int32.not_le.mp c_22R
            refine lv_aload_n hx hb dX3_advance_64 rfl (lv_at hl 1 rfl) ?_
            refine r_get (ci := 7) hF in_X3 hG hM hPm.1 rfl 28 (by decide) q785 (fun _ h => h) (.int 3) rfl dX3_advance_65 ?_
            refine lv_if_ne (tgt := 105) hx hb dX3_advance_68 (by decide) (fun _ => ?_) (fun c9 => absurd c9 (by decide))
            refine lv_aload_n hx hb dX3_advance_105 rfl (lv_at hl 1 rfl) ?_
            refine r_get (ci := 7) hF in_X3 hG hM hPm.1 rfl 28 (by decide) q785 (fun _ h => h) (.int 3) rfl dX3_advance_106 ?_
            refine lv_if_le (tgt := 114) hx hb dX3_advance_109 (by decide) (fun c9 => absurd c9 (by decide)) (fun _ => ?_)
            refine lv_iconst (v := 0) hx hb dX3_advance_112 (by decide) ?_
            have ht9 : tAdvance cn ar p0 p1 = (3 : Int32) := by simp [tAdvance, b_2, b_4, c_5, c_5B, c_5R, c_5RB, (eq_true c_8), (eq_true c_8R), c_22, c_22B, c_22R, c_22RB]
            exact k_iret hx hb hr rfl hlocks hG hz hM hS (Nat.le_of_ble_eq_true rfl) (Nat.le_of_ble_eq_true rfl) dX3_advance_113 ⟨_, rfl, mPost.bad ht9 (by decide) hPm hfr⟩
    · refine W.eq (g2 := F0 m 21 ls [.int 0, .ref m0]) rfl ?_
      refine lv_if_ne (tgt := 28) hx hb dX3_advance_21 (by decide) (fun c9 => absurd c9 (by decide)) (fun _ => ?_)
      refine lv_iconst (v := 2) hx hb dX3_advance_24 (by decide) ?_
      refine lv_goto (tgt := 51) hx hb dX3_advance_25 (by decide) ?_
      refine r_put (ci := 7) (ty := .int) (v := .int 2) hF in_X3 tyX3 tyX3_ok nmX3 hG hM hS hPm.1 rfl 28 (by decide) q785 (fun _ h => h) rfl (by decide +kernel) rfl rfl (Nat.le_of_ble_eq_true rfl) dX3_advance_51 (fun H locs hM hS => ?_)
      obtain ⟨M_23, hM, hPm, hfr⟩ := PicM.stepF (cn' := cn) (lim' := lim) (th' := 2) hPm hfr hM
      refine lv_iconst (v := 0) hx hb dX3_advance_54 (by decide) ?_
      refine lv_istore_n (lv' := [(3, .int 0), (0, .ref m0), (1, .int p0), (2, .int p1)]) hx hb dX3_advance_55 rfl hl (by decide) rfl (fun ls hl => ?_)
      refine lv_iload_n hx hb dX3_advance_56 rfl (lv_at hl 0 rfl) ?_
      refine lv_aload_n hx hb dX3_advance_57 rfl (lv_at hl 1 rfl) ?_
      refine r_get (ci := 7) hF in_X3 hG hM hPm.1 rfl 24 (by decide) q781 (fun _ h => h) (.int (nI (cn 3))) rfl dX3_advance_58 ?_
      refine lv_icmp_ge (tgt := 105) hx hb dX3_advance_61 (by decide) (fun c_24 => ?_) (fun c_24 => ?_)
      · have c_24R := c_24
        have c_24 : (cn 3) ≤ 0 := (nI_leI (a := (cn 3)) (b := 0) (by omega) (by omega)).mp c_24R
        have c_24B : ¬ (0 < (cn 3)) := by omega
        have c_24RB := Int32.not_lt.mpr c_24R
        refine lv_aload_n hx hb dX3_advance_105 rfl (lv_at hl 1 rfl) ?_
        refine r_get (ci := 7) hF in_X3 hG hM hPm.1 rfl 28 (by decide) q785 (fun _ h => h) (.int 2) rfl dX3_advance_106 ?_
        refine lv_if_le (tgt := 114) hx hb dX3_advance_109 (by decide) (fun c9 => absurd c9 (by decide)) (fun _ => ?_)
        refine lv_iconst (v := 0) hx hb dX3_advance_112 (by decide) ?_
        have ht9 : tAdvance cn ar p0 p1 = (2 : Int32) := by simp [tAdvance, b_2, b_4, c_24, c_24B, c_24R, c_24RB]
        exact k_iret hx hb hr rfl hlocks hG hz hM hS (Nat.le_of_ble_eq_true rfl) (Nat.le_of_ble_eq_true rfl) dX3_advance_113 ⟨_, rfl, mPost.bad ht9 (by decide) hPm hfr⟩
      · have c_24R := c_24
        have c_24 : ¬ ((cn 3) ≤ 0) := fun h9 => c_24R ((nI_leI (a := (cn 3)) (b := 0) (by omega) (by omega)).mpr h9)
        have c_24B : 0 < (cn 3) := by omega
        have c_24RB := Int32.not_le.mp c_24R
        refine lv_aload_n hx hb dX3_advance_64 rfl (lv_at hl 1 rfl) ?_
        refine r_get (ci := 7) hF in_X3 hG hM hPm.1 rfl 28 (by decide) q785 (fun _ h => h) (.int 2) rfl dX3_advance_65 ?_
        refine lv_if_ne (tgt := 105) hx hb dX3_advance_68 (by decide) (fun _ => ?_) (fun c9 => absurd c9 (by decide))
        refine lv_aload_n hx hb dX3_advance_105 rfl (lv_at hl 1 rfl) ?_
        refine r_get (ci := 7) hF in_X3 hG hM hPm.1 rfl 28 (by decide) q785 (fun _ h => h) (.int 2) rfl dX3_advance_106 ?_
        refine lv_if_le (tgt := 114) hx hb dX3_advance_109 (by decide) (fun c9 => absurd c9 (by decide)) (fun _ => ?_)
        refine lv_iconst (v := 0) hx hb dX3_advance_112 (by decide) ?_
        have ht9 : tAdvance cn ar p0 p1 = (2 : Int32) := by simp [tAdvance, b_2, b_4, c_24, c_24B, c_24R, c_24RB]
        exact k_iret hx hb hr rfl hlocks hG hz hM hS (Nat.le_of_ble_eq_true rfl) (Nat.le_of_ble_eq_true rfl) dX3_advance_113 ⟨_, rfl, mPost.bad ht9 (by decide) hPm hfr⟩
  · refine W.eq (g2 := F0 m 7 ls [.int 0, .ref m0]) rfl ?_
    refine lv_if_ne (tgt := 14) hx hb dX3_advance_7 (by decide) (fun c9 => absurd c9 (by decide)) (fun _ => ?_)
    refine lv_iconst (v := 1) hx hb dX3_advance_10 (by decide) ?_
    refine lv_goto (tgt := 51) hx hb dX3_advance_11 (by decide) ?_
    refine r_put (ci := 7) (ty := .int) (v := .int 1) hF in_X3 tyX3 tyX3_ok nmX3 hG hM hS hPm.1 rfl 28 (by decide) q785 (fun _ h => h) rfl (by decide +kernel) rfl rfl (Nat.le_of_ble_eq_true rfl) dX3_advance_51 (fun H locs hM hS => ?_)
    obtain ⟨M_25, hM, hPm, hfr⟩ := PicM.stepF (cn' := cn) (lim' := lim) (th' := 1) hPm hfr hM
    refine lv_iconst (v := 0) hx hb dX3_advance_54 (by decide) ?_
    refine lv_istore_n (lv' := [(3, .int 0), (0, .ref m0), (1, .int p0), (2, .int p1)]) hx hb dX3_advance_55 rfl hl (by decide) rfl (fun ls hl => ?_)
    refine lv_iload_n hx hb dX3_advance_56 rfl (lv_at hl 0 rfl) ?_
    refine lv_aload_n hx hb dX3_advance_57 rfl (lv_at hl 1 rfl) ?_
    refine r_get (ci := 7) hF in_X3 hG hM hPm.1 rfl 24 (by decide) q781 (fun _ h => h) (.int (nI (cn 3))) rfl dX3_advance_58 ?_
    refine lv_icmp_ge (tgt := 105) hx hb dX3_advance_61 (by decide) (fun c_26 => ?_) (fun c_26 => ?_)
    · have c_26R := c_26
      have c_26 : (cn 3) ≤ 0 := (nI_leI (a := (cn 3)) (b := 0) (by omega) (by omega)).mp c_26R
      have c_26B : ¬ (0 < (cn 3)) := by omega
      have c_26RB := Int32.not_lt.mpr c_26R
      refine lv_aload_n hx hb dX3_advance_105 rfl (lv_at hl 1 rfl) ?_
      refine r_get (ci := 7) hF in_X3 hG hM hPm.1 rfl 28 (by decide) q785 (fun _ h => h) (.int 1) rfl dX3_advance_106 ?_
      refine lv_if_le (tgt := 114) hx hb dX3_advance_109 (by decide) (fun c9 => absurd c9 (by decide)) (fun _ => ?_)
      refine lv_iconst (v := 0) hx hb dX3_advance_112 (by decide) ?_
      have ht9 : tAdvance cn ar p0 p1 = (1 : Int32) := by simp [tAdvance, b_2, c_26, c_26B, c_26R, c_26RB]
      exact k_iret hx hb hr rfl hlocks hG hz hM hS (Nat.le_of_ble_eq_true rfl) (Nat.le_of_ble_eq_true rfl) dX3_advance_113 ⟨_, rfl, mPost.bad ht9 (by decide) hPm hfr⟩
    · have c_26R := c_26
      have c_26 : ¬ ((cn 3) ≤ 0) := fun h9 => c_26R ((nI_leI (a := (cn 3)) (b := 0) (by omega) (by omega)).mpr h9)
      have c_26B : 0 < (cn 3) := by omega
      have c_26RB := Int32.not_le.mp c_26R
      refine lv_aload_n hx hb dX3_advance_64 rfl (lv_at hl 1 rfl) ?_
      refine r_get (ci := 7) hF in_X3 hG hM hPm.1 rfl 28 (by decide) q785 (fun _ h => h) (.int 1) rfl dX3_advance_65 ?_
      refine lv_if_ne (tgt := 105) hx hb dX3_advance_68 (by decide) (fun _ => ?_) (fun c9 => absurd c9 (by decide))
      refine lv_aload_n hx hb dX3_advance_105 rfl (lv_at hl 1 rfl) ?_
      refine r_get (ci := 7) hF in_X3 hG hM hPm.1 rfl 28 (by decide) q785 (fun _ h => h) (.int 1) rfl dX3_advance_106 ?_
      refine lv_if_le (tgt := 114) hx hb dX3_advance_109 (by decide) (fun c9 => absurd c9 (by decide)) (fun _ => ?_)
      refine lv_iconst (v := 0) hx hb dX3_advance_112 (by decide) ?_
      have ht9 : tAdvance cn ar p0 p1 = (1 : Int32) := by simp [tAdvance, b_2, c_26, c_26B, c_26R, c_26RB]
      exact k_iret hx hb hr rfl hlocks hG hz hM hS (Nat.le_of_ble_eq_true rfl) (Nat.le_of_ble_eq_true rfl) dX3_advance_113 ⟨_, rfl, mPost.bad ht9 (by decide) hPm hfr⟩
set_option maxHeartbeats 4000000 in
set_option maxRecDepth 100000 in
theorem metX3_settle {l : Launch} {z : Nat} {E : EE} {M : MM} {m0 : Nat} {aa : Nat → Nat} {cn : Nat → Nat} {lim th : Int32} {ar : Nat → Nat → Int32} (hPm : PicM E M m0 aa cn lim th ar) (hW : WF cn lim ar) (p0 p1 p2 : Int32) : Kt l yX3_settle (ws_ yX3_settle cX3_settle 5 (some .int)) ({ frames := 50, cells := 0, slots := 0, locals := 1500 } : Room) z E [.ref m0, .int p0, .int p1, .int p2] M (pI (fun r M' => mPost E M m0 aa (tSettle cn ar p0 p1 p2) (ar 20 (nx p0) - p2) cn lim ar ((sSettle cn ar p0 p1 p2).1) (lim) ((sSettle cn ar p0 p1 p2).2) r M')) xNo 0 0 := by
  refine k_body RX3 (by decide) rfl (Nat.le_of_ble_eq_true rfl) ?_
  intro p e s m args below meth c hx hb hr hml hown hlocks hname hno hts hz hG hM hS ls hl
  have hF : CallFix p m c cX3_settle 5 s args lw_all RX3 := ⟨hx, hb, hml, hown, hts⟩
  have hl : lv_has ls 5 [(0, .ref m0), (1, .int p0), (2, .int p1), (3, .int p2)] := hl
  have hfr : Fr kM M M := Fr.rf
  have hwb := hW.b
  refine lv_aload_n hx hb dX3_settle_0 rfl (lv_at hl 0 rfl) ?_
  refine lv_iload_n hx hb dX3_settle_1 rfl (lv_at hl 1 rfl) ?_
  refine lv_iconst (v := 0) hx hb dX3_settle_2 (by decide) ?_
  refine lv_aload_n hx hb dX3_settle_3 rfl (lv_at hl 0 rfl) ?_
  refine r_get (ci := 7) hF in_X3 hG hM hPm.1 rfl 24 (by decide) q781 (fun _ h => h) (.int (nI (cn 3))) rfl dX3_settle_4 ?_
  refine lv_iconst (v := 1) hx hb dX3_settle_7 (by decide) ?_
  refine lv_isub hx hb dX3_settle_8 ?_
  refine kS (k9 := 0) (n9 := 0) hF hG hz hM hS [.int p0, .int 0, .int ((nI (cn 3)) - 1)] [.ref m0] (metX3_in p0 0 ((nI (cn 3)) - 1)) (va_cwS 3 hts (lw_S q857 q858 q27 q859) rfl rfl rfl (by decide +kernel) ⟨(Nat.le_of_ble_eq_true rfl), (Nat.le_of_ble_eq_true rfl)⟩) rfl hl.1 rfl (Nat.le_of_ble_eq_true rfl) dX3_settle_9 rfl rfl (Nat.le_of_ble_eq_true rfl) (Nat.le_of_ble_eq_true rfl) (fun _ _ _ _ _ h9 _ _ _ _ _ => h9.elim) (fun v9 M9_1 H locs hp9 hM9_1 hS => ?_)
  obtain ⟨r_1, rfl, b_2, rfl⟩ := hp9
  have hM := hM9_1
  rw [inB_inR (n := (cn 3)) (by omega)] at b_2
  rcases b_2 with ⟨b_2, rfl⟩ | ⟨b_2, rfl⟩
  · refine W.eq (g2 := F0 m 12 ls [.int 1, .ref m0]) rfl ?_
    obtain ⟨j0, hj0, rfl⟩ := inB_ex b_2 (by omega)
    have hnj0 : nx (nI j0) = j0 := nI_clamp (by omega)
    refine lv_if_eq (tgt := 23) hx hb dX3_settle_12 (by decide) (fun c9 => absurd c9 (by decide)) (fun _ => ?_)
    refine lv_aload_n hx hb dX3_settle_15 rfl (lv_at hl 0 rfl) ?_
    refine lv_iload_n hx hb dX3_settle_16 rfl (lv_at hl 2 rfl) ?_
    refine kV (k9 := 0) (n9 := 0) hF hG hz hM hS [.int p1] [.ref m0] (metX3_isAccount hPm hW p1) (cwV 1 hts (lw_V q853 q855 qs9 q27 q856) rfl rfl rfl (by decide +kernel) ⟨(Nat.le_of_ble_eq_true rfl), (Nat.le_of_ble_eq_true rfl)⟩) (k_recv hG hM hPm.1 (ci := 7) rfl) rfl hl.1 rfl (Nat.le_of_ble_eq_true rfl) dX3_settle_17 rfl rfl (Nat.le_of_ble_eq_true rfl) (Nat.le_of_ble_eq_true rfl) (fun _ _ _ _ _ h9 _ _ _ _ _ => h9.elim) (fun v9 M9_2 H locs hp9 hM9_2 hS => ?_)
    obtain ⟨r_3, rfl, b_4, rfl⟩ := hp9
    have hM := hM9_2
    rcases b_4 with ⟨b_4, rfl⟩ | ⟨b_4, rfl⟩
    · refine W.eq (g2 := F0 m 20 ls [.int 1, .ref m0]) rfl ?_
      obtain ⟨j1, hj1, rfl⟩ := inB_ex b_4 (by omega)
      have hnj1 : nx (nI j1) = j1 := nI_clamp (by omega)
      refine lv_if_ne (tgt := 27) hx hb dX3_settle_20 (by decide) (fun _ => ?_) (fun c9 => absurd c9 (by decide))
      refine lv_iload_n hx hb dX3_settle_27 rfl (lv_at hl 3 rfl) ?_
      refine lv_iconst (v := 0) hx hb dX3_settle_28 (by decide) ?_
      refine lv_aload_n hx hb dX3_settle_29 rfl (lv_at hl 0 rfl) ?_
      refine r_get (ci := 7) hF in_X3 hG hM hPm.1 rfl 26 (by decide) q783 (fun _ h => h) (.ref (aa 20)) rfl dX3_settle_30 ?_
      refine lv_iload_n hx hb dX3_settle_33 rfl (lv_at hl 1 rfl) ?_
      refine r_ialdN (n := 120) (f := (ar 20)) j0 hF hG hM hPm.a20 (by omega) (by decide) rfl dX3_settle_34 ?_
      refine kS (k9 := 0) (n9 := 0) hF hG hz hM hS [.int p2, .int 0, .int ((ar 20) j0)] [.ref m0] (metX3_in p2 0 ((ar 20) j0)) (va_cwS 3 hts (lw_S q857 q858 q27 q859) rfl rfl rfl (by decide +kernel) ⟨(Nat.le_of_ble_eq_true rfl), (Nat.le_of_ble_eq_true rfl)⟩) rfl hl.1 rfl (Nat.le_of_ble_eq_true rfl) dX3_settle_35 rfl rfl (Nat.le_of_ble_eq_true rfl) (Nat.le_of_ble_eq_true rfl) (fun _ _ _ _ _ h9 _ _ _ _ _ => h9.elim) (fun v9 M9_3 H locs hp9 hM9_3 hS => ?_)
      obtain ⟨r_5, rfl, b_6, rfl⟩ := hp9
      have hM := hM9_3
      rcases b_6 with ⟨b_6, rfl⟩ | ⟨b_6, rfl⟩
      · refine W.eq (g2 := F0 m 38 ls [.int 1, .ref m0]) rfl ?_
        refine lv_if_ne (tgt := 45) hx hb dX3_settle_38 (by decide) (fun _ => ?_) (fun c9 => absurd c9 (by decide))
        refine lv_iconst (v := 0) hx hb dX3_settle_45 (by decide) ?_
        refine r_put (ci := 7) (ty := .int) (v := .int 0) hF in_X3 tyX3 tyX3_ok nmX3 hG hM hS hPm.1 rfl 28 (by decide) q785 (fun _ h => h) rfl (by decide +kernel) rfl rfl (Nat.le_of_ble_eq_true rfl) dX3_settle_46 (fun H locs hM hS => ?_)
        obtain ⟨M_7, hM, hPm, hfr⟩ := PicM.stepF (cn' := cn) (lim' := lim) (th' := 0) hPm hfr hM
        refine lv_aload_n hx hb dX3_settle_49 rfl (lv_at hl 0 rfl) ?_
        refine r_get (ci := 7) hF in_X3 hG hM hPm.1 rfl 28 (by decide) q785 (fun _ h => h) (.int 0) rfl dX3_settle_50 ?_
        refine lv_if_le (tgt := 58) hx hb dX3_settle_53 (by decide) (fun _ => ?_) (fun c9 => absurd (by decide) c9)
        refine lv_aload_n hx hb dX3_settle_58 rfl (lv_at hl 0 rfl) ?_
        refine r_get (ci := 7) hF in_X3 hG hM hPm.1 rfl 27 (by decide) q784 (fun _ h => h) (.ref (aa 21)) rfl dX3_settle_59 ?_
        refine lv_iload_n hx hb dX3_settle_62 rfl (lv_at hl 1 rfl) ?_
        refine r_ialdN (n := 120) (f := (ar 21)) j0 hF hG hM hPm.a21 (by omega) (by decide) rfl dX3_settle_63 ?_
        refine lv_iconst (v := 1) hx hb dX3_settle_64 (by decide) ?_
        refine lv_icmp_eq (tgt := 104) hx hb dX3_settle_65 (by decide) (fun c_8 => ?_) (fun c_8 => ?_)
        · refine lv_aload_n hx hb dX3_settle_104 rfl (lv_at hl 0 rfl) ?_
          refine lv_iconst (v := 3) hx hb dX3_settle_105 (by decide) ?_
          refine kV (k9 := 0) (n9 := 0) hF hG hz hM hS [.int 3] [] (metX3_fails hPm 3) (cwV 1 hts (lw_V q917 q919 qs14 q27 q920) rfl rfl rfl (by decide +kernel) ⟨(Nat.le_of_ble_eq_true rfl), (Nat.le_of_ble_eq_true rfl)⟩) (k_recv hG hM hPm.1 (ci := 7) rfl) rfl hl.1 rfl (Nat.le_of_ble_eq_true rfl) dX3_settle_106 rfl rfl (Nat.le_of_ble_eq_true rfl) (Nat.le_of_ble_eq_true rfl) (fun _ _ _ _ _ h9 _ _ _ _ _ => h9.elim) (fun v9 M9_4 H locs hp9 hM9_4 hS => ?_)
          obtain ⟨r_9, rfl, r_9_e, hPm, hfr9⟩ := hp9
          have hM := hM9_4
          have hfr := hfr.tr hfr9
          subst r_9_e
          refine W.eq (g2 := F0 m 109 ls [.int 0]) rfl ?_
          have ht9 : tSettle cn ar (nI j0) (nI j1) p2 = (3 : Int32) := by simp [tSettle, b_2, hnj0, b_4, hnj1, b_6, (eq_true c_8)]
          exact k_iret hx hb hr rfl hlocks hG hz hM hS (Nat.le_of_ble_eq_true rfl) (Nat.le_of_ble_eq_true rfl) dX3_settle_109 ⟨_, rfl, mPost.bad ht9 (by decide) hPm hfr⟩
        · refine lv_aload_n hx hb dX3_settle_68 rfl (lv_at hl 0 rfl) ?_
          refine r_get (ci := 7) hF in_X3 hG hM hPm.1 rfl 9 (by decide) q766 (fun _ h => h) (.ref (aa 6)) rfl dX3_settle_69 ?_
          refine lv_iload_n hx hb dX3_settle_72 rfl (lv_at hl 2 rfl) ?_
          refine r_ialdN (n := 14) (f := (ar 6)) j1 hF hG hM hPm.a6 (by omega) (by decide) rfl dX3_settle_73 ?_
          refine lv_if_eq (tgt := 104) hx hb dX3_settle_74 (by decide) (fun c_11 => ?_) (fun c_11 => ?_)
          · refine lv_aload_n hx hb dX3_settle_104 rfl (lv_at hl 0 rfl) ?_
            refine lv_iconst (v := 3) hx hb dX3_settle_105 (by decide) ?_
            refine kV (k9 := 0) (n9 := 0) hF hG hz hM hS [.int 3] [] (metX3_fails hPm 3) (cwV 1 hts (lw_V q917 q919 qs14 q27 q920) rfl rfl rfl (by decide +kernel) ⟨(Nat.le_of_ble_eq_true rfl), (Nat.le_of_ble_eq_true rfl)⟩) (k_recv hG hM hPm.1 (ci := 7) rfl) rfl hl.1 rfl (Nat.le_of_ble_eq_true rfl) dX3_settle_106 rfl rfl (Nat.le_of_ble_eq_true rfl) (Nat.le_of_ble_eq_true rfl) (fun _ _ _ _ _ h9 _ _ _ _ _ => h9.elim) (fun v9 M9_5 H locs hp9 hM9_5 hS => ?_)
            obtain ⟨r_12, rfl, r_12_e, hPm, hfr9⟩ := hp9
            have hM := hM9_5
            have hfr := hfr.tr hfr9
            subst r_12_e
            refine W.eq (g2 := F0 m 109 ls [.int 0]) rfl ?_
            have ht9 : tSettle cn ar (nI j0) (nI j1) p2 = (3 : Int32) := by simp [tSettle, b_2, hnj0, b_4, hnj1, b_6, c_8, (eq_true c_11)]
            exact k_iret hx hb hr rfl hlocks hG hz hM hS (Nat.le_of_ble_eq_true rfl) (Nat.le_of_ble_eq_true rfl) dX3_settle_109 ⟨_, rfl, mPost.bad ht9 (by decide) hPm hfr⟩
          · refine lv_aload_n hx hb dX3_settle_77 rfl (lv_at hl 0 rfl) ?_
            refine lv_iload_n hx hb dX3_settle_78 rfl (lv_at hl 2 rfl) ?_
            refine kV (k9 := 0) (n9 := 0) hF hG hz hM hS [.int (nI j1)] [] (metX3_leftOf hPm j1 (by omega)) (cwV 1 hts (lw_V q913 q915 qs13 q27 q916) rfl rfl rfl (by decide +kernel) ⟨(Nat.le_of_ble_eq_true rfl), (Nat.le_of_ble_eq_true rfl)⟩) (k_recv hG hM hPm.1 (ci := 7) rfl) rfl hl.1 rfl (Nat.le_of_ble_eq_true rfl) dX3_settle_79 rfl rfl (Nat.le_of_ble_eq_true rfl) (Nat.le_of_ble_eq_true rfl) (fun _ _ _ _ _ h9 _ _ _ _ _ => h9.elim) (fun v9 M9_6 H locs hp9 hM9_6 hS => ?_)
            obtain ⟨r_14, rfl, r_14_e, rfl⟩ := hp9
            have hM := hM9_6
            subst r_14_e
            refine W.eq (g2 := F0 m 82 ls [.int (lef ar j1)]) rfl ?_
            refine lv_iload_n hx hb dX3_settle_82 rfl (lv_at hl 3 rfl) ?_
            refine lv_icmp_lt (tgt := 104) hx hb dX3_settle_83 (by decide) (fun c_15 => ?_) (fun c_15 => ?_)
            · have c_15B := Int32.not_le.mpr c_15
              refine lv_aload_n hx hb dX3_settle_104 rfl (lv_at hl 0 rfl) ?_
              refine lv_iconst (v := 3) hx hb dX3_settle_105 (by decide) ?_
              refine kV (k9 := 0) (n9 := 0) hF hG hz hM hS [.int 3] [] (metX3_fails hPm 3) (cwV 1 hts (lw_V q917 q919 qs14 q27 q920) rfl rfl rfl (by decide +kernel) ⟨(Nat.le_of_ble_eq_true rfl), (Nat.le_of_ble_eq_true rfl)⟩) (k_recv hG hM hPm.1 (ci := 7) rfl) rfl hl.1 rfl (Nat.le_of_ble_eq_true rfl) dX3_settle_106 rfl rfl (Nat.le_of_ble_eq_true rfl) (Nat.le_of_ble_eq_true rfl) (fun _ _ _ _ _ h9 _ _ _ _ _ => h9.elim) (fun v9 M9_7 H locs hp9 hM9_7 hS => ?_)
              obtain ⟨r_16, rfl, r_16_e, hPm, hfr9⟩ := hp9
              have hM := hM9_7
              have hfr := hfr.tr hfr9
              subst r_16_e
              refine W.eq (g2 := F0 m 109 ls [.int 0]) rfl ?_
              have ht9 : tSettle cn ar (nI j0) (nI j1) p2 = (3 : Int32) := by simp [tSettle, b_2, hnj0, b_4, hnj1, b_6, c_8, c_11, c_15, c_15B]
              exact k_iret hx hb hr rfl hlocks hG hz hM hS (Nat.le_of_ble_eq_true rfl) (Nat.le_of_ble_eq_true rfl) dX3_settle_109 ⟨_, rfl, mPost.bad ht9 (by decide) hPm hfr⟩
            · have c_15B := Int32.not_lt.mp c_15
              refine lv_aload_n hx hb dX3_settle_86 rfl (lv_at hl 0 rfl) ?_
              refine r_get (ci := 7) hF in_X3 hG hM hPm.1 rfl 2 (by decide) q759 (fun _ h => h) (.int (nI (cn 4))) rfl dX3_settle_87 ?_
              refine lv_bipush (v := 12) hx hb dX3_settle_90 (by decide) ?_
              refine lv_icmp_gt (tgt := 104) hx hb dX3_settle_92 (by decide) (fun c_18 => ?_) (fun c_18 => ?_)
              · have c_18R := c_18
                have c_18 : 12 < (cn 4) := (nI_ltI (a := 12) (b := (cn 4)) (by omega) (by omega)).mp c_18R
                have c_18B : ¬ ((cn 4) ≤ 12) := by omega
                have c_18RB := Int32.not_le.mpr c_18R
                refine lv_aload_n hx hb dX3_settle_104 rfl (lv_at hl 0 rfl) ?_
                refine lv_iconst (v := 3) hx hb dX3_settle_105 (by decide) ?_
                refine kV (k9 := 0) (n9 := 0) hF hG hz hM hS [.int 3] [] (metX3_fails hPm 3) (cwV 1 hts (lw_V q917 q919 qs14 q27 q920) rfl rfl rfl (by decide +kernel) ⟨(Nat.le_of_ble_eq_true rfl), (Nat.le_of_ble_eq_true rfl)⟩) (k_recv hG hM hPm.1 (ci := 7) rfl) rfl hl.1 rfl (Nat.le_of_ble_eq_true rfl) dX3_settle_106 rfl rfl (Nat.le_of_ble_eq_true rfl) (Nat.le_of_ble_eq_true rfl) (fun _ _ _ _ _ h9 _ _ _ _ _ => h9.elim) (fun v9 M9_8 H locs hp9 hM9_8 hS => ?_)
                obtain ⟨r_19, rfl, r_19_e, hPm, hfr9⟩ := hp9
                have hM := hM9_8
                have hfr := hfr.tr hfr9
                subst r_19_e
                refine W.eq (g2 := F0 m 109 ls [.int 0]) rfl ?_
                have ht9 : tSettle cn ar (nI j0) (nI j1) p2 = (3 : Int32) := by simp [tSettle, b_2, hnj0, b_4, hnj1, b_6, c_8, c_11, c_15, c_15B, c_18, c_18B, c_18R, c_18RB]
                exact k_iret hx hb hr rfl hlocks hG hz hM hS (Nat.le_of_ble_eq_true rfl) (Nat.le_of_ble_eq_true rfl) dX3_settle_109 ⟨_, rfl, mPost.bad ht9 (by decide) hPm hfr⟩
              · have c_18R := c_18
                have c_18 : ¬ (12 < (cn 4)) := fun h9 => c_18R ((nI_ltI (a := 12) (b := (cn 4)) (by omega) (by omega)).mpr h9)
                have c_18B : (cn 4) ≤ 12 := by omega
                have c_18RB := Int32.not_lt.mp c_18R
                refine lv_aload_n hx hb dX3_settle_95 rfl (lv_at hl 0 rfl) ?_
                refine r_get (ci := 7) hF in_X3 hG hM hPm.1 rfl 3 (by decide) q760 (fun _ h => h) (.int (nI (cn 1))) rfl dX3_settle_96 ?_
                refine lv_bipush (v := 118) hx hb dX3_settle_99 (by decide) ?_
                refine lv_icmp_le (tgt := 110) hx hb dX3_settle_101 (by decide) (fun c_21 => ?_) (fun c_21 => ?_)
                · have c_21R := c_21
                  have c_21 : (cn 1) ≤ 118 := (nI_leI (a := (cn 1)) (b := 118) (by omega) (by omega)).mp c_21R
                  have c_21B : ¬ (118 < (cn 1)) := by omega
                  have c_21RB := Int32.not_lt.mpr c_21R
                  refine lv_aload_n hx hb dX3_settle_110 rfl (lv_at hl 0 rfl) ?_
                  refine r_get (ci := 7) hF in_X3 hG hM hPm.1 rfl 27 (by decide) q784 (fun _ h => h) (.ref (aa 21)) rfl dX3_settle_111 ?_
                  refine lv_iload_n hx hb dX3_settle_114 rfl (lv_at hl 1 rfl) ?_
                  refine lv_iconst (v := 1) hx hb dX3_settle_115 (by decide) ?_
                  refine r_iast (n := 120) (f := (ar 21)) j0 hF hG hM hS hPm.a21 (by omega) (by decide) rfl dX3_settle_116 (fun H locs hM hS => ?_)
                  obtain ⟨M_22, hM, hPm, hfr⟩ := PicM.stepA 21 (by decide) hPm hfr hM
                  refine lv_aload_n hx hb dX3_settle_117 rfl (lv_at hl 0 rfl) ?_
                  refine r_get (ci := 7) hF in_X3 hG hM hPm.1 rfl 13 (by decide) q770 (fun _ h => h) (.ref (aa 10)) rfl dX3_settle_118 ?_
                  refine lv_iload_n hx hb dX3_settle_121 rfl (lv_at hl 2 rfl) ?_
                  refine lv_dup2_11 hx hb dX3_settle_122 rfl rfl ?_
                  refine r_ialdN (n := 14) (f := (ar 10)) j1 hF hG hM hPm.a10 (by omega) (by decide) rfl dX3_settle_123 ?_
                  refine lv_iload_n hx hb dX3_settle_124 rfl (lv_at hl 3 rfl) ?_
                  refine lv_iadd hx hb dX3_settle_125 ?_
                  refine r_iast (n := 14) (f := (ar 10)) j1 hF hG hM hS hPm.a10 (by omega) (by decide) rfl dX3_settle_126 (fun H locs hM hS => ?_)
                  obtain ⟨M_23, hM, hPm, hfr⟩ := PicM.stepA 10 (by decide) hPm hfr hM
                  refine lv_aload_n hx hb dX3_settle_127 rfl (lv_at hl 0 rfl) ?_
                  refine r_get (ci := 7) hF in_X3 hG hM hPm.1 rfl 26 (by decide) q783 (fun _ h => h) (.ref (aa 20)) rfl dX3_settle_128 ?_
                  refine lv_iload_n hx hb dX3_settle_131 rfl (lv_at hl 1 rfl) ?_
                  refine r_ialdN (n := 120) (f := (ar 20)) j0 hF hG hM hPm.a20 (by omega) (by decide) rfl dX3_settle_132 ?_
                  refine lv_iload_n hx hb dX3_settle_133 rfl (lv_at hl 3 rfl) ?_
                  refine lv_isub hx hb dX3_settle_134 ?_
                  refine lv_istore (lv' := [(4, .int (((ar 20) j0) - p2)), (0, .ref m0), (1, .int (nI j0)), (2, .int (nI j1)), (3, .int p2)]) hx hb dX3_settle_135 hl (by decide) rfl (fun ls hl => ?_)
                  refine lv_iload_n hx hb dX3_settle_137 rfl (lv_at hl 4 rfl) ?_
                  refine lv_if_le (tgt := 153) hx hb dX3_settle_138 (by decide) (fun c_24 => ?_) (fun c_24 => ?_)
                  · have c_24B := Int32.not_lt.mpr c_24
                    refine lv_iload hx hb dX3_settle_153 (lv_at hl 0 rfl) ?_
                    refine lv_if_le (tgt := 171) hx hb dX3_settle_155 (by decide) (fun c_25 => ?_) (fun c_25 => ?_)
                    · have c_25B := Int32.not_lt.mpr c_25
                      refine lv_iload hx hb dX3_settle_171 (lv_at hl 0 rfl) ?_
                      have ht9 : tSettle cn ar (nI j0) (nI j1) p2 = (0 : Int32) := by simp [tSettle, b_2, hnj0, b_4, hnj1, b_6, c_8, c_11, c_15, c_15B, c_18, c_18B, c_18R, c_18RB, c_21, c_21B, c_21R, c_21RB, c_24, c_24B, c_25, c_25B]
                      have ha9 : (((ar 20) j0) - p2) = ar 20 (nx (nI j0)) - p2 := by first | rfl | (simp only [sSettle, rUse, b_2, hnj0, b_4, hnj1, b_6, c_8, c_11, c_15, c_15B, c_18, c_18B, c_18R, c_18RB, c_21, c_21B, c_21R, c_21RB, c_24, c_24B, c_25, c_25B]; done) | (simp only [sSettle, rUse, b_2, hnj0, b_4, hnj1, b_6, c_8, c_11, c_15, c_15B, c_18, c_18B, c_18R, c_18RB, c_21, c_21B, c_21R, c_21RB, c_24, c_24B, c_25, c_25B]; rfl) | simp [sSettle, rUse, b_2, hnj0, b_4, hnj1, b_6, c_8, c_11, c_15, c_15B, c_18, c_18B, c_18R, c_18RB, c_21, c_21B, c_21R, c_21RB, c_24, c_24B, c_25, c_25B]
                      have er9 : (sSettle cn ar (nI j0) (nI j1) p2).2 = (va_up (va_up ar 21 (upd (ar 21) j0 1)) 10 (upd (ar 10) j1 (((ar 10) j1) + p2))) := by first | rfl | (simp only [sSettle, rUse, b_2, hnj0, b_4, hnj1, b_6, c_8, c_11, c_15, c_15B, c_18, c_18B, c_18R, c_18RB, c_21, c_21B, c_21R, c_21RB, c_24, c_24B, c_25, c_25B]; done) | (simp only [sSettle, rUse, b_2, hnj0, b_4, hnj1, b_6, c_8, c_11, c_15, c_15B, c_18, c_18B, c_18R, c_18RB, c_21, c_21B, c_21R, c_21RB, c_24, c_24B, c_25, c_25B]; rfl) | simp [sSettle, rUse, b_2, hnj0, b_4, hnj1, b_6, c_8, c_11, c_15, c_15B, c_18, c_18B, c_18R, c_18RB, c_21, c_21B, c_21R, c_21RB, c_24, c_24B, c_25, c_25B]
                      have ec9 : (sSettle cn ar (nI j0) (nI j1) p2).1 = cn := by first | rfl | (simp only [sSettle, rUse, b_2, hnj0, b_4, hnj1, b_6, c_8, c_11, c_15, c_15B, c_18, c_18B, c_18R, c_18RB, c_21, c_21B, c_21R, c_21RB, c_24, c_24B, c_25, c_25B]; done) | (simp only [sSettle, rUse, b_2, hnj0, b_4, hnj1, b_6, c_8, c_11, c_15, c_15B, c_18, c_18B, c_18R, c_18RB, c_21, c_21B, c_21R, c_21RB, c_24, c_24B, c_25, c_25B]; rfl) | simp [sSettle, rUse, b_2, hnj0, b_4, hnj1, b_6, c_8, c_11, c_15, c_15B, c_18, c_18B, c_18R, c_18RB, c_21, c_21B, c_21R, c_21RB, c_24, c_24B, c_25, c_25B]
                      exact k_iret hx hb hr rfl hlocks hG hz hM hS (Nat.le_of_ble_eq_true rfl) (Nat.le_of_ble_eq_true rfl) dX3_settle_173 ⟨_, rfl, mPost.ok ht9 ha9 (by rw [ec9, er9]; exact hPm) hfr⟩
                    · have c_25B := Int32.not_le.mp c_25
                      refine lv_aload_n hx hb dX3_settle_158 rfl (lv_at hl 1 rfl) ?_
                      refine lv_aload_n hx hb dX3_settle_159 rfl (lv_at hl 1 rfl) ?_
                      refine r_get (ci := 7) hF in_X3 hG hM hPm.1 rfl 2 (by decide) q759 (fun _ h => h) (.int (nI (cn 4))) rfl dX3_settle_160 ?_
                      refine lv_iconst (v := 0) hx hb dX3_settle_163 (by decide) ?_
                      refine lv_iconst (v := 1) hx hb dX3_settle_164 (by decide) ?_
                      refine lv_iload hx hb dX3_settle_165 (lv_at hl 0 rfl) ?_
                      refine kV (k9 := 0) (n9 := 0) hF hG hz hM hS [.int (nI (cn 4)), .int 0, .int 1, .int (((ar 20) j0) - p2)] [] (metX3_enters hPm (nI (cn 4)) 0 1 (((ar 20) j0) - p2) (show (cn 1) < 120 by omega)) (cwV 4 hts (lw_V q865 q867 qs10 q27 q868) rfl rfl rfl (by decide +kernel) ⟨(Nat.le_of_ble_eq_true rfl), (Nat.le_of_ble_eq_true rfl)⟩) (k_recv hG hM hPm.1 (ci := 7) rfl) rfl hl.1 rfl (Nat.le_of_ble_eq_true rfl) dX3_settle_167 rfl rfl (Nat.le_of_ble_eq_true rfl) (Nat.le_of_ble_eq_true rfl) (fun _ _ _ _ _ h9 _ _ _ _ _ => h9.elim) (fun v9 M9_9 H locs hp9 hM9_9 hS => ?_)
                      obtain ⟨r_26, rfl, r_26_e, hPm, hfr9⟩ := hp9
                      have hM := hM9_9
                      have hfr := hfr.tr hfr9
                      subst r_26_e
                      rw [show lateOf cn (nI (cn 4)) = 0 from lateOf_0 (Int32.le_refl _)] at hPm
                      refine W.eq (g2 := F0 m 170 ls [.int (nI (cn 1))]) rfl ?_
                      refine lv_pop hx hb dX3_settle_170 rfl ?_
                      refine lv_iload hx hb dX3_settle_171 (lv_at hl 0 rfl) ?_
                      have ht9 : tSettle cn ar (nI j0) (nI j1) p2 = (0 : Int32) := by simp [tSettle, b_2, hnj0, b_4, hnj1, b_6, c_8, c_11, c_15, c_15B, c_18, c_18B, c_18R, c_18RB, c_21, c_21B, c_21R, c_21RB, c_24, c_24B, c_25, c_25B]
                      have ha9 : (((ar 20) j0) - p2) = ar 20 (nx (nI j0)) - p2 := by first | rfl | (simp only [sSettle, rUse, b_2, hnj0, b_4, hnj1, b_6, c_8, c_11, c_15, c_15B, c_18, c_18B, c_18R, c_18RB, c_21, c_21B, c_21R, c_21RB, c_24, c_24B, c_25, c_25B]; done) | (simp only [sSettle, rUse, b_2, hnj0, b_4, hnj1, b_6, c_8, c_11, c_15, c_15B, c_18, c_18B, c_18R, c_18RB, c_21, c_21B, c_21R, c_21RB, c_24, c_24B, c_25, c_25B]; rfl) | simp [sSettle, rUse, b_2, hnj0, b_4, hnj1, b_6, c_8, c_11, c_15, c_15B, c_18, c_18B, c_18R, c_18RB, c_21, c_21B, c_21R, c_21RB, c_24, c_24B, c_25, c_25B]
                      have er9 : (sSettle cn ar (nI j0) (nI j1) p2).2 = (rEnters cn (va_up (va_up ar 21 (upd (ar 21) j0 1)) 10 (upd (ar 10) j1 (((ar 10) j1) + p2))) 0 0 1 (((ar 20) j0) - p2)) := by first | rfl | (simp only [sSettle, rUse, b_2, hnj0, b_4, hnj1, b_6, c_8, c_11, c_15, c_15B, c_18, c_18B, c_18R, c_18RB, c_21, c_21B, c_21R, c_21RB, c_24, c_24B, c_25, c_25B]; done) | (simp only [sSettle, rUse, b_2, hnj0, b_4, hnj1, b_6, c_8, c_11, c_15, c_15B, c_18, c_18B, c_18R, c_18RB, c_21, c_21B, c_21R, c_21RB, c_24, c_24B, c_25, c_25B]; rfl) | simp [sSettle, rUse, b_2, hnj0, b_4, hnj1, b_6, c_8, c_11, c_15, c_15B, c_18, c_18B, c_18R, c_18RB, c_21, c_21B, c_21R, c_21RB, c_24, c_24B, c_25, c_25B]
                      have ec9 : (sSettle cn ar (nI j0) (nI j1) p2).1 = (cUp cn 1) := by first | rfl | (simp only [sSettle, rUse, b_2, hnj0, b_4, hnj1, b_6, c_8, c_11, c_15, c_15B, c_18, c_18B, c_18R, c_18RB, c_21, c_21B, c_21R, c_21RB, c_24, c_24B, c_25, c_25B]; done) | (simp only [sSettle, rUse, b_2, hnj0, b_4, hnj1, b_6, c_8, c_11, c_15, c_15B, c_18, c_18B, c_18R, c_18RB, c_21, c_21B, c_21R, c_21RB, c_24, c_24B, c_25, c_25B]; rfl) | simp [sSettle, rUse, b_2, hnj0, b_4, hnj1, b_6, c_8, c_11, c_15, c_15B, c_18, c_18B, c_18R, c_18RB, c_21, c_21B, c_21R, c_21RB, c_24, c_24B, c_25, c_25B]
                      exact k_iret hx hb hr rfl hlocks hG hz hM hS (Nat.le_of_ble_eq_true rfl) (Nat.le_of_ble_eq_true rfl) dX3_settle_173 ⟨_, rfl, mPost.ok ht9 ha9 (by rw [ec9, er9]; exact hPm) hfr⟩
                  · have c_24B := Int32.not_le.mp c_24
                    refine lv_aload_n hx hb dX3_settle_141 rfl (lv_at hl 1 rfl) ?_
                    refine lv_aload_n hx hb dX3_settle_142 rfl (lv_at hl 1 rfl) ?_
                    refine r_get (ci := 7) hF in_X3 hG hM hPm.1 rfl 2 (by decide) q759 (fun _ h => h) (.int (nI (cn 4))) rfl dX3_settle_143 ?_
                    refine lv_iload_n hx hb dX3_settle_146 rfl (lv_at hl 3 rfl) ?_
                    refine lv_iconst (v := 1) hx hb dX3_settle_147 (by decide) ?_
                    refine lv_iload_n hx hb dX3_settle_148 rfl (lv_at hl 4 rfl) ?_
                    refine kV (k9 := 0) (n9 := 0) hF hG hz hM hS [.int (nI (cn 4)), .int (nI j1), .int 1, .int p2] [] (metX3_enters hPm (nI (cn 4)) (nI j1) 1 p2 (show (cn 1) < 120 by omega)) (cwV 4 hts (lw_V q865 q867 qs10 q27 q868) rfl rfl rfl (by decide +kernel) ⟨(Nat.le_of_ble_eq_true rfl), (Nat.le_of_ble_eq_true rfl)⟩) (k_recv hG hM hPm.1 (ci := 7) rfl) rfl hl.1 rfl (Nat.le_of_ble_eq_true rfl) dX3_settle_149 rfl rfl (Nat.le_of_ble_eq_true rfl) (Nat.le_of_ble_eq_true rfl) (fun _ _ _ _ _ h9 _ _ _ _ _ => h9.elim) (fun v9 M9_10 H locs hp9 hM9_10 hS => ?_)
                    obtain ⟨r_27, rfl, r_27_e, hPm, hfr9⟩ := hp9
                    have hM := hM9_10
                    have hfr := hfr.tr hfr9
                    subst r_27_e
                    rw [show lateOf cn (nI (cn 4)) = 0 from lateOf_0 (Int32.le_refl _)] at hPm
                    refine W.eq (g2 := F0 m 152 ls [.int (nI (cn 1))]) rfl ?_
                    refine lv_pop hx hb dX3_settle_152 rfl ?_
                    refine lv_iload hx hb dX3_settle_153 (lv_at hl 0 rfl) ?_
                    refine lv_if_le (tgt := 171) hx hb dX3_settle_155 (by decide) (fun c_28 => ?_) (fun c_28 => ?_)
                    · have c_28B := Int32.not_lt.mpr c_28
                      refine lv_iload hx hb dX3_settle_171 (lv_at hl 0 rfl) ?_
                      have ht9 : tSettle cn ar (nI j0) (nI j1) p2 = (0 : Int32) := by simp [tSettle, b_2, hnj0, b_4, hnj1, b_6, c_8, c_11, c_15, c_15B, c_18, c_18B, c_18R, c_18RB, c_21, c_21B, c_21R, c_21RB, c_24, c_24B, c_28, c_28B]
                      have ha9 : (((ar 20) j0) - p2) = ar 20 (nx (nI j0)) - p2 := by first | rfl | (simp only [sSettle, rUse, b_2, hnj0, b_4, hnj1, b_6, c_8, c_11, c_15, c_15B, c_18, c_18B, c_18R, c_18RB, c_21, c_21B, c_21R, c_21RB, c_24, c_24B, c_28, c_28B]; done) | (simp only [sSettle, rUse, b_2, hnj0, b_4, hnj1, b_6, c_8, c_11, c_15, c_15B, c_18, c_18B, c_18R, c_18RB, c_21, c_21B, c_21R, c_21RB, c_24, c_24B, c_28, c_28B]; rfl) | simp [sSettle, rUse, b_2, hnj0, b_4, hnj1, b_6, c_8, c_11, c_15, c_15B, c_18, c_18B, c_18R, c_18RB, c_21, c_21B, c_21R, c_21RB, c_24, c_24B, c_28, c_28B]
                      have er9 : (sSettle cn ar (nI j0) (nI j1) p2).2 = (rEnters cn (va_up (va_up ar 21 (upd (ar 21) j0 1)) 10 (upd (ar 10) j1 (((ar 10) j1) + p2))) 0 (nI j1) 1 p2) := by first | rfl | (simp only [sSettle, rUse, b_2, hnj0, b_4, hnj1, b_6, c_8, c_11, c_15, c_15B, c_18, c_18B, c_18R, c_18RB, c_21, c_21B, c_21R, c_21RB, c_24, c_24B, c_28, c_28B]; done) | (simp only [sSettle, rUse, b_2, hnj0, b_4, hnj1, b_6, c_8, c_11, c_15, c_15B, c_18, c_18B, c_18R, c_18RB, c_21, c_21B, c_21R, c_21RB, c_24, c_24B, c_28, c_28B]; rfl) | simp [sSettle, rUse, b_2, hnj0, b_4, hnj1, b_6, c_8, c_11, c_15, c_15B, c_18, c_18B, c_18R, c_18RB, c_21, c_21B, c_21R, c_21RB, c_24, c_24B, c_28, c_28B]
                      have ec9 : (sSettle cn ar (nI j0) (nI j1) p2).1 = (cUp cn 1) := by first | rfl | (simp only [sSettle, rUse, b_2, hnj0, b_4, hnj1, b_6, c_8, c_11, c_15, c_15B, c_18, c_18B, c_18R, c_18RB, c_21, c_21B, c_21R, c_21RB, c_24, c_24B, c_28, c_28B]; done) | (simp only [sSettle, rUse, b_2, hnj0, b_4, hnj1, b_6, c_8, c_11, c_15, c_15B, c_18, c_18B, c_18R, c_18RB, c_21, c_21B, c_21R, c_21RB, c_24, c_24B, c_28, c_28B]; rfl) | simp [sSettle, rUse, b_2, hnj0, b_4, hnj1, b_6, c_8, c_11, c_15, c_15B, c_18, c_18B, c_18R, c_18RB, c_21, c_21B, c_21R, c_21RB, c_24, c_24B, c_28, c_28B]
                      exact k_iret hx hb hr rfl hlocks hG hz hM hS (Nat.le_of_ble_eq_true rfl) (Nat.le_of_ble_eq_true rfl) dX3_settle_173 ⟨_, rfl, mPost.ok ht9 ha9 (by rw [ec9, er9]; exact hPm) hfr⟩
                    · have c_28B := Int32.not_le.mp c_28
                      refine lv_aload_n hx hb dX3_settle_158 rfl (lv_at hl 1 rfl) ?_
                      refine lv_aload_n hx hb dX3_settle_159 rfl (lv_at hl 1 rfl) ?_
                      refine r_get (ci := 7) hF in_X3 hG hM hPm.1 rfl 2 (by decide) q759 (fun _ h => h) (.int (nI (cn 4))) rfl dX3_settle_160 ?_
                      refine lv_iconst (v := 0) hx hb dX3_settle_163 (by decide) ?_
                      refine lv_iconst (v := 1) hx hb dX3_settle_164 (by decide) ?_
                      refine lv_iload hx hb dX3_settle_165 (lv_at hl 0 rfl) ?_
                      refine kV (k9 := 0) (n9 := 0) hF hG hz hM hS [.int (nI (cn 4)), .int 0, .int 1, .int (((ar 20) j0) - p2)] [] (metX3_enters hPm (nI (cn 4)) 0 1 (((ar 20) j0) - p2) (show ((cn 1) + 1) < 120 by omega)) (cwV 4 hts (lw_V q865 q867 qs10 q27 q868) rfl rfl rfl (by decide +kernel) ⟨(Nat.le_of_ble_eq_true rfl), (Nat.le_of_ble_eq_true rfl)⟩) (k_recv hG hM hPm.1 (ci := 7) rfl) rfl hl.1 rfl (Nat.le_of_ble_eq_true rfl) dX3_settle_167 rfl rfl (Nat.le_of_ble_eq_true rfl) (Nat.le_of_ble_eq_true rfl) (fun _ _ _ _ _ h9 _ _ _ _ _ => h9.elim) (fun v9 M9_11 H locs hp9 hM9_11 hS => ?_)
                      obtain ⟨r_29, rfl, r_29_e, hPm, hfr9⟩ := hp9
                      have hM := hM9_11
                      have hfr := hfr.tr hfr9
                      subst r_29_e
                      rw [show lateOf (cUp cn 1) (nI (cn 4)) = 0 from lateOf_0 (Int32.le_refl _)] at hPm
                      refine W.eq (g2 := F0 m 170 ls [.int (nI ((cn 1) + 1))]) rfl ?_
                      refine lv_pop hx hb dX3_settle_170 rfl ?_
                      refine lv_iload hx hb dX3_settle_171 (lv_at hl 0 rfl) ?_
                      have ht9 : tSettle cn ar (nI j0) (nI j1) p2 = (0 : Int32) := by simp [tSettle, b_2, hnj0, b_4, hnj1, b_6, c_8, c_11, c_15, c_15B, c_18, c_18B, c_18R, c_18RB, c_21, c_21B, c_21R, c_21RB, c_24, c_24B, c_28, c_28B]
                      have ha9 : (((ar 20) j0) - p2) = ar 20 (nx (nI j0)) - p2 := by first | rfl | (simp only [sSettle, rUse, b_2, hnj0, b_4, hnj1, b_6, c_8, c_11, c_15, c_15B, c_18, c_18B, c_18R, c_18RB, c_21, c_21B, c_21R, c_21RB, c_24, c_24B, c_28, c_28B]; done) | (simp only [sSettle, rUse, b_2, hnj0, b_4, hnj1, b_6, c_8, c_11, c_15, c_15B, c_18, c_18B, c_18R, c_18RB, c_21, c_21B, c_21R, c_21RB, c_24, c_24B, c_28, c_28B]; rfl) | simp [sSettle, rUse, b_2, hnj0, b_4, hnj1, b_6, c_8, c_11, c_15, c_15B, c_18, c_18B, c_18R, c_18RB, c_21, c_21B, c_21R, c_21RB, c_24, c_24B, c_28, c_28B]
                      have er9 : (sSettle cn ar (nI j0) (nI j1) p2).2 = (rEnters (cUp cn 1) (rEnters cn (va_up (va_up ar 21 (upd (ar 21) j0 1)) 10 (upd (ar 10) j1 (((ar 10) j1) + p2))) 0 (nI j1) 1 p2) 0 0 1 (((ar 20) j0) - p2)) := by first | rfl | (simp only [sSettle, rUse, b_2, hnj0, b_4, hnj1, b_6, c_8, c_11, c_15, c_15B, c_18, c_18B, c_18R, c_18RB, c_21, c_21B, c_21R, c_21RB, c_24, c_24B, c_28, c_28B]; done) | (simp only [sSettle, rUse, b_2, hnj0, b_4, hnj1, b_6, c_8, c_11, c_15, c_15B, c_18, c_18B, c_18R, c_18RB, c_21, c_21B, c_21R, c_21RB, c_24, c_24B, c_28, c_28B]; rfl) | simp [sSettle, rUse, b_2, hnj0, b_4, hnj1, b_6, c_8, c_11, c_15, c_15B, c_18, c_18B, c_18R, c_18RB, c_21, c_21B, c_21R, c_21RB, c_24, c_24B, c_28, c_28B]
                      have ec9 : (sSettle cn ar (nI j0) (nI j1) p2).1 = (cUp (cUp cn 1) 1) := by first | rfl | (simp only [sSettle, rUse, b_2, hnj0, b_4, hnj1, b_6, c_8, c_11, c_15, c_15B, c_18, c_18B, c_18R, c_18RB, c_21, c_21B, c_21R, c_21RB, c_24, c_24B, c_28, c_28B]; done) | (simp only [sSettle, rUse, b_2, hnj0, b_4, hnj1, b_6, c_8, c_11, c_15, c_15B, c_18, c_18B, c_18R, c_18RB, c_21, c_21B, c_21R, c_21RB, c_24, c_24B, c_28, c_28B]; rfl) | simp [sSettle, rUse, b_2, hnj0, b_4, hnj1, b_6, c_8, c_11, c_15, c_15B, c_18, c_18B, c_18R, c_18RB, c_21, c_21B, c_21R, c_21RB, c_24, c_24B, c_28, c_28B]
                      exact k_iret hx hb hr rfl hlocks hG hz hM hS (Nat.le_of_ble_eq_true rfl) (Nat.le_of_ble_eq_true rfl) dX3_settle_173 ⟨_, rfl, mPost.ok ht9 ha9 (by rw [ec9, er9]; exact hPm) hfr⟩
                · have c_21R := c_21
                  have c_21 : ¬ ((cn 1) ≤ 118) := fun h9 => c_21R ((nI_leI (a := (cn 1)) (b := 118) (by omega) (by omega)).mpr h9)
                  have c_21B : 118 < (cn 1) := by omega
                  have c_21RB := Int32.not_le.mp c_21R
                  refine lv_aload_n hx hb dX3_settle_104 rfl (lv_at hl 0 rfl) ?_
                  refine lv_iconst (v := 3) hx hb dX3_settle_105 (by decide) ?_
                  refine kV (k9 := 0) (n9 := 0) hF hG hz hM hS [.int 3] [] (metX3_fails hPm 3) (cwV 1 hts (lw_V q917 q919 qs14 q27 q920) rfl rfl rfl (by decide +kernel) ⟨(Nat.le_of_ble_eq_true rfl), (Nat.le_of_ble_eq_true rfl)⟩) (k_recv hG hM hPm.1 (ci := 7) rfl) rfl hl.1 rfl (Nat.le_of_ble_eq_true rfl) dX3_settle_106 rfl rfl (Nat.le_of_ble_eq_true rfl) (Nat.le_of_ble_eq_true rfl) (fun _ _ _ _ _ h9 _ _ _ _ _ => h9.elim) (fun v9 M9_12 H locs hp9 hM9_12 hS => ?_)
                  obtain ⟨r_30, rfl, r_30_e, hPm, hfr9⟩ := hp9
                  have hM := hM9_12
                  have hfr := hfr.tr hfr9
                  subst r_30_e
                  refine W.eq (g2 := F0 m 109 ls [.int 0]) rfl ?_
                  have ht9 : tSettle cn ar (nI j0) (nI j1) p2 = (3 : Int32) := by simp [tSettle, b_2, hnj0, b_4, hnj1, b_6, c_8, c_11, c_15, c_15B, c_18, c_18B, c_18R, c_18RB, c_21, c_21B, c_21R, c_21RB]
                  exact k_iret hx hb hr rfl hlocks hG hz hM hS (Nat.le_of_ble_eq_true rfl) (Nat.le_of_ble_eq_true rfl) dX3_settle_109 ⟨_, rfl, mPost.bad ht9 (by decide) hPm hfr⟩
      · refine W.eq (g2 := F0 m 38 ls [.int 0, .ref m0]) rfl ?_
        refine lv_if_ne (tgt := 45) hx hb dX3_settle_38 (by decide) (fun c9 => absurd c9 (by decide)) (fun _ => ?_)
        refine lv_iconst (v := 2) hx hb dX3_settle_41 (by decide) ?_
        refine lv_goto (tgt := 46) hx hb dX3_settle_42 (by decide) ?_
        refine r_put (ci := 7) (ty := .int) (v := .int 2) hF in_X3 tyX3 tyX3_ok nmX3 hG hM hS hPm.1 rfl 28 (by decide) q785 (fun _ h => h) rfl (by decide +kernel) rfl rfl (Nat.le_of_ble_eq_true rfl) dX3_settle_46 (fun H locs hM hS => ?_)
        obtain ⟨M_32, hM, hPm, hfr⟩ := PicM.stepF (cn' := cn) (lim' := lim) (th' := 2) hPm hfr hM
        refine lv_aload_n hx hb dX3_settle_49 rfl (lv_at hl 0 rfl) ?_
        refine r_get (ci := 7) hF in_X3 hG hM hPm.1 rfl 28 (by decide) q785 (fun _ h => h) (.int 2) rfl dX3_settle_50 ?_
        refine lv_if_le (tgt := 58) hx hb dX3_settle_53 (by decide) (fun c9 => absurd c9 (by decide)) (fun _ => ?_)
        refine lv_iconst (v := 0) hx hb dX3_settle_56 (by decide) ?_
        have ht9 : tSettle cn ar (nI j0) (nI j1) p2 = (2 : Int32) := by simp [tSettle, b_2, hnj0, b_4, hnj1, b_6]
        exact k_iret hx hb hr rfl hlocks hG hz hM hS (Nat.le_of_ble_eq_true rfl) (Nat.le_of_ble_eq_true rfl) dX3_settle_57 ⟨_, rfl, mPost.bad ht9 (by decide) hPm hfr⟩
    · refine W.eq (g2 := F0 m 20 ls [.int 0, .ref m0]) rfl ?_
      refine lv_if_ne (tgt := 27) hx hb dX3_settle_20 (by decide) (fun c9 => absurd c9 (by decide)) (fun _ => ?_)
      refine lv_iconst (v := 1) hx hb dX3_settle_23 (by decide) ?_
      refine lv_goto (tgt := 46) hx hb dX3_settle_24 (by decide) ?_
      refine r_put (ci := 7) (ty := .int) (v := .int 1) hF in_X3 tyX3 tyX3_ok nmX3 hG hM hS hPm.1 rfl 28 (by decide) q785 (fun _ h => h) rfl (by decide +kernel) rfl rfl (Nat.le_of_ble_eq_true rfl) dX3_settle_46 (fun H locs hM hS => ?_)
      obtain ⟨M_33, hM, hPm, hfr⟩ := PicM.stepF (cn' := cn) (lim' := lim) (th' := 1) hPm hfr hM
      refine lv_aload_n hx hb dX3_settle_49 rfl (lv_at hl 0 rfl) ?_
      refine r_get (ci := 7) hF in_X3 hG hM hPm.1 rfl 28 (by decide) q785 (fun _ h => h) (.int 1) rfl dX3_settle_50 ?_
      refine lv_if_le (tgt := 58) hx hb dX3_settle_53 (by decide) (fun c9 => absurd c9 (by decide)) (fun _ => ?_)
      refine lv_iconst (v := 0) hx hb dX3_settle_56 (by decide) ?_
      have ht9 : tSettle cn ar (nI j0) p1 p2 = (1 : Int32) := by simp [tSettle, b_2, hnj0, b_4]
      exact k_iret hx hb hr rfl hlocks hG hz hM hS (Nat.le_of_ble_eq_true rfl) (Nat.le_of_ble_eq_true rfl) dX3_settle_57 ⟨_, rfl, mPost.bad ht9 (by decide) hPm hfr⟩
  · refine W.eq (g2 := F0 m 12 ls [.int 0, .ref m0]) rfl ?_
    refine lv_if_eq (tgt := 23) hx hb dX3_settle_12 (by decide) (fun _ => ?_) (fun c9 => absurd (by decide) c9)
    refine lv_iconst (v := 1) hx hb dX3_settle_23 (by decide) ?_
    refine lv_goto (tgt := 46) hx hb dX3_settle_24 (by decide) ?_
    refine r_put (ci := 7) (ty := .int) (v := .int 1) hF in_X3 tyX3 tyX3_ok nmX3 hG hM hS hPm.1 rfl 28 (by decide) q785 (fun _ h => h) rfl (by decide +kernel) rfl rfl (Nat.le_of_ble_eq_true rfl) dX3_settle_46 (fun H locs hM hS => ?_)
    obtain ⟨M_34, hM, hPm, hfr⟩ := PicM.stepF (cn' := cn) (lim' := lim) (th' := 1) hPm hfr hM
    refine lv_aload_n hx hb dX3_settle_49 rfl (lv_at hl 0 rfl) ?_
    refine r_get (ci := 7) hF in_X3 hG hM hPm.1 rfl 28 (by decide) q785 (fun _ h => h) (.int 1) rfl dX3_settle_50 ?_
    refine lv_if_le (tgt := 58) hx hb dX3_settle_53 (by decide) (fun c9 => absurd c9 (by decide)) (fun _ => ?_)
    refine lv_iconst (v := 0) hx hb dX3_settle_56 (by decide) ?_
    have ht9 : tSettle cn ar p0 p1 p2 = (1 : Int32) := by simp [tSettle, b_2]
    exact k_iret hx hb hr rfl hlocks hG hz hM hS (Nat.le_of_ble_eq_true rfl) (Nat.le_of_ble_eq_true rfl) dX3_settle_57 ⟨_, rfl, mPost.bad ht9 (by decide) hPm hfr⟩
set_option maxHeartbeats 4000000 in
set_option maxRecDepth 100000 in
theorem metX3_refuse {l : Launch} {z : Nat} {E : EE} {M : MM} {m0 : Nat} {aa : Nat → Nat} {cn : Nat → Nat} {lim th : Int32} {ar : Nat → Nat → Int32} (hPm : PicM E M m0 aa cn lim th ar) (hW : WF cn lim ar) (p0 : Int32) : Kt l yX3_refuse (ws_ yX3_refuse cX3_refuse 4 (some .int)) ({ frames := 50, cells := 0, slots := 0, locals := 1500 } : Room) z E [.ref m0, .int p0] M (pI (fun r M' => ∃ bf : Nat → Int32, mPost E M m0 aa (tRefuse cn ar p0) (nI (refF (cn 2) lim ar (rRefuse ar p0) (nx p0) (cn 2))) cn lim ar (cn) (lim) (va_up (rRefuse ar p0) 18 bf) r M')) xNo 0 0 := by
  refine k_body RX3 (by decide) rfl (Nat.le_of_ble_eq_true rfl) ?_
  intro p e s m args below meth c hx hb hr hml hown hlocks hname hno hts hz hG hM hS ls hl
  have hF : CallFix p m c cX3_refuse 4 s args lw_all RX3 := ⟨hx, hb, hml, hown, hts⟩
  have hl : lv_has ls 4 [(0, .ref m0), (1, .int p0)] := hl
  have hfr : Fr kM M M := Fr.rf
  have hwb := hW.b
  refine lv_aload_n hx hb dX3_refuse_0 rfl (lv_at hl 0 rfl) ?_
  refine lv_iload_n hx hb dX3_refuse_1 rfl (lv_at hl 1 rfl) ?_
  refine kV (k9 := 0) (n9 := 0) hF hG hz hM hS [.int p0] [] (metX3_isPayment hPm hW p0) (cwV 1 hts (lw_V q945 q947 qs16 q27 q948) rfl rfl rfl (by decide +kernel) ⟨(Nat.le_of_ble_eq_true rfl), (Nat.le_of_ble_eq_true rfl)⟩) (k_recv hG hM hPm.1 (ci := 7) rfl) rfl hl.1 rfl (Nat.le_of_ble_eq_true rfl) dX3_refuse_2 rfl rfl (Nat.le_of_ble_eq_true rfl) (Nat.le_of_ble_eq_true rfl) (fun _ _ _ _ _ h9 _ _ _ _ _ => h9.elim) (fun v9 M9_1 H locs hp9 hM9_1 hS => ?_)
  obtain ⟨r_1, rfl, hq9, hfr9⟩ := hp9
  have hM := hM9_1
  have hfr := hfr.tr hfr9
  rcases hq9 with ⟨b_2, rfl, hPm⟩ | ⟨b_2, rfl, hPm⟩
  · refine W.eq (g2 := F0 m 5 ls [.int 1]) rfl ?_
    obtain ⟨j0, hj0, rfl⟩ := inB_ex b_2 (by omega)
    have hnj0 : nx (nI j0) = j0 := nI_clamp (by omega)
    refine lv_if_ne (tgt := 10) hx hb dX3_refuse_5 (by decide) (fun _ => ?_) (fun c9 => absurd c9 (by decide))
    refine lv_aload_n hx hb dX3_refuse_10 rfl (lv_at hl 0 rfl) ?_
    refine r_get (ci := 7) hF in_X3 hG hM hPm.1 rfl 21 (by decide) q778 (fun _ h => h) (.ref (aa 16)) rfl dX3_refuse_11 ?_
    refine lv_iload_n hx hb dX3_refuse_14 rfl (lv_at hl 1 rfl) ?_
    refine r_ialdN (n := 40) (f := (ar 16)) j0 hF hG hM hPm.a16 (by omega) (by decide) rfl dX3_refuse_15 ?_
    refine lv_if_eq (tgt := 25) hx hb dX3_refuse_16 (by decide) (fun c_3 => ?_) (fun c_3 => ?_)
    · refine lv_iconst (v := 0) hx hb dX3_refuse_25 (by decide) ?_
      refine lv_istore_n (lv' := [(2, .int 0), (0, .ref m0), (1, .int (nI j0))]) hx hb dX3_refuse_26 rfl hl (by decide) rfl (fun ls hl => ?_)
      have loop : ∀ (n k : Nat), k ≤ cn 2 → cn 2 - k < n → ∀ (M1 : MM) (bf : Nat → Int32) (H : Heap) (locs : List Loc), Mod z E M1 H → va_S (zA z) s.heap H locs → PicM E M1 m0 aa cn lim 0 (va_up ar 18 bf) → Fr kM M M1 → (∀ i, i < k → bf i = if spl (cn 2) lim ar i = true then 1 else 0) → ∀ (ls : Array Slot), lv_has ls 4 [(2, .int (nI k)), (0, .ref m0), (1, .int (nI j0))] → W p l e ({ frames := 50, cells := 0, slots := 0, locals := 1500 } : Room) s m args below meth c H locs 0 0 (vx_MQ below (Qg z E (pI (fun r M' => ∃ bf : Nat → Int32, mPost E M m0 aa (tRefuse cn ar (nI j0)) (nI (refF (cn 2) lim ar (rRefuse ar (nI j0)) (nx (nI j0)) (cn 2))) cn lim ar (cn) (lim) (va_up (rRefuse ar (nI j0)) 18 bf) r M'))) (XCm z E M xNo) args s 0 0 (zA z)) (F0 m 27 ls []) := by
        intro n
        induction n with
        | zero => intro k h1 h2; omega
        | succ n ih =>
          intro k hk1 hk2 M1 bf H locs hM hS hPm hfr hbf ls hl
          refine lv_iload_n hx hb dX3_refuse_27 rfl (lv_at hl 0 rfl) ?_
          refine lv_aload_n hx hb dX3_refuse_28 rfl (lv_at hl 1 rfl) ?_
          refine r_get (ci := 7) hF in_X3 hG hM hPm.1 rfl 15 (by decide) q772 (fun _ h => h) (.int (nI (cn 2))) rfl dX3_refuse_29 ?_
          refine lv_icmp_ge (tgt := 60) hx hb dX3_refuse_32 (by decide) (fun c_4 => ?_) (fun c_4 => ?_)
          · have c_4R := c_4
            have c_4 : (cn 2) ≤ k := (nI_leI (a := (cn 2)) (b := k) (by omega) (by omega)).mp c_4R
            have c_4B : ¬ (k < (cn 2)) := by omega
            have c_4RB := Int32.not_lt.mpr c_4R
            have e8 : k = cn 2 := by omega
            subst e8
            refine lv_aload_n hx hb dX3_refuse_60 rfl (lv_at hl 1 rfl) ?_
            refine r_get (ci := 7) hF in_X3 hG hM hPm.1 rfl 21 (by decide) q778 (fun _ h => h) (.ref (aa 16)) rfl dX3_refuse_61 ?_
            refine lv_iload_n hx hb dX3_refuse_64 rfl (lv_at hl 2 rfl) ?_
            refine lv_iconst (v := 2) hx hb dX3_refuse_65 (by decide) ?_
            refine r_iast (n := 40) (f := (ar 16)) j0 hF hG hM hS hPm.a16 (by omega) (by decide) rfl dX3_refuse_66 (fun H locs hM hS => ?_)
            obtain ⟨M_5, hM, hPm, hfr⟩ := PicM.stepA 16 (by decide) hPm hfr hM
            refine lv_iconst (v := 0) hx hb dX3_refuse_67 (by decide) ?_
            refine lv_istore_n (lv' := [(2, .int 0), (0, .ref m0), (1, .int (nI j0))]) hx hb dX3_refuse_68 rfl hl (by decide) rfl (fun ls hl => ?_)
            refine lv_iconst (v := 0) hx hb dX3_refuse_69 (by decide) ?_
            refine lv_istore_n (lv' := [(3, .int 0), (2, .int 0), (0, .ref m0), (1, .int (nI j0))]) hx hb dX3_refuse_70 rfl hl (by decide) rfl (fun ls hl => ?_)
            have loop : ∀ (n k : Nat), k ≤ (cn 2) → (cn 2) - k < n → ∀ (H : Heap) (locs : List Loc), Mod z E M_5 H → va_S (zA z) s.heap H locs → ∀ (ls : Array Slot), lv_has ls 4 [(3, .int (nI k)), (2, .int (nI (refF (cn 2) lim ar (rRefuse ar (nI j0)) j0 k))), (0, .ref m0), (1, .int (nI j0))] → W p l e ({ frames := 50, cells := 0, slots := 0, locals := 1500 } : Room) s m args below meth c H locs 0 0 (vx_MQ below (Qg z E (pI (fun r M' => ∃ bf : Nat → Int32, mPost E M m0 aa (tRefuse cn ar (nI j0)) (nI (refF (cn 2) lim ar (rRefuse ar (nI j0)) (nx (nI j0)) (cn 2))) cn lim ar (cn) (lim) (va_up (rRefuse ar (nI j0)) 18 bf) r M'))) (XCm z E M xNo) args s 0 0 (zA z)) (F0 m 71 ls []) := by
              intro n
              induction n with
              | zero => intro k h1 h2; omega
              | succ n ih =>
                intro k hk1 hk2 H locs hM hS ls hl
                refine lv_iload_n hx hb dX3_refuse_71 rfl (lv_at hl 0 rfl) ?_
                refine lv_aload_n hx hb dX3_refuse_72 rfl (lv_at hl 2 rfl) ?_
                refine r_get (ci := 7) hF in_X3 hG hM hPm.1 rfl 15 (by decide) q772 (fun _ h => h) (.int (nI (cn 2))) rfl dX3_refuse_73 ?_
                refine lv_icmp_ge (tgt := 116) hx hb dX3_refuse_76 (by decide) (fun c_6 => ?_) (fun c_6 => ?_)
                · have c_6R := c_6
                  have c_6 : (cn 2) ≤ k := (nI_leI (a := (cn 2)) (b := k) (by omega) (by omega)).mp c_6R
                  have c_6B : ¬ (k < (cn 2)) := by omega
                  have c_6RB := Int32.not_lt.mpr c_6R
                  have e8 : k = cn 2 := by omega
                  subst e8
                  refine lv_iload_n hx hb dX3_refuse_116 rfl (lv_at hl 1 rfl) ?_
                  have ht9 : tRefuse cn ar (nI j0) = (0 : Int32) := by simp [tRefuse, b_2, hnj0, (eq_true c_3), c_6, c_6B, c_6R, c_6RB]
                  have er9 : va_up (rRefuse ar (nI j0)) 18 bf = (va_up (va_up ar 18 bf) 16 (upd (ar 16) j0 2)) := by unfold rRefuse; rw [hnj0]; exact va_up_comm (by decide)
                  exact k_iret hx hb hr rfl hlocks hG hz hM hS (Nat.le_of_ble_eq_true rfl) (Nat.le_of_ble_eq_true rfl) dX3_refuse_117 ⟨_, rfl, bf, mPost.ok ht9 (by rw [hnj0]) (by rw [er9]; exact hPm) hfr⟩
                · have c_6R := c_6
                  have c_6 : ¬ ((cn 2) ≤ k) := fun h9 => c_6R ((nI_leI (a := (cn 2)) (b := k) (by omega) (by omega)).mpr h9)
                  have c_6B : k < (cn 2) := by omega
                  have c_6RB := Int32.not_le.mp c_6R
                  refine lv_iload_n hx hb dX3_refuse_79 rfl (lv_at hl 1 rfl) ?_
                  refine lv_iload_n hx hb dX3_refuse_80 rfl (lv_at hl 0 rfl) ?_
                  refine lv_iload_n hx hb dX3_refuse_81 rfl (lv_at hl 3 rfl) ?_
                  refine lv_icmp_eq (tgt := 107) hx hb dX3_refuse_82 (by decide) (fun c_7 => ?_) (fun c_7 => ?_)
                  · have c_7R := c_7
                    have c_7 : k = j0 := (nI_eq (a := k) (b := j0) (by omega) (by omega)).mp c_7R
                    refine lv_iconst (v := 0) hx hb dX3_refuse_107 (by decide) ?_
                    refine lv_iadd hx hb dX3_refuse_108 ?_
                    rw [Int32.add_zero]
                    refine lv_istore_n (lv' := [(2, .int (nI (refF (cn 2) lim ar (rRefuse ar (nI j0)) j0 k))), (3, .int (nI k)), (0, .ref m0), (1, .int (nI j0))]) hx hb dX3_refuse_109 rfl hl (by decide) rfl (fun ls hl => ?_)
                    refine lv_iinc (v := (nI (k + 1))) (lv' := [(3, .int (nI (k + 1))), (2, .int (nI (refF (cn 2) lim ar (rRefuse ar (nI j0)) j0 k))), (0, .ref m0), (1, .int (nI j0))]) hx hb dX3_refuse_110 hl (k := 1) rfl (by rw [← nI_1]; rfl) (by decide) rfl (fun ls hl => ?_)
                    refine lv_goto (tgt := 71) hx hb dX3_refuse_113 (by decide) ?_
                    have e_8 : (nI (refF (cn 2) lim ar (rRefuse ar (nI j0)) j0 k)) = (nI (refF (cn 2) lim ar (rRefuse ar (nI j0)) j0 (k + 1))) := by first | rfl | (simp only [refF, b_2, hnj0, (eq_true c_3), c_6, c_6B, c_6R, c_6RB, (eq_true c_7), (eq_true c_7R)]; done) | (simp only [refF, b_2, hnj0, (eq_true c_3), c_6, c_6B, c_6R, c_6RB, (eq_true c_7), (eq_true c_7R)]; rfl) | simp [refF, b_2, hnj0, (eq_true c_3), c_6, c_6B, c_6R, c_6RB, (eq_true c_7), (eq_true c_7R)]
                    rw [e_8] at hl
                    exact ih (k + 1) (by omega) (by omega) _ _ hM hS ls (lv_sub hl [0, 1, 2, 3] rfl)
                  · have c_7R := c_7
                    have c_7 : ¬ (k = j0) := fun h9 => c_7R ((nI_eq (a := k) (b := j0) (by omega) (by omega)).mpr h9)
                    refine lv_aload_n hx hb dX3_refuse_85 rfl (lv_at hl 2 rfl) ?_
                    refine r_get (ci := 7) hF in_X3 hG hM hPm.1 rfl 23 (by decide) q780 (fun _ h => h) (.ref (aa 18)) rfl dX3_refuse_86 ?_
                    refine lv_iload_n hx hb dX3_refuse_89 rfl (lv_at hl 0 rfl) ?_
                    refine r_ialdN (n := 40) (f := bf) k hF hG hM hPm.a18 (by omega) (by decide) rfl dX3_refuse_90 ?_
                    refine lv_iconst (v := 1) hx hb dX3_refuse_91 (by decide) ?_
                    refine lv_icmp_ne (tgt := 107) hx hb dX3_refuse_92 (by decide) (fun c_9 => ?_) (fun c_9 => ?_)
                    · have b_10 := bfl0 (hbf k (by omega)) c_9
                      refine lv_iconst (v := 0) hx hb dX3_refuse_107 (by decide) ?_
                      refine lv_iadd hx hb dX3_refuse_108 ?_
                      rw [Int32.add_zero]
                      refine lv_istore_n (lv' := [(2, .int (nI (refF (cn 2) lim ar (rRefuse ar (nI j0)) j0 k))), (3, .int (nI k)), (0, .ref m0), (1, .int (nI j0))]) hx hb dX3_refuse_109 rfl hl (by decide) rfl (fun ls hl => ?_)
                      refine lv_iinc (v := (nI (k + 1))) (lv' := [(3, .int (nI (k + 1))), (2, .int (nI (refF (cn 2) lim ar (rRefuse ar (nI j0)) j0 k))), (0, .ref m0), (1, .int (nI j0))]) hx hb dX3_refuse_110 hl (k := 1) rfl (by rw [← nI_1]; rfl) (by decide) rfl (fun ls hl => ?_)
                      refine lv_goto (tgt := 71) hx hb dX3_refuse_113 (by decide) ?_
                      have e_11 : (nI (refF (cn 2) lim ar (rRefuse ar (nI j0)) j0 k)) = (nI (refF (cn 2) lim ar (rRefuse ar (nI j0)) j0 (k + 1))) := by first | rfl | (simp only [refF, b_2, hnj0, (eq_true c_3), c_6, c_6B, c_6R, c_6RB, c_7, c_7R, c_9, b_10]; done) | (simp only [refF, b_2, hnj0, (eq_true c_3), c_6, c_6B, c_6R, c_6RB, c_7, c_7R, c_9, b_10]; rfl) | simp [refF, b_2, hnj0, (eq_true c_3), c_6, c_6B, c_6R, c_6RB, c_7, c_7R, c_9, b_10]
                      rw [e_11] at hl
                      exact ih (k + 1) (by omega) (by omega) _ _ hM hS ls (lv_sub hl [0, 1, 2, 3] rfl)
                    · have b_12 := bfl1 (hbf k (by omega)) c_9
                      refine lv_aload_n hx hb dX3_refuse_95 rfl (lv_at hl 2 rfl) ?_
                      refine lv_iload_n hx hb dX3_refuse_96 rfl (lv_at hl 0 rfl) ?_
                      refine kV (k9 := 0) (n9 := 0) hF hG hz hM hS [.int (nI k)] [.int (nI (refF (cn 2) lim ar (rRefuse ar (nI j0)) j0 k))] (metX3_splits hPm k (by omega) (by omega)) (cwV 1 hts (lw_V q937 q939 qs15 q27 q940) rfl rfl rfl (by decide +kernel) ⟨(Nat.le_of_ble_eq_true rfl), (Nat.le_of_ble_eq_true rfl)⟩) (k_recv hG hM hPm.1 (ci := 7) rfl) rfl hl.1 rfl (Nat.le_of_ble_eq_true rfl) dX3_refuse_97 rfl rfl (Nat.le_of_ble_eq_true rfl) (Nat.le_of_ble_eq_true rfl) (fun _ _ _ _ _ h9 _ _ _ _ _ => h9.elim) (fun v9 M9_2 H locs hp9 hM9_2 hS => ?_)
                      obtain ⟨r_13, rfl, b_14, rfl⟩ := hp9
                      have hM := hM9_2
                      rw [spl_congr (ar := (va_up (va_up ar 18 bf) 16 (upd (ar 16) j0 2))) (ar' := (rRefuse ar (nI j0))) rfl rfl rfl rfl (by show upd (ar 16) j0 2 = upd (ar 16) (nx (nI j0)) 2; rw [hnj0])] at b_14
                      rcases b_14 with ⟨b_14, rfl⟩ | ⟨b_14, rfl⟩
                      · refine W.eq (g2 := F0 m 100 ls [.int 1, .int (nI (refF (cn 2) lim ar (rRefuse ar (nI j0)) j0 k))]) rfl ?_
                        refine lv_if_ne (tgt := 107) hx hb dX3_refuse_100 (by decide) (fun _ => ?_) (fun c9 => absurd c9 (by decide))
                        refine lv_iconst (v := 0) hx hb dX3_refuse_107 (by decide) ?_
                        refine lv_iadd hx hb dX3_refuse_108 ?_
                        rw [Int32.add_zero]
                        refine lv_istore_n (lv' := [(2, .int (nI (refF (cn 2) lim ar (rRefuse ar (nI j0)) j0 k))), (3, .int (nI k)), (0, .ref m0), (1, .int (nI j0))]) hx hb dX3_refuse_109 rfl hl (by decide) rfl (fun ls hl => ?_)
                        refine lv_iinc (v := (nI (k + 1))) (lv' := [(3, .int (nI (k + 1))), (2, .int (nI (refF (cn 2) lim ar (rRefuse ar (nI j0)) j0 k))), (0, .ref m0), (1, .int (nI j0))]) hx hb dX3_refuse_110 hl (k := 1) rfl (by rw [← nI_1]; rfl) (by decide) rfl (fun ls hl => ?_)
                        refine lv_goto (tgt := 71) hx hb dX3_refuse_113 (by decide) ?_
                        have e_15 : (nI (refF (cn 2) lim ar (rRefuse ar (nI j0)) j0 k)) = (nI (refF (cn 2) lim ar (rRefuse ar (nI j0)) j0 (k + 1))) := by first | rfl | (simp only [refF, b_2, hnj0, (eq_true c_3), c_6, c_6B, c_6R, c_6RB, c_7, c_7R, (eq_true c_9), b_12, b_14]; done) | (simp only [refF, b_2, hnj0, (eq_true c_3), c_6, c_6B, c_6R, c_6RB, c_7, c_7R, (eq_true c_9), b_12, b_14]; rfl) | simp [refF, b_2, hnj0, (eq_true c_3), c_6, c_6B, c_6R, c_6RB, c_7, c_7R, (eq_true c_9), b_12, b_14]
                        rw [e_15] at hl
                        exact ih (k + 1) (by omega) (by omega) _ _ hM hS ls (lv_sub hl [0, 1, 2, 3] rfl)
                      · refine W.eq (g2 := F0 m 100 ls [.int 0, .int (nI (refF (cn 2) lim ar (rRefuse ar (nI j0)) j0 k))]) rfl ?_
                        refine lv_if_ne (tgt := 107) hx hb dX3_refuse_100 (by decide) (fun c9 => absurd c9 (by decide)) (fun _ => ?_)
                        refine lv_iconst (v := 1) hx hb dX3_refuse_103 (by decide) ?_
                        refine lv_goto (tgt := 108) hx hb dX3_refuse_104 (by decide) ?_
                        refine lv_iadd hx hb dX3_refuse_108 ?_
                        rw [nI_1]
                        refine lv_istore_n (lv' := [(2, .int (nI ((refF (cn 2) lim ar (rRefuse ar (nI j0)) j0 k) + 1))), (3, .int (nI k)), (0, .ref m0), (1, .int (nI j0))]) hx hb dX3_refuse_109 rfl hl (by decide) rfl (fun ls hl => ?_)
                        refine lv_iinc (v := (nI (k + 1))) (lv' := [(3, .int (nI (k + 1))), (2, .int (nI ((refF (cn 2) lim ar (rRefuse ar (nI j0)) j0 k) + 1))), (0, .ref m0), (1, .int (nI j0))]) hx hb dX3_refuse_110 hl (k := 1) rfl (by rw [← nI_1]; rfl) (by decide) rfl (fun ls hl => ?_)
                        refine lv_goto (tgt := 71) hx hb dX3_refuse_113 (by decide) ?_
                        have e_16 : (nI ((refF (cn 2) lim ar (rRefuse ar (nI j0)) j0 k) + 1)) = (nI (refF (cn 2) lim ar (rRefuse ar (nI j0)) j0 (k + 1))) := by first | rfl | (simp only [refF, b_2, hnj0, (eq_true c_3), c_6, c_6B, c_6R, c_6RB, c_7, c_7R, (eq_true c_9), b_12, b_14]; done) | (simp only [refF, b_2, hnj0, (eq_true c_3), c_6, c_6B, c_6R, c_6RB, c_7, c_7R, (eq_true c_9), b_12, b_14]; rfl) | simp [refF, b_2, hnj0, (eq_true c_3), c_6, c_6B, c_6R, c_6RB, c_7, c_7R, (eq_true c_9), b_12, b_14]
                        rw [e_16] at hl
                        exact ih (k + 1) (by omega) (by omega) _ _ hM hS ls (lv_sub hl [0, 1, 2, 3] rfl)
            exact loop ((cn 2) + 1) 0 (Nat.zero_le _) (by omega) _ _ hM hS ls (lv_sub hl [0, 1, 2, 3] rfl)
          · have c_4R := c_4
            have c_4 : ¬ ((cn 2) ≤ k) := fun h9 => c_4R ((nI_leI (a := (cn 2)) (b := k) (by omega) (by omega)).mpr h9)
            have c_4B : k < (cn 2) := by omega
            have c_4RB := Int32.not_le.mp c_4R
            refine lv_aload_n hx hb dX3_refuse_35 rfl (lv_at hl 1 rfl) ?_
            refine r_get (ci := 7) hF in_X3 hG hM hPm.1 rfl 23 (by decide) q780 (fun _ h => h) (.ref (aa 18)) rfl dX3_refuse_36 ?_
            refine lv_iload_n hx hb dX3_refuse_39 rfl (lv_at hl 0 rfl) ?_
            refine lv_aload_n hx hb dX3_refuse_40 rfl (lv_at hl 1 rfl) ?_
            refine lv_iload_n hx hb dX3_refuse_41 rfl (lv_at hl 0 rfl) ?_
            refine kV (k9 := 0) (n9 := 0) hF hG hz hM hS [.int (nI k)] [.int (nI k), .ref (aa 18)] (metX3_splits hPm k (by omega) (by omega)) (cwV 1 hts (lw_V q937 q939 qs15 q27 q940) rfl rfl rfl (by decide +kernel) ⟨(Nat.le_of_ble_eq_true rfl), (Nat.le_of_ble_eq_true rfl)⟩) (k_recv hG hM hPm.1 (ci := 7) rfl) rfl hl.1 rfl (Nat.le_of_ble_eq_true rfl) dX3_refuse_42 rfl rfl (Nat.le_of_ble_eq_true rfl) (Nat.le_of_ble_eq_true rfl) (fun _ _ _ _ _ h9 _ _ _ _ _ => h9.elim) (fun v9 M9_3 H locs hp9 hM9_3 hS => ?_)
            obtain ⟨r_17, rfl, b_18, rfl⟩ := hp9
            have hM := hM9_3
            rw [spl_congr (ar := (va_up ar 18 bf)) (ar' := ar) rfl rfl rfl rfl rfl] at b_18
            rcases b_18 with ⟨b_18, rfl⟩ | ⟨b_18, rfl⟩
            · refine W.eq (g2 := F0 m 45 ls [.int 1, .int (nI k), .ref (aa 18)]) rfl ?_
              refine lv_if_eq (tgt := 52) hx hb dX3_refuse_45 (by decide) (fun c9 => absurd c9 (by decide)) (fun _ => ?_)
              refine lv_iconst (v := 1) hx hb dX3_refuse_48 (by decide) ?_
              refine lv_goto (tgt := 53) hx hb dX3_refuse_49 (by decide) ?_
              refine r_iast (n := 40) (f := bf) k hF hG hM hS hPm.a18 (by omega) (by decide) rfl dX3_refuse_53 (fun H locs hM hS => ?_)
              obtain ⟨M_19, hM, hPm, hfr⟩ := PicM.stepA 18 (by decide) hPm hfr hM
              refine lv_iinc (v := (nI (k + 1))) (lv' := [(2, .int (nI (k + 1))), (0, .ref m0), (1, .int (nI j0))]) hx hb dX3_refuse_54 hl (k := 0) rfl (by rw [← nI_1]; rfl) (by decide) rfl (fun ls hl => ?_)
              refine lv_goto (tgt := 27) hx hb dX3_refuse_57 (by decide) ?_
              rw [bx_uu] at hPm
              have hbf9 : ∀ i, i < k + 1 → (upd bf k 1) i = if spl (cn 2) lim ar i = true then 1 else 0 := by
                intro i hi
                by_cases e9 : i = k
                · subst e9; rw [pk_us, b_18]; rfl
                · rw [pk_un e9]; exact hbf i (by omega)
              exact ih (k + 1) (by omega) (by omega) _ (upd bf k 1) _ _ hM hS hPm hfr hbf9 ls (lv_sub hl [0, 1, 2] rfl)
            · refine W.eq (g2 := F0 m 45 ls [.int 0, .int (nI k), .ref (aa 18)]) rfl ?_
              refine lv_if_eq (tgt := 52) hx hb dX3_refuse_45 (by decide) (fun _ => ?_) (fun c9 => absurd (by decide) c9)
              refine lv_iconst (v := 0) hx hb dX3_refuse_52 (by decide) ?_
              refine r_iast (n := 40) (f := bf) k hF hG hM hS hPm.a18 (by omega) (by decide) rfl dX3_refuse_53 (fun H locs hM hS => ?_)
              obtain ⟨M_20, hM, hPm, hfr⟩ := PicM.stepA 18 (by decide) hPm hfr hM
              refine lv_iinc (v := (nI (k + 1))) (lv' := [(2, .int (nI (k + 1))), (0, .ref m0), (1, .int (nI j0))]) hx hb dX3_refuse_54 hl (k := 0) rfl (by rw [← nI_1]; rfl) (by decide) rfl (fun ls hl => ?_)
              refine lv_goto (tgt := 27) hx hb dX3_refuse_57 (by decide) ?_
              rw [bx_uu] at hPm
              have hbf9 : ∀ i, i < k + 1 → (upd bf k 0) i = if spl (cn 2) lim ar i = true then 1 else 0 := by
                intro i hi
                by_cases e9 : i = k
                · subst e9; rw [pk_us, b_18]; rfl
                · rw [pk_un e9]; exact hbf i (by omega)
              exact ih (k + 1) (by omega) (by omega) _ (upd bf k 0) _ _ hM hS hPm hfr hbf9 ls (lv_sub hl [0, 1, 2] rfl)
      have har18 : va_up ar 18 (ar 18) = ar := by funext q; unfold va_up; by_cases e9 : q = 18 <;> simp [e9]
      exact loop (cn 2 + 1) 0 (Nat.zero_le _) (by omega) _ (ar 18) _ _ hM hS (by rw [har18]; exact hPm) hfr (fun i hi => absurd hi (Nat.not_lt_zero i)) ls (lv_sub hl [0, 1, 2] rfl)
    · refine lv_aload_n hx hb dX3_refuse_19 rfl (lv_at hl 0 rfl) ?_
      refine lv_iconst (v := 2) hx hb dX3_refuse_20 (by decide) ?_
      refine kV (k9 := 0) (n9 := 0) hF hG hz hM hS [.int 2] [] (metX3_fails hPm 2) (cwV 1 hts (lw_V q917 q919 qs14 q27 q920) rfl rfl rfl (by decide +kernel) ⟨(Nat.le_of_ble_eq_true rfl), (Nat.le_of_ble_eq_true rfl)⟩) (k_recv hG hM hPm.1 (ci := 7) rfl) rfl hl.1 rfl (Nat.le_of_ble_eq_true rfl) dX3_refuse_21 rfl rfl (Nat.le_of_ble_eq_true rfl) (Nat.le_of_ble_eq_true rfl) (fun _ _ _ _ _ h9 _ _ _ _ _ => h9.elim) (fun v9 M9_4 H locs hp9 hM9_4 hS => ?_)
      obtain ⟨r_21, rfl, r_21_e, hPm, hfr9⟩ := hp9
      have hM := hM9_4
      have hfr := hfr.tr hfr9
      subst r_21_e
      refine W.eq (g2 := F0 m 24 ls [.int 0]) rfl ?_
      have ht9 : tRefuse cn ar (nI j0) = (2 : Int32) := by simp [tRefuse, b_2, hnj0, c_3]
      exact k_iret hx hb hr rfl hlocks hG hz hM hS (Nat.le_of_ble_eq_true rfl) (Nat.le_of_ble_eq_true rfl) dX3_refuse_24 ⟨_, rfl, fun _ => 0, mPost.bad ht9 (by decide) hPm hfr⟩
  · refine W.eq (g2 := F0 m 5 ls [.int 0]) rfl ?_
    refine lv_if_ne (tgt := 10) hx hb dX3_refuse_5 (by decide) (fun c9 => absurd c9 (by decide)) (fun _ => ?_)
    refine lv_iconst (v := 0) hx hb dX3_refuse_8 (by decide) ?_
    have ht9 : tRefuse cn ar p0 = (1 : Int32) := by simp [tRefuse, b_2]
    exact k_iret hx hb hr rfl hlocks hG hz hM hS (Nat.le_of_ble_eq_true rfl) (Nat.le_of_ble_eq_true rfl) dX3_refuse_9 ⟨_, rfl, fun _ => 0, mPost.bad ht9 (by decide) hPm hfr⟩
