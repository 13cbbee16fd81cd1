/-! THE JDK, contract by contract (printed by gen_jdk.py) -/
set_option maxHeartbeats 4000000 in
set_option maxRecDepth 100000 in
theorem metJ3_newLength {l : Launch} {z : Nat} {E : EE} {M : MM} (a b d : Nat) (h1 : 1 ≤ a) (h2 : a ≤ 1000) (h3 : b ≤ 1000) (h4 : d ≤ 1000) : Kt l yJ3_newLength (ws_ yJ3_newLength cJ3_newLength 4 (some .int)) ({ frames := 20, cells := 0, slots := 0, locals := 600 } : Room) z E [.int (nI a), .int (nI b), .int (nI d)] M (pI (fun r M' => r = nI (a + max b d) ∧ M = M')) xNo 0 0 := by
  refine k_body RJ3 (by decide) rfl (Nat.le_of_ble_eq_true rfl) ?_
  intro p e s m args below meth c hx hb hr hml hown hlocks hname hno hts hz hG hM hS ls hl
  have hF : CallFix p m c cJ3_newLength 4 s args lw_all RJ3 := ⟨hx, hb, hml, hown, hts⟩
  have hl : lv_has ls 4 [(0, .int (nI a)), (1, .int (nI b)), (2, .int (nI d))] := hl
  refine lv_iload_n hx hb dJ3_newLength_0 rfl (lv_at hl 0 rfl) ?_
  refine lv_iload_n hx hb dJ3_newLength_1 rfl (lv_at hl 1 rfl) ?_
  refine lv_iload_n hx hb dJ3_newLength_2 rfl (lv_at hl 2 rfl) ?_
  refine va_mmax hx hb (hF.2.2.1.trans hl.1.symm) hown (hts _ q131) (hts _ q132) (hts _ q24) (hts _ q133) (Nat.le_of_ble_eq_true rfl) (Nat.le_of_ble_eq_true rfl) (Nat.le_of_ble_eq_true rfl) (Nat.le_of_ble_eq_true rfl) dJ3_newLength_3 ?_
  rw [nmax (a := b) (b := d) (by omega) (by omega)]
  refine lv_iadd hx hb dJ3_newLength_6 ?_
  rw [nadd]
  refine lv_istore_n (lv' := [(3, .int (nI (a + (max b d)))), (0, .int (nI a)), (1, .int (nI b)), (2, .int (nI d))]) hx hb dJ3_newLength_7 rfl hl (by decide) rfl (fun ls hl => ?_)
  refine lv_iconst (v := 0) hx hb dJ3_newLength_8 (by decide) ?_
  refine lv_iload_n hx hb dJ3_newLength_9 rfl (lv_at hl 0 rfl) ?_
  refine lv_icmp_ge (tgt := 21) hx hb dJ3_newLength_10 (by decide) (fun c_2 => ?_) (fun c_2 => ?_)
  · have c_2R := c_2
    have c_2 : (a + (max b d)) ≤ 0 := (nI_leI (a := (a + (max b d))) (b := 0) (by omega) (by omega)).mp c_2R
    have c_2B : ¬ (0 < (a + (max b d))) := by omega
    have c_2RB := Int32.not_lt.mpr c_2R
    exfalso; omega
  · have c_2R := c_2
    have c_2 : ¬ ((a + (max b d)) ≤ 0) := fun h9 => c_2R ((nI_leI (a := (a + (max b d))) (b := 0) (by omega) (by omega)).mpr h9)
    have c_2B : 0 < (a + (max b d)) := by omega
    have c_2RB := Int32.not_le.mp c_2R
    refine lv_iload_n hx hb dJ3_newLength_13 rfl (lv_at hl 0 rfl) ?_
    refine lv_ldc (v := 2147483639) hx hb hown (hts _ q134) dJ3_newLength_14 ?_
    refine lv_icmp_gt (tgt := 21) hx hb dJ3_newLength_16 (by decide) (fun c_3 => ?_) (fun c_3 => ?_)
    · have c_3R := c_3
      have c_3 : 2147483639 < (a + (max b d)) := (nI_ltI (a := 2147483639) (b := (a + (max b d))) (by omega) (by omega)).mp c_3R
      have c_3B : ¬ ((a + (max b d)) ≤ 2147483639) := by omega
      have c_3RB := Int32.not_le.mpr c_3R
      exfalso; omega
    · have c_3R := c_3
      have c_3 : ¬ (2147483639 < (a + (max b d))) := fun h9 => c_3R ((nI_ltI (a := 2147483639) (b := (a + (max b d))) (by omega) (by omega)).mpr h9)
      have c_3B : (a + (max b d)) ≤ 2147483639 := by omega
      have c_3RB := Int32.not_lt.mp c_3R
      refine lv_iload_n hx hb dJ3_newLength_19 rfl (lv_at hl 0 rfl) ?_
      exact k_iret hx hb hr rfl hlocks hG hz hM hS (Nat.le_of_ble_eq_true rfl) (Nat.le_of_ble_eq_true rfl) dJ3_newLength_20 ⟨_, rfl, rfl, rfl⟩
set_option maxHeartbeats 4000000 in
set_option maxRecDepth 100000 in
theorem metJ13_checkIndex {l : Launch} {z : Nat} {E : EE} {M : MM} (i n : Nat) (h1 : i < n) (h2 : n ≤ 1000) : Kt l yJ13_checkIndex (ws_ yJ13_checkIndex cJ13_checkIndex 3 (some .int)) ({ frames := 10, cells := 0, slots := 0, locals := 300 } : Room) z E [.int (nI i), .int (nI n), .null] M (pI (fun r M' => r = nI i ∧ M = M')) xNo 0 0 := by
  refine k_body RJ13 (by decide) rfl (Nat.le_of_ble_eq_true rfl) ?_
  intro p e s m args below meth c hx hb hr hml hown hlocks hname hno hts hz hG hM hS ls hl
  have hF : CallFix p m c cJ13_checkIndex 3 s args lw_all RJ13 := ⟨hx, hb, hml, hown, hts⟩
  have hl : lv_has ls 3 [(0, .int (nI i)), (1, .int (nI n)), (2, .null)] := hl
  refine lv_iload_n hx hb dJ13_checkIndex_0 rfl (lv_at hl 0 rfl) ?_
  refine lv_if_lt (tgt := 9) hx hb dJ13_checkIndex_1 (by decide) (fun c_1 => ?_) (fun c_1 => ?_)
  · have c_1R := c_1
    have c_1 : i < 0 := (nI_ltI (a := i) (b := 0) (by omega) (by omega)).mp c_1R
    have c_1B : ¬ (0 ≤ i) := by omega
    have c_1RB := Int32.not_le.mpr c_1R
    exfalso; omega
  · have c_1R := c_1
    have c_1 : ¬ (i < 0) := fun h9 => c_1R ((nI_ltI (a := i) (b := 0) (by omega) (by omega)).mpr h9)
    have c_1B : 0 ≤ i := by omega
    have c_1RB := Int32.not_lt.mp c_1R
    refine lv_iload_n hx hb dJ13_checkIndex_4 rfl (lv_at hl 0 rfl) ?_
    refine lv_iload_n hx hb dJ13_checkIndex_5 rfl (lv_at hl 1 rfl) ?_
    refine lv_icmp_lt (tgt := 16) hx hb dJ13_checkIndex_6 (by decide) (fun c_2 => ?_) (fun c_2 => ?_)
    · have c_2R := c_2
      have c_2 : i < n := (nI_ltI (a := i) (b := n) (by omega) (by omega)).mp c_2R
      have c_2B : ¬ (n ≤ i) := by omega
      have c_2RB := Int32.not_le.mpr c_2R
      refine lv_iload_n hx hb dJ13_checkIndex_16 rfl (lv_at hl 0 rfl) ?_
      exact k_iret hx hb hr rfl hlocks hG hz hM hS (Nat.le_of_ble_eq_true rfl) (Nat.le_of_ble_eq_true rfl) dJ13_checkIndex_17 ⟨_, rfl, rfl, rfl⟩
    · have c_2R := c_2
      have c_2 : ¬ (i < n) := fun h9 => c_2R ((nI_ltI (a := i) (b := n) (by omega) (by omega)).mpr h9)
      have c_2B : n ≤ i := by omega
      have c_2RB := Int32.not_lt.mp c_2R
      exfalso; omega
set_option maxHeartbeats 4000000 in
set_option maxRecDepth 100000 in
theorem metJ12_checkIndex {l : Launch} {z : Nat} {E : EE} {M : MM} (i n : Nat) (h1 : i < n) (h2 : n ≤ 1000) : Kt l yJ12_checkIndex (ws_ yJ12_checkIndex cJ12_checkIndex 2 (some .int)) ({ frames := 20, cells := 0, slots := 0, locals := 600 } : Room) z E [.int (nI i), .int (nI n)] M (pI (fun r M' => r = nI i ∧ M = M')) xNo 0 0 := by
  refine k_body RJ12 (by decide) rfl (Nat.le_of_ble_eq_true rfl) ?_
  intro p e s m args below meth c hx hb hr hml hown hlocks hname hno hts hz hG hM hS ls hl
  have hF : CallFix p m c cJ12_checkIndex 2 s args lw_all RJ12 := ⟨hx, hb, hml, hown, hts⟩
  have hl : lv_has ls 2 [(0, .int (nI i)), (1, .int (nI n))] := hl
  refine lv_iload_n hx hb dJ12_checkIndex_0 rfl (lv_at hl 0 rfl) ?_
  refine lv_iload_n hx hb dJ12_checkIndex_1 rfl (lv_at hl 1 rfl) ?_
  refine lv_null hx hb dJ12_checkIndex_2 ?_
  refine kS (k9 := 0) (n9 := 0) hF hG hz hM hS [.int (nI i), .int (nI n), .null] [] (metJ13_checkIndex i n (by omega) (by omega)) (va_cwS 3 hts (lw_S q324 q325 q35 q326) rfl rfl rfl (by decide +kernel) ⟨(Nat.le_of_ble_eq_true rfl), (Nat.le_of_ble_eq_true rfl)⟩) rfl hl.1 rfl (Nat.le_of_ble_eq_true rfl) dJ12_checkIndex_3 rfl rfl (Nat.le_of_ble_eq_true rfl) (Nat.le_of_ble_eq_true rfl) (fun _ _ _ _ _ h9 _ _ _ _ _ => h9.elim) (fun v9 M9_1 H locs hp9 hM9_1 hS => ?_)
  obtain ⟨r_1, rfl, r_1_e, rfl⟩ := hp9
  have hM := hM9_1
  subst r_1_e
  refine W.eq (g2 := F0 m 6 ls [.int (nI i)]) rfl ?_
  exact k_iret hx hb hr rfl hlocks hG hz hM hS (Nat.le_of_ble_eq_true rfl) (Nat.le_of_ble_eq_true rfl) dJ12_checkIndex_6 ⟨_, rfl, rfl, rfl⟩
set_option maxHeartbeats 4000000 in
set_option maxRecDepth 100000 in
theorem metJ2_size {l : Launch} {z : Nat} {E : EE} {M : MM} {q0 d0 n cap : Nat} {md : Int32} {g : Nat → Option Nat} (hq : M q0 = some (.inr (6, [.int md, .ref d0, .int (nI n)]))) : Kt l yJ2_size (ws_ yJ2_size cJ2_size 1 (some .int)) ({ frames := 10, cells := 0, slots := 0, locals := 300 } : Room) z E [.ref q0] M (pI (fun r M' => r = nI n ∧ M = M')) xNo 0 0 := by
  refine k_body RJ2 (by decide) rfl (Nat.le_of_ble_eq_true rfl) ?_
  intro p e s m args below meth c hx hb hr hml hown hlocks hname hno hts hz hG hM hS ls hl
  have hF : CallFix p m c cJ2_size 1 s args lw_all RJ2 := ⟨hx, hb, hml, hown, hts⟩
  have hl : lv_has ls 1 [(0, .ref q0)] := hl
  refine lv_aload_n hx hb dJ2_size_0 rfl (lv_at hl 0 rfl) ?_
  refine r_get (ci := 6) hF in_J2 hG hM hq rfl 2 (by decide) q68 (fun _ h => h) (.int (nI n)) rfl dJ2_size_1 ?_
  exact k_iret hx hb hr rfl hlocks hG hz hM hS (Nat.le_of_ble_eq_true rfl) (Nat.le_of_ble_eq_true rfl) dJ2_size_4 ⟨_, rfl, rfl, rfl⟩
set_option maxHeartbeats 4000000 in
set_option maxRecDepth 100000 in
theorem metJ2_elementData {l : Launch} {z : Nat} {E : EE} {M : MM} {q0 d0 n cap : Nat} {md : Int32} {g : Nat → Option Nat} (hq : M q0 = some (.inr (6, [.int md, .ref d0, .int (nI n)]))) (hd : M d0 = some (cO E cap g)) (i : Nat) {y : Nat} (hy : g i = some y) (h1 : i < n) (h2 : n ≤ cap) (h3 : cap ≤ 400) : Kt l yJ2_elementData (ws_ yJ2_elementData cJ2_elementData 2 (some (.object "java/lang/Object"))) ({ frames := 10, cells := 0, slots := 0, locals := 300 } : Room) z E [.ref q0, .int (nI i)] M (pA (fun r M' => r = y ∧ M = M')) xNo 0 0 := by
  refine k_body RJ2 (by decide) rfl (Nat.le_of_ble_eq_true rfl) ?_
  intro p e s m args below meth c hx hb hr hml hown hlocks hname hno hts hz hG hM hS ls hl
  have hF : CallFix p m c cJ2_elementData 2 s args lw_all RJ2 := ⟨hx, hb, hml, hown, hts⟩
  have hl : lv_has ls 2 [(0, .ref q0), (1, .int (nI i))] := hl
  refine lv_aload_n hx hb dJ2_elementData_0 rfl (lv_at hl 0 rfl) ?_
  refine r_get (ci := 6) hF in_J2 hG hM hq rfl 1 (by decide) q67 (fun _ h => h) (.ref d0) rfl dJ2_elementData_1 ?_
  refine lv_iload_n hx hb dJ2_elementData_4 rfl (lv_at hl 1 rfl) ?_
  refine r_aald (n := cap) (f := g) i hF hG hM hd (by omega) (by omega) rfl hy dJ2_elementData_5 ?_
  exact k_aret hx hb hr (Or.inl ⟨_, rfl⟩) hlocks hG hz hM hS (Nat.le_of_ble_eq_true rfl) (Nat.le_of_ble_eq_true rfl) dJ2_elementData_6 ⟨_, rfl, rfl, rfl⟩
set_option maxHeartbeats 4000000 in
set_option maxRecDepth 100000 in
theorem metJ2_get {l : Launch} {z : Nat} {E : EE} {M : MM} {q0 d0 n cap : Nat} {md : Int32} {g : Nat → Option Nat} (hq : M q0 = some (.inr (6, [.int md, .ref d0, .int (nI n)]))) (hd : M d0 = some (cO E cap g)) (i : Nat) {y : Nat} (hy : g i = some y) (h1 : i < n) (h2 : n ≤ cap) (h3 : cap ≤ 400) : Kt l yJ2_get (ws_ yJ2_get cJ2_get 2 (some (.object "java/lang/Object"))) ({ frames := 30, cells := 0, slots := 0, locals := 900 } : Room) z E [.ref q0, .int (nI i)] M (pA (fun r M' => r = y ∧ M = M')) xNo 0 0 := by
  refine k_body RJ2 (by decide) rfl (Nat.le_of_ble_eq_true rfl) ?_
  intro p e s m args below meth c hx hb hr hml hown hlocks hname hno hts hz hG hM hS ls hl
  have hF : CallFix p m c cJ2_get 2 s args lw_all RJ2 := ⟨hx, hb, hml, hown, hts⟩
  have hl : lv_has ls 2 [(0, .ref q0), (1, .int (nI i))] := hl
  refine lv_iload_n hx hb dJ2_get_0 rfl (lv_at hl 1 rfl) ?_
  refine lv_aload_n hx hb dJ2_get_1 rfl (lv_at hl 0 rfl) ?_
  refine r_get (ci := 6) hF in_J2 hG hM hq rfl 2 (by decide) q68 (fun _ h => h) (.int (nI n)) rfl dJ2_get_2 ?_
  refine kS (k9 := 0) (n9 := 0) hF hG hz hM hS [.int (nI i), .int (nI n)] [] (metJ12_checkIndex i n (by omega) (by omega)) (va_cwS 2 hts (lw_S q321 q322 q34 q323) rfl rfl rfl (by decide +kernel) ⟨(Nat.le_of_ble_eq_true rfl), (Nat.le_of_ble_eq_true rfl)⟩) rfl hl.1 rfl (Nat.le_of_ble_eq_true rfl) dJ2_get_5 rfl rfl (Nat.le_of_ble_eq_true rfl) (Nat.le_of_ble_eq_true rfl) (fun _ _ _ _ _ h9 _ _ _ _ _ => h9.elim) (fun v9 M9_1 H locs hp9 hM9_1 hS => ?_)
  obtain ⟨r_1, rfl, r_1_e, rfl⟩ := hp9
  have hM := hM9_1
  subst r_1_e
  refine W.eq (g2 := F0 m 8 ls [.int (nI i)]) rfl ?_
  refine lv_pop hx hb dJ2_get_8 rfl ?_
  refine lv_aload_n hx hb dJ2_get_9 rfl (lv_at hl 0 rfl) ?_
  refine lv_iload_n hx hb dJ2_get_10 rfl (lv_at hl 1 rfl) ?_
  refine kV (k9 := 0) (n9 := 0) hF hG hz hM hS [.int (nI i)] [] (metJ2_elementData hq hd i hy h1 h2 h3) (cwV 1 hts (lw_V q327 q328 q329 q21 q330) rfl rfl rfl (by decide +kernel) ⟨(Nat.le_of_ble_eq_true rfl), (Nat.le_of_ble_eq_true rfl)⟩) (k_recv hG hM hq (ci := 6) rfl) rfl hl.1 rfl (Nat.le_of_ble_eq_true rfl) dJ2_get_11 rfl rfl (Nat.le_of_ble_eq_true rfl) (Nat.le_of_ble_eq_true rfl) (fun _ _ _ _ _ h9 _ _ _ _ _ => h9.elim) (fun v9 M9_2 H locs hp9 hM9_2 hS => ?_)
  obtain ⟨r_2, rfl, r_2_e, rfl⟩ := hp9
  have hM := hM9_2
  rw [r_2_e]
  refine W.eq (g2 := F0 m 14 ls [.ref y]) rfl ?_
  exact k_aret hx hb hr (Or.inl ⟨_, rfl⟩) hlocks hG hz hM hS (Nat.le_of_ble_eq_true rfl) (Nat.le_of_ble_eq_true rfl) dJ2_get_14 ⟨_, rfl, rfl, rfl⟩
set_option maxHeartbeats 4000000 in
set_option maxRecDepth 100000 in
theorem metJ5_copyOf_2 {l : Launch} {z : Nat} {E : EE} {M : MM} {d0 n : Nat} {g : Nat → Option Nat} (hd : M d0 = some (cO E n g)) (N : Nat) (h1 : n ≤ N) (h2 : N ≤ 200) (hob : ∀ k, k < n → ∃ y, g k = some y ∧ Ob M y) : Kt l yJ5_copyOf_2 (ws_ yJ5_copyOf_2 cJ5_copyOf_2 4 (some (.array (.object "java/lang/Object")))) ({ frames := 20, cells := 1, slots := 200, locals := 600 } : Room) z E [.ref d0, .int (nI N), .ref (eC E)] M (pA (fun r M' => ∃ g' : Nat → Option Nat, M r = none ∧ M' r = some (cO E N g') ∧ (∀ k, k < n → g' k = g k) ∧ Ext M M')) xNo 1 200 := by
  refine k_body RJ5 (by decide) rfl (Nat.le_of_ble_eq_true rfl) ?_
  intro p e s m args below meth c hx hb hr hml hown hlocks hname hno hts hz hG hM hS ls hl
  have hF : CallFix p m c cJ5_copyOf_2 4 s args lw_all RJ5 := ⟨hx, hb, hml, hown, hts⟩
  have hl : lv_has ls 4 [(0, .ref d0), (1, .int (nI N)), (2, .ref (eC E))] := hl
  refine lv_aload_n hx hb dJ5_copyOf_2_0 rfl (lv_at hl 2 rfl) ?_
  refine va_ldcM hx hb hown (hts _ q163) hG.mi dJ5_copyOf_2_1 ?_
  refine lv_acmp_ne (rx := (some (eC E))) (ry := (some (eC E))) (tgt := 13) hx hb dJ5_copyOf_2_3 (by decide) (fun c9 => absurd rfl c9) (fun _ => ?_)
  refine lv_iload_n hx hb dJ5_copyOf_2_6 rfl (lv_at hl 1 rfl) ?_
  refine r_newO N hF q165 hz hG hM hS rfl (by omega) (k := 1) (n := 0 + N) rfl rfl (Nat.le_of_ble_eq_true rfl) (by show 0 + N ≤ 200; omega) dJ5_copyOf_2_7 (fun q_1 H hnq_1 hzq_1 hM hS => ?_)
  have hd1 : mput M q_1 (cO E N (fun _ => none)) d0 = some (cO E n g) := (Ext.new Ext.rf hnq_1) _ _ hd
  refine W.widen (k := 1) (n := 200) (Nat.le_refl 1) (by show 0 + N ≤ 200; omega) ?_
  refine lv_goto (tgt := 24) hx hb dJ5_copyOf_2_10 (by decide) ?_
  refine lv_astore_n (lv' := [(3, .ref q_1), (0, .ref d0), (1, .int (nI N)), (2, .ref (eC E))]) hx hb dJ5_copyOf_2_24 rfl hl (by decide) rfl (fun ls hl => ?_)
  refine lv_aload_n hx hb dJ5_copyOf_2_25 rfl (lv_at hl 1 rfl) ?_
  refine lv_iconst (v := 0) hx hb dJ5_copyOf_2_26 (by decide) ?_
  refine lv_aload_n hx hb dJ5_copyOf_2_27 rfl (lv_at hl 0 rfl) ?_
  refine lv_iconst (v := 0) hx hb dJ5_copyOf_2_28 (by decide) ?_
  refine lv_aload_n hx hb dJ5_copyOf_2_29 rfl (lv_at hl 1 rfl) ?_
  refine r_alenO hF hG hM hd1 dJ5_copyOf_2_30 ?_
  refine lv_iload_n hx hb dJ5_copyOf_2_31 rfl (lv_at hl 2 rfl) ?_
  refine va_mmin hx hb (hF.2.2.1.trans hl.1.symm) hown (hts _ q166) (hts _ q167) (hts _ q24) (hts _ q168) (Nat.le_of_ble_eq_true rfl) (Nat.le_of_ble_eq_true rfl) (Nat.le_of_ble_eq_true rfl) (Nat.le_of_ble_eq_true rfl) dJ5_copyOf_2_32 ?_
  rw [nmin (a := n) (b := N) (by omega) (by omega)]
  refine r_copy n hF q169 q171 q170 q26 hl.1 hG hM hS hd1 mput_s (by omega) (Nat.le_refl n) h1 (fun i hi y hy => ?_) (by rw [Nat.min_eq_left h1]) (Nat.le_of_ble_eq_true rfl) (Nat.le_of_ble_eq_true rfl) dJ5_copyOf_2_35 (fun H locs hM hS => ?_)
  · obtain ⟨y9, hy9, ho9⟩ := hob i hi
    rw [hy] at hy9
    cases hy9
    exact ob_any hG hM (ho9.ext (Ext.new Ext.rf hnq_1))
  refine lv_aload_n hx hb dJ5_copyOf_2_38 rfl (lv_at hl 0 rfl) ?_
  exact k_aret hx hb hr (Or.inr ⟨_, rfl⟩) hlocks hG hz hM hS (Nat.le_of_ble_eq_true rfl) (Nat.le_of_ble_eq_true rfl) dJ5_copyOf_2_39 ⟨_, rfl, _, hnq_1, mput_s, fun k hk => cpy_lo hk, fun a e ha => by rw [mput_n (ne_new ha hnq_1)]; exact Ext.new Ext.rf hnq_1 _ _ ha⟩
set_option maxHeartbeats 4000000 in
set_option maxRecDepth 100000 in
theorem metJ5_copyOf {l : Launch} {z : Nat} {E : EE} {M : MM} {d0 n : Nat} {g : Nat → Option Nat} (hd : M d0 = some (cO E n g)) (N : Nat) (h1 : n ≤ N) (h2 : N ≤ 200) (hob : ∀ k, k < n → ∃ y, g k = some y ∧ Ob M y) : Kt l yJ5_copyOf (ws_ yJ5_copyOf cJ5_copyOf 2 (some (.array (.object "java/lang/Object")))) ({ frames := 30, cells := 1, slots := 200, locals := 900 } : Room) z E [.ref d0, .int (nI N)] M (pA (fun r M' => ∃ g' : Nat → Option Nat, M r = none ∧ M' r = some (cO E N g') ∧ (∀ k, k < n → g' k = g k) ∧ Ext M M')) xNo 1 200 := by
  refine k_body RJ5 (by decide) rfl (Nat.le_of_ble_eq_true rfl) ?_
  intro p e s m args below meth c hx hb hr hml hown hlocks hname hno hts hz hG hM hS ls hl
  have hF : CallFix p m c cJ5_copyOf 2 s args lw_all RJ5 := ⟨hx, hb, hml, hown, hts⟩
  have hl : lv_has ls 2 [(0, .ref d0), (1, .int (nI N))] := hl
  refine lv_aload_n hx hb dJ5_copyOf_0 rfl (lv_at hl 0 rfl) ?_
  refine lv_iload_n hx hb dJ5_copyOf_1 rfl (lv_at hl 1 rfl) ?_
  refine lv_aload_n hx hb dJ5_copyOf_2 rfl (lv_at hl 0 rfl) ?_
  refine r_getClass hF hG hM hl.1 hd q141 (Nat.le_of_ble_eq_true rfl) (Nat.le_of_ble_eq_true rfl) dJ5_copyOf_3 ?_
  refine kS (k9 := 1) (n9 := 200) hF hG hz hM hS [.ref d0, .int (nI N), .ref (eC E)] [] (metJ5_copyOf_2 hd N h1 h2 hob) (va_cwS 3 hts (lw_S q160 q161 q25 q162) rfl rfl rfl (by decide +kernel) ⟨(Nat.le_of_ble_eq_true rfl), (Nat.le_of_ble_eq_true rfl)⟩) rfl hl.1 rfl (Nat.le_of_ble_eq_true rfl) dJ5_copyOf_6 rfl rfl (Nat.le_of_ble_eq_true rfl) (Nat.le_of_ble_eq_true rfl) (fun _ _ _ _ _ h9 _ _ _ _ _ => h9.elim) (fun v9 M9_1 H locs hp9 hM9_1 hS => ?_)
  obtain ⟨r_1, rfl, hp9⟩ := hp9
  have hM := hM9_1
  refine W.eq (g2 := F0 m 9 ls [.ref r_1]) rfl ?_
  exact k_aret hx hb hr (Or.inr ⟨_, rfl⟩) hlocks hG hz hM hS (Nat.le_of_ble_eq_true rfl) (Nat.le_of_ble_eq_true rfl) dJ5_copyOf_9 ⟨_, rfl, hp9⟩
set_option maxHeartbeats 4000000 in
set_option maxRecDepth 100000 in
theorem metJ2_grow_2 {l : Launch} {z : Nat} {E : EE} {M : MM} {q0 d0 n : Nat} {md : Int32} {g : Nat → Option Nat} (hq : M q0 = some (.inr (6, [.int md, .ref d0, .int (nI n)]))) (hd0 : GrowI E M n d0 g) : Kt l yJ2_grow_2 (ws_ yJ2_grow_2 cJ2_grow_2 4 (some (.array (.object "java/lang/Object")))) ({ frames := 40, cells := 1, slots := 200, locals := 1200 } : Room) z E [.ref q0, .int (nI (n + 1))] M (pA (fun r M' => GrowP E M q0 n md g r M')) xNo 1 200 := by
  refine k_body RJ2 (by decide) rfl (Nat.le_of_ble_eq_true rfl) ?_
  intro p e s m args below meth c hx hb hr hml hown hlocks hname hno hts hz hG hM hS ls hl
  have hF : CallFix p m c cJ2_grow_2 4 s args lw_all RJ2 := ⟨hx, hb, hml, hown, hts⟩
  have hl : lv_has ls 4 [(0, .ref q0), (1, .int (nI (n + 1)))] := hl
  rcases hd0 with ⟨rfl, rfl⟩ | ⟨hd, hd1, hd2, hob⟩
  · skip
    have hl : lv_has ls 4 [(0, .ref q0), (1, .int 1)] := hl
    refine lv_aload_n hx hb dJ2_grow_2_0 rfl (lv_at hl 0 rfl) ?_
    refine r_get (ci := 6) hF in_J2 hG hM hq rfl 1 (by decide) q67 (fun _ h => h) (.ref (eN E)) rfl dJ2_grow_2_1 ?_
    refine r_alen0 hF hG hS dJ2_grow_2_4 ?_
    refine lv_istore_n (lv' := [(2, .int 0), (0, .ref q0), (1, .int 1)]) hx hb dJ2_grow_2_5 rfl hl (by decide) rfl (fun ls hl => ?_)
    refine lv_iload_n hx hb dJ2_grow_2_6 rfl (lv_at hl 0 rfl) ?_
    refine lv_if_gt (tgt := 20) hx hb dJ2_grow_2_7 (by decide) (fun c9 => absurd c9 (by decide)) (fun _ => ?_)
    refine lv_aload_n hx hb dJ2_grow_2_10 rfl (lv_at hl 1 rfl) ?_
    refine r_get (ci := 6) hF in_J2 hG hM hq rfl 1 (by decide) q67 (fun _ h => h) (.ref (eN E)) rfl dJ2_grow_2_11 ?_
    refine va_gets hx hb hG.2.1.1 hS hown (hts _ q65) (fun x h => h) dJ2_grow_2_14 ?_
    refine lv_acmp_eq (rx := (some (eN E))) (ry := (some (eN E))) (tgt := 45) hx hb dJ2_grow_2_17 (by decide) (fun _ => ?_) (fun c9 => absurd rfl c9)
    refine lv_aload_n hx hb dJ2_grow_2_45 rfl (lv_at hl 1 rfl) ?_
    refine lv_bipush (v := 10) hx hb dJ2_grow_2_46 (by decide) ?_
    refine lv_iload_n hx hb dJ2_grow_2_48 rfl (lv_at hl 2 rfl) ?_
    refine va_mmax hx hb (hF.2.2.1.trans hl.1.symm) hown (hts _ q172) (hts _ q132) (hts _ q24) (hts _ q133) (Nat.le_of_ble_eq_true rfl) (Nat.le_of_ble_eq_true rfl) (Nat.le_of_ble_eq_true rfl) (Nat.le_of_ble_eq_true rfl) dJ2_grow_2_49 ?_
    refine r_newO 10 hF q173 hz hG hM hS (by rfl) (by omega) (k := 1) (n := 0 + 10) rfl rfl (Nat.le_of_ble_eq_true rfl) (Nat.le_of_ble_eq_true rfl) dJ2_grow_2_52 (fun q_1 H hnq_1 hzq_1 hM hS => ?_)
    have hq1 : mput M q_1 (cO E 10 (fun _ => none)) q0 = _ := (Ext.new Ext.rf hnq_1) _ _ hq
    refine W.widen (k := 1) (n := 200) (Nat.le_refl 1) (Nat.le_of_ble_eq_true rfl) ?_
    refine lv_dup_x1 hx hb dJ2_grow_2_55 rfl rfl ?_
    refine r_put (ci := 6) (ty := (.array (.object "java/lang/Object"))) (v := .ref q_1) hF in_J2 tyJ2 tyJ2_ok nmJ2 hG hM hS hq1 rfl 1 (by decide) q67 (fun _ h => h) rfl (by decide +kernel) rfl rfl (Nat.le_of_ble_eq_true rfl) dJ2_grow_2_56 (fun H locs hM hS => ?_)
    exact k_aret hx hb hr (Or.inr ⟨_, rfl⟩) hlocks hG hz hM hS (Nat.le_of_ble_eq_true rfl) (Nat.le_of_ble_eq_true rfl) dJ2_grow_2_59 ⟨_, rfl, 10, fun _ => none, hnq_1, (by rw [mput_n (Ne.symm (ne_new hq hnq_1))]; exact mput_s), mput_s, by omega, by omega, by omega, fun k hk => absurd hk (Nat.not_lt_zero k), (Own.put (Ext.Own (Ext.new Ext.rf hnq_1)))⟩
  · skip
    refine lv_aload_n hx hb dJ2_grow_2_0 rfl (lv_at hl 0 rfl) ?_
    refine r_get (ci := 6) hF in_J2 hG hM hq rfl 1 (by decide) q67 (fun _ h => h) (.ref d0) rfl dJ2_grow_2_1 ?_
    refine r_alenO hF hG hM hd dJ2_grow_2_4 ?_
    refine lv_istore_n (lv' := [(2, .int (nI n)), (0, .ref q0), (1, .int (nI (n + 1)))]) hx hb dJ2_grow_2_5 rfl hl (by decide) rfl (fun ls hl => ?_)
    refine lv_iload_n hx hb dJ2_grow_2_6 rfl (lv_at hl 0 rfl) ?_
    refine lv_if_gt (tgt := 20) hx hb dJ2_grow_2_7 (by decide) (fun c_2 => ?_) (fun c_2 => ?_)
    · have c_2R := c_2
      have c_2 : 0 < n := (nI_ltI (a := 0) (b := n) (by omega) (by omega)).mp c_2R
      have c_2B : ¬ (n ≤ 0) := by omega
      have c_2RB := Int32.not_le.mpr c_2R
      refine lv_iload_n hx hb dJ2_grow_2_20 rfl (lv_at hl 0 rfl) ?_
      refine lv_iload_n hx hb dJ2_grow_2_21 rfl (lv_at hl 2 rfl) ?_
      refine lv_iload_n hx hb dJ2_grow_2_22 rfl (lv_at hl 0 rfl) ?_
      refine lv_isub hx hb dJ2_grow_2_23 ?_
      rw [nsub (a := (n + 1)) (b := n) (by omega)]
      refine lv_iload_n hx hb dJ2_grow_2_24 rfl (lv_at hl 0 rfl) ?_
      refine lv_iconst (v := 1) hx hb dJ2_grow_2_25 (by decide) ?_
      refine lv_ishr hx hb dJ2_grow_2_26 ?_
      rw [nhalf (a := n) (by omega)]
      refine kS (k9 := 0) (n9 := 0) hF hG hz hM hS [.int (nI n), .int (nI ((n + 1) - n)), .int (nI (n / 2))] [] (metJ3_newLength n ((n + 1) - n) (n / 2) (by omega) (by omega) (by omega) (by omega)) (va_cwS 3 hts (lw_S q128 q129 q23 q130) rfl rfl rfl (by decide +kernel) ⟨(Nat.le_of_ble_eq_true rfl), (Nat.le_of_ble_eq_true rfl)⟩) rfl hl.1 rfl (Nat.le_of_ble_eq_true rfl) dJ2_grow_2_27 rfl rfl (Nat.le_of_ble_eq_true rfl) (Nat.le_of_ble_eq_true rfl) (fun _ _ _ _ _ h9 _ _ _ _ _ => h9.elim) (fun v9 M9_1 H locs hp9 hM9_1 hS => ?_)
      obtain ⟨r_3, rfl, r_3_e, rfl⟩ := hp9
      have hM := hM9_1
      subst r_3_e
      refine W.eq (g2 := F0 m 30 ls [.int (nI (n + max ((n + 1) - n) (n / 2)))]) rfl ?_
      have en9 : (nI (n + max ((n + 1) - n) (n / 2))) = nI (n + n / 2) := by congr 1; omega
      rw [show nI (n + max (n + 1 - n) (n / 2)) = nI (n + n / 2) from en9]
      refine lv_istore_n (lv' := [(3, .int (nI (n + n / 2))), (2, .int (nI n)), (0, .ref q0), (1, .int (nI (n + 1)))]) hx hb dJ2_grow_2_30 rfl hl (by decide) rfl (fun ls hl => ?_)
      refine lv_aload_n hx hb dJ2_grow_2_31 rfl (lv_at hl 2 rfl) ?_
      refine lv_aload_n hx hb dJ2_grow_2_32 rfl (lv_at hl 2 rfl) ?_
      refine r_get (ci := 6) hF in_J2 hG hM hq rfl 1 (by decide) q67 (fun _ h => h) (.ref d0) rfl dJ2_grow_2_33 ?_
      refine lv_iload_n hx hb dJ2_grow_2_36 rfl (lv_at hl 0 rfl) ?_
      refine kS (k9 := 1) (n9 := 200) hF hG hz hM hS [.ref d0, .int (nI (n + n / 2))] [.ref q0] (metJ5_copyOf hd (n + n / 2) (by omega) (by omega) hob) (va_cwS 2 hts (lw_S q138 q139 q25 q140) rfl rfl rfl (by decide +kernel) ⟨(Nat.le_of_ble_eq_true rfl), (Nat.le_of_ble_eq_true rfl)⟩) rfl hl.1 rfl (Nat.le_of_ble_eq_true rfl) dJ2_grow_2_37 rfl rfl (Nat.le_of_ble_eq_true rfl) (Nat.le_of_ble_eq_true rfl) (fun _ _ _ _ _ h9 _ _ _ _ _ => h9.elim) (fun v9 M9_2 H locs hp9 hM9_2 hS => ?_)
      obtain ⟨r_4, rfl, g9, hr0, hr1, hr2, hr3⟩ := hp9
      have hM := hM9_2
      have hq1 := hr3 _ _ hq
      refine W.eq (g2 := F0 m 40 ls [.ref r_4, .ref q0]) rfl ?_
      refine lv_dup_x1 hx hb dJ2_grow_2_40 rfl rfl ?_
      refine r_put (ci := 6) (ty := (.array (.object "java/lang/Object"))) (v := .ref r_4) hF in_J2 tyJ2 tyJ2_ok nmJ2 hG hM hS hq1 rfl 1 (by decide) q67 (fun _ h => h) rfl (by decide +kernel) rfl rfl (Nat.le_of_ble_eq_true rfl) dJ2_grow_2_41 (fun H locs hM hS => ?_)
      exact k_aret hx hb hr (Or.inr ⟨_, rfl⟩) hlocks hG hz hM hS (Nat.le_of_ble_eq_true rfl) (Nat.le_of_ble_eq_true rfl) dJ2_grow_2_44 ⟨_, rfl, n + n / 2, g9, hr0, (by rw [mput_n (Ne.symm (ne_new hq hr0))]; exact hr1), mput_s, by omega, by omega, by omega, hr2, (Own.put (Ext.Own hr3))⟩
    · have c_2R := c_2
      have c_2 : ¬ (0 < n) := fun h9 => c_2R ((nI_ltI (a := 0) (b := n) (by omega) (by omega)).mpr h9)
      have c_2B : n ≤ 0 := by omega
      have c_2RB := Int32.not_lt.mp c_2R
      exfalso; omega
set_option maxHeartbeats 4000000 in
set_option maxRecDepth 100000 in
theorem metJ2_grow {l : Launch} {z : Nat} {E : EE} {M : MM} {q0 d0 n : Nat} {md : Int32} {g : Nat → Option Nat} (hq : M q0 = some (.inr (6, [.int md, .ref d0, .int (nI n)]))) (hd0 : GrowI E M n d0 g) : Kt l yJ2_grow (ws_ yJ2_grow cJ2_grow 1 (some (.array (.object "java/lang/Object")))) ({ frames := 50, cells := 1, slots := 200, locals := 1500 } : Room) z E [.ref q0] M (pA (fun r M' => GrowP E M q0 n md g r M')) xNo 1 200 := by
  refine k_body RJ2 (by decide) rfl (Nat.le_of_ble_eq_true rfl) ?_
  intro p e s m args below meth c hx hb hr hml hown hlocks hname hno hts hz hG hM hS ls hl
  have hF : CallFix p m c cJ2_grow 1 s args lw_all RJ2 := ⟨hx, hb, hml, hown, hts⟩
  have hl : lv_has ls 1 [(0, .ref q0)] := hl
  refine lv_aload_n hx hb dJ2_grow_0 rfl (lv_at hl 0 rfl) ?_
  refine lv_aload_n hx hb dJ2_grow_1 rfl (lv_at hl 0 rfl) ?_
  refine r_get (ci := 6) hF in_J2 hG hM hq rfl 2 (by decide) q68 (fun _ h => h) (.int (nI n)) rfl dJ2_grow_2 ?_
  refine lv_iconst (v := 1) hx hb dJ2_grow_5 (by decide) ?_
  refine lv_iadd hx hb dJ2_grow_6 ?_
  rw [nI_1]
  refine kV (k9 := 1) (n9 := 200) hF hG hz hM hS [.int (nI (n + 1))] [] (metJ2_grow_2 hq hd0) (cwV 1 hts (lw_V q124 q126 qs2 q21 q127) rfl rfl rfl (by decide +kernel) ⟨(Nat.le_of_ble_eq_true rfl), (Nat.le_of_ble_eq_true rfl)⟩) (k_recv hG hM hq (ci := 6) rfl) rfl hl.1 rfl (Nat.le_of_ble_eq_true rfl) dJ2_grow_7 rfl rfl (Nat.le_of_ble_eq_true rfl) (Nat.le_of_ble_eq_true rfl) (fun _ _ _ _ _ h9 _ _ _ _ _ => h9.elim) (fun v9 M9_1 H locs hp9 hM9_1 hS => ?_)
  obtain ⟨r_1, rfl, hgr⟩ := hp9
  have hM := hM9_1
  refine W.eq (g2 := F0 m 10 ls [.ref r_1]) rfl ?_
  exact k_aret hx hb hr (Or.inr ⟨_, rfl⟩) hlocks hG hz hM hS (Nat.le_of_ble_eq_true rfl) (Nat.le_of_ble_eq_true rfl) dJ2_grow_10 ⟨_, rfl, hgr⟩
set_option maxHeartbeats 4000000 in
set_option maxRecDepth 100000 in
theorem metJ2_add_2 {l : Launch} {z : Nat} {E : EE} {M : MM} {q0 d0 n cap x : Nat} {fl : Bool} {md : Int32} {g : Nat → Option Nat} (hL : LIn E M q0 n d0 cap fl md g) (hx0 : Ob M x) : Kt l yJ2_add_2 (ws_ yJ2_add_2 cJ2_add_2 4 none) ({ frames := 60, cells := 1, slots := 200, locals := 1800 } : Room) z E [.ref q0, .ref x, .ref d0, .int (nI n)] M (pV (fun M' => LAdd E M q0 n d0 fl g x M')) xNo 1 200 := by
  refine k_body RJ2 (by decide) rfl (Nat.le_of_ble_eq_true rfl) ?_
  intro p e s m args below meth c hx hb hr hml hown hlocks hname hno hts hz hG hM hS ls hl
  have hF : CallFix p m c cJ2_add_2 4 s args lw_all RJ2 := ⟨hx, hb, hml, hown, hts⟩
  have hl : lv_has ls 4 [(0, .ref q0), (1, .ref x), (2, .ref d0), (3, .int (nI n))] := hl
  obtain ⟨hq, hL0, hL9, hob⟩ := hL
  have hL1 : (fl = false ∧ d0 = eN E ∧ n = 0) ∨ (fl = true ∧ M d0 = some (cO E cap g) ∧ n = cap ∧ 10 ≤ cap ∧ cap ≤ 400) ∨ (fl = true ∧ M d0 = some (cO E cap g) ∧ n < cap ∧ 10 ≤ cap ∧ cap ≤ 400) := by
    rcases hL0 with h9 | ⟨h1, h2, h3, h4, h5⟩
    · exact Or.inl h9
    · rcases Nat.lt_or_eq_of_le h3 with h6 | h6
      · exact Or.inr (Or.inr ⟨h1, h2, h6, h4, h5⟩)
      · exact Or.inr (Or.inl ⟨h1, h2, h6, h4, h5⟩)
  rcases hL1 with ⟨rfl, rfl, rfl⟩ | ⟨rfl, hd, rfl, hL2, hL3⟩ | ⟨rfl, hd, hL1, hL2, hL3⟩
  · skip
    have hl : lv_has ls 4 [(0, .ref q0), (1, .ref x), (2, .ref (eN E)), (3, .int 0)] := hl
    refine lv_iload_n hx hb dJ2_add_2_0 rfl (lv_at hl 3 rfl) ?_
    refine lv_aload_n hx hb dJ2_add_2_1 rfl (lv_at hl 2 rfl) ?_
    refine r_alen0 hF hG hS dJ2_add_2_2 ?_
    refine lv_icmp_ne (tgt := 11) hx hb dJ2_add_2_3 (by decide) (fun c9 => absurd c9 (by decide)) (fun _ => ?_)
    refine lv_aload_n hx hb dJ2_add_2_6 rfl (lv_at hl 0 rfl) ?_
    refine kV (k9 := 1) (n9 := 200) hF hG hz hM hS [] [] (metJ2_grow hq (g := g) (Or.inl ⟨rfl, rfl⟩)) (cwV 0 hts (lw_V q120 q122 qs1 q21 q123) rfl rfl rfl (by decide +kernel) ⟨(Nat.le_of_ble_eq_true rfl), (Nat.le_of_ble_eq_true rfl)⟩) (k_recv hG hM hq (ci := 6) rfl) rfl hl.1 rfl (Nat.le_of_ble_eq_true rfl) dJ2_add_2_7 rfl rfl (Nat.le_of_ble_eq_true rfl) (Nat.le_of_ble_eq_true rfl) (fun _ _ _ _ _ h9 _ _ _ _ _ => h9.elim) (fun v9 M9_1 H locs hp9 hM9_1 hS => ?_)
    obtain ⟨r_1, rfl, cp9, g9, hr0, hr1, hrq, hr2, hr3, hr4, hr5, hr6⟩ := hp9
    have hM := hM9_1
    refine W.eq (g2 := F0 m 10 ls [.ref r_1]) rfl ?_
    refine lv_astore_n (lv' := [(2, .ref r_1), (0, .ref q0), (1, .ref x), (3, .int 0)]) hx hb dJ2_add_2_10 rfl hl (by decide) rfl (fun ls hl => ?_)
    refine lv_aload_n hx hb dJ2_add_2_11 rfl (lv_at hl 0 rfl) ?_
    refine lv_iload_n hx hb dJ2_add_2_12 rfl (lv_at hl 3 rfl) ?_
    refine lv_aload_n hx hb dJ2_add_2_13 rfl (lv_at hl 2 rfl) ?_
    refine r_aast (n := cp9) (f := g9) 0 hF hG hM hS hr1 (ob_any hG hM (hx0.own hr6 (fun _ _ => trivial) (hx0.ne6 hq))) (by omega) (by omega) rfl dJ2_add_2_14 (fun H locs hM hS => ?_)
    have hq2 := (mput_n (M := M9_1) (e := cO E cp9 (va_up g9 0 (some x))) (ne_il hrq hr1)).trans hrq
    refine lv_aload_n hx hb dJ2_add_2_15 rfl (lv_at hl 1 rfl) ?_
    refine lv_iload_n hx hb dJ2_add_2_16 rfl (lv_at hl 3 rfl) ?_
    refine lv_iconst (v := 1) hx hb dJ2_add_2_17 (by decide) ?_
    refine lv_iadd hx hb dJ2_add_2_18 ?_
    rw [show (0 + 1 : Int32) = nI (0 + 1) from rfl]
    refine r_put (ci := 6) (ty := .int) (v := .int (nI (0 + 1))) hF in_J2 tyJ2 tyJ2_ok nmJ2 hG hM hS hq2 rfl 2 (by decide) q68 (fun _ h => h) rfl (by decide +kernel) rfl rfl (Nat.le_of_ble_eq_true rfl) dJ2_add_2_19 (fun H locs hM hS => ?_)
    exact k_vret hx hb hr hlocks hG hz hM hS (Nat.le_of_ble_eq_true rfl) (Nat.le_of_ble_eq_true rfl) dJ2_add_2_22 ⟨rfl, md, r_1, cp9, va_up g9 0 (some x), mput_s, (by rw [mput_n (Ne.symm (ne_il hrq hr1))]; exact mput_s), by omega, hr3, hr4, (fun k hk => (va_up_ne _ _ (by omega)).trans (hr5 k hk)), va_up_self _ _ _, Or.inr hr0, fun a e h1 h2 ha => by rw [mput_n h1, mput_n h2]; exact hr6 _ _ h1 ha⟩
  · skip
    refine lv_iload_n hx hb dJ2_add_2_0 rfl (lv_at hl 3 rfl) ?_
    refine lv_aload_n hx hb dJ2_add_2_1 rfl (lv_at hl 2 rfl) ?_
    refine r_alenO hF hG hM hd dJ2_add_2_2 ?_
    refine lv_icmp_ne (tgt := 11) hx hb dJ2_add_2_3 (by decide) (fun c_2 => ?_) (fun c_2 => ?_)
    · have c_2R := c_2
      have c_2 : ¬ (n = n) := fun h9 => c_2R ((nI_eq (a := n) (b := n) (by omega) (by omega)).mpr h9)
      exfalso; omega
    · have c_2R := c_2
      have c_2 : n = n := (nI_eq (a := n) (b := n) (by omega) (by omega)).mp c_2R
      refine lv_aload_n hx hb dJ2_add_2_6 rfl (lv_at hl 0 rfl) ?_
      refine kV (k9 := 1) (n9 := 200) hF hG hz hM hS [] [] (metJ2_grow hq (g := g) (Or.inr ⟨hd, hL2, (by omega), hob⟩)) (cwV 0 hts (lw_V q120 q122 qs1 q21 q123) rfl rfl rfl (by decide +kernel) ⟨(Nat.le_of_ble_eq_true rfl), (Nat.le_of_ble_eq_true rfl)⟩) (k_recv hG hM hq (ci := 6) rfl) rfl hl.1 rfl (Nat.le_of_ble_eq_true rfl) dJ2_add_2_7 rfl rfl (Nat.le_of_ble_eq_true rfl) (Nat.le_of_ble_eq_true rfl) (fun _ _ _ _ _ h9 _ _ _ _ _ => h9.elim) (fun v9 M9_2 H locs hp9 hM9_2 hS => ?_)
      obtain ⟨r_3, rfl, cp9, g9, hr0, hr1, hrq, hr2, hr3, hr4, hr5, hr6⟩ := hp9
      have hM := hM9_2
      refine W.eq (g2 := F0 m 10 ls [.ref r_3]) rfl ?_
      refine lv_astore_n (lv' := [(2, .ref r_3), (0, .ref q0), (1, .ref x), (3, .int (nI n))]) hx hb dJ2_add_2_10 rfl hl (by decide) rfl (fun ls hl => ?_)
      refine lv_aload_n hx hb dJ2_add_2_11 rfl (lv_at hl 0 rfl) ?_
      refine lv_iload_n hx hb dJ2_add_2_12 rfl (lv_at hl 3 rfl) ?_
      refine lv_aload_n hx hb dJ2_add_2_13 rfl (lv_at hl 2 rfl) ?_
      refine r_aast (n := cp9) (f := g9) n hF hG hM hS hr1 (ob_any hG hM (hx0.own hr6 (fun _ _ => trivial) (hx0.ne6 hq))) (by omega) (by omega) rfl dJ2_add_2_14 (fun H locs hM hS => ?_)
      have hq2 := (mput_n (M := M9_2) (e := cO E cp9 (va_up g9 n (some x))) (ne_il hrq hr1)).trans hrq
      refine lv_aload_n hx hb dJ2_add_2_15 rfl (lv_at hl 1 rfl) ?_
      refine lv_iload_n hx hb dJ2_add_2_16 rfl (lv_at hl 3 rfl) ?_
      refine lv_iconst (v := 1) hx hb dJ2_add_2_17 (by decide) ?_
      refine lv_iadd hx hb dJ2_add_2_18 ?_
      rw [nI_1]
      refine r_put (ci := 6) (ty := .int) (v := .int (nI (n + 1))) hF in_J2 tyJ2 tyJ2_ok nmJ2 hG hM hS hq2 rfl 2 (by decide) q68 (fun _ h => h) rfl (by decide +kernel) rfl rfl (Nat.le_of_ble_eq_true rfl) dJ2_add_2_19 (fun H locs hM hS => ?_)
      exact k_vret hx hb hr hlocks hG hz hM hS (Nat.le_of_ble_eq_true rfl) (Nat.le_of_ble_eq_true rfl) dJ2_add_2_22 ⟨rfl, md, r_3, cp9, va_up g9 n (some x), mput_s, (by rw [mput_n (Ne.symm (ne_il hrq hr1))]; exact mput_s), by omega, hr3, hr4, (fun k hk => (va_up_ne _ _ (by omega)).trans (hr5 k hk)), va_up_self _ _ _, Or.inr hr0, fun a e h1 h2 ha => by rw [mput_n h1, mput_n h2]; exact hr6 _ _ h1 ha⟩
  · skip
    refine lv_iload_n hx hb dJ2_add_2_0 rfl (lv_at hl 3 rfl) ?_
    refine lv_aload_n hx hb dJ2_add_2_1 rfl (lv_at hl 2 rfl) ?_
    refine r_alenO hF hG hM hd dJ2_add_2_2 ?_
    refine lv_icmp_ne (tgt := 11) hx hb dJ2_add_2_3 (by decide) (fun c_4 => ?_) (fun c_4 => ?_)
    · have c_4R := c_4
      have c_4 : ¬ (n = cap) := fun h9 => c_4R ((nI_eq (a := n) (b := cap) (by omega) (by omega)).mpr h9)
      refine lv_aload_n hx hb dJ2_add_2_11 rfl (lv_at hl 2 rfl) ?_
      refine lv_iload_n hx hb dJ2_add_2_12 rfl (lv_at hl 3 rfl) ?_
      refine lv_aload_n hx hb dJ2_add_2_13 rfl (lv_at hl 1 rfl) ?_
      refine r_aast (n := cap) (f := g) n hF hG hM hS hd (ob_any hG hM hx0) (by omega) (by omega) rfl dJ2_add_2_14 (fun H locs hM hS => ?_)
      have hq2 := (mput_n (M := M) (e := cO E cap (va_up g n (some x))) (ne_il hq hd)).trans hq
      refine lv_aload_n hx hb dJ2_add_2_15 rfl (lv_at hl 0 rfl) ?_
      refine lv_iload_n hx hb dJ2_add_2_16 rfl (lv_at hl 3 rfl) ?_
      refine lv_iconst (v := 1) hx hb dJ2_add_2_17 (by decide) ?_
      refine lv_iadd hx hb dJ2_add_2_18 ?_
      rw [nI_1]
      refine r_put (ci := 6) (ty := .int) (v := .int (nI (n + 1))) hF in_J2 tyJ2 tyJ2_ok nmJ2 hG hM hS hq2 rfl 2 (by decide) q68 (fun _ h => h) rfl (by decide +kernel) rfl rfl (Nat.le_of_ble_eq_true rfl) dJ2_add_2_19 (fun H locs hM hS => ?_)
      exact k_vret hx hb hr hlocks hG hz hM hS (Nat.le_of_ble_eq_true rfl) (Nat.le_of_ble_eq_true rfl) dJ2_add_2_22 ⟨rfl, md, d0, cap, va_up g n (some x), mput_s, (by rw [mput_n (Ne.symm (ne_il hq hd))]; exact mput_s), by omega, hL2, hL3, (fun k hk => va_up_ne _ _ (by omega)), va_up_self _ _ _, Or.inl ⟨rfl, rfl⟩, fun a e h1 h2 ha => by rw [mput_n h1, mput_n h2]; exact ha⟩
    · have c_4R := c_4
      have c_4 : n = cap := (nI_eq (a := n) (b := cap) (by omega) (by omega)).mp c_4R
      exfalso; omega
set_option maxHeartbeats 4000000 in
set_option maxRecDepth 100000 in
theorem metJ2_add {l : Launch} {z : Nat} {E : EE} {M : MM} {q0 d0 n cap x : Nat} {fl : Bool} {md : Int32} {g : Nat → Option Nat} (hL : LIn E M q0 n d0 cap fl md g) (hx0 : Ob M x) : Kt l yJ2_add (ws_ yJ2_add cJ2_add 2 (some .boolean)) ({ frames := 70, cells := 1, slots := 200, locals := 2100 } : Room) z E [.ref q0, .ref x] M (pI (fun r M' => r = 1 ∧ LAdd E M q0 n d0 fl g x M')) xNo 1 200 := by
  refine k_body RJ2 (by decide) rfl (Nat.le_of_ble_eq_true rfl) ?_
  intro p e s m args below meth c hx hb hr hml hown hlocks hname hno hts hz hG hM hS ls hl
  have hF : CallFix p m c cJ2_add 2 s args lw_all RJ2 := ⟨hx, hb, hml, hown, hts⟩
  have hl : lv_has ls 2 [(0, .ref q0), (1, .ref x)] := hl
  refine lv_aload_n hx hb dJ2_add_0 rfl (lv_at hl 0 rfl) ?_
  refine lv_dup hx hb dJ2_add_1 rfl ?_
  refine r_get (ci := 6) hF in_J2 hG hM hL.1 rfl 0 (by decide) q70 (fun x h => u_same (hts _ q71) x h) (.int md) rfl dJ2_add_2 ?_
  refine lv_iconst (v := 1) hx hb dJ2_add_5 (by decide) ?_
  refine lv_iadd hx hb dJ2_add_6 ?_
  refine r_put (ci := 6) (ty := .int) (v := .int (md + 1)) hF in_J2 tyJ2 tyJ2_ok nmJ2 hG hM hS hL.1 rfl 0 (by decide) q70 (fun x h => u_same (hts _ q71) x h) rfl (by decide +kernel) rfl rfl (Nat.le_of_ble_eq_true rfl) dJ2_add_7 (fun H locs hM hS => ?_)
  have hL1 := hL.mod (md1 := (md + 1))
  refine lv_aload_n hx hb dJ2_add_10 rfl (lv_at hl 0 rfl) ?_
  refine lv_aload_n hx hb dJ2_add_11 rfl (lv_at hl 1 rfl) ?_
  refine lv_aload_n hx hb dJ2_add_12 rfl (lv_at hl 0 rfl) ?_
  refine r_get (ci := 6) hF in_J2 hG hM mput_s rfl 1 (by decide) q67 (fun _ h => h) (.ref d0) rfl dJ2_add_13 ?_
  refine lv_aload_n hx hb dJ2_add_16 rfl (lv_at hl 0 rfl) ?_
  refine r_get (ci := 6) hF in_J2 hG hM mput_s rfl 2 (by decide) q68 (fun _ h => h) (.int (nI n)) rfl dJ2_add_17 ?_
  refine kV (k9 := 1) (n9 := 200) hF hG hz hM hS [.ref x, .ref d0, .int (nI n)] [] (metJ2_add_2 hL1 (hx0.own (Own.put Own.rf) (fun _ _ => trivial) (hx0.ne6 hL.1))) (cwV 3 hts (lw_V q116 q118 qs0 q21 q119) rfl rfl rfl (by decide +kernel) ⟨(Nat.le_of_ble_eq_true rfl), (Nat.le_of_ble_eq_true rfl)⟩) (k_recv hG hM mput_s (ci := 6) rfl) rfl hl.1 rfl (Nat.le_of_ble_eq_true rfl) dJ2_add_20 rfl rfl (Nat.le_of_ble_eq_true rfl) (Nat.le_of_ble_eq_true rfl) (fun _ _ _ _ _ h9 _ _ _ _ _ => h9.elim) (fun v9 M9_1 H locs hp9 hM9_1 hS => ?_)
  obtain ⟨rfl, hp9⟩ := hp9
  have hM := hM9_1
  refine W.eq (g2 := F0 m 23 ls []) rfl ?_
  refine lv_iconst (v := 1) hx hb dJ2_add_23 (by decide) ?_
  exact k_iret hx hb hr rfl hlocks hG hz hM hS (Nat.le_of_ble_eq_true rfl) (Nat.le_of_ble_eq_true rfl) dJ2_add_24 ⟨_, rfl, rfl, hp9.mod hL.1⟩
set_option maxHeartbeats 4000000 in
set_option maxRecDepth 100000 in
theorem metJ0_init {l : Launch} {z : Nat} {E : EE} {M : MM} {q0 : Nat} : Kt l yJ0_init (ws_ yJ0_init cJ0_init 1 none) ({ frames := 10, cells := 0, slots := 0, locals := 300 } : Room) z E [.ref q0] M (pV (fun M' => M = M')) xNo 0 0 := by
  refine k_body RJ0 (by decide) rfl (Nat.le_of_ble_eq_true rfl) ?_
  intro p e s m args below meth c hx hb hr hml hown hlocks hname hno hts hz hG hM hS ls hl
  have hF : CallFix p m c cJ0_init 1 s args lw_all RJ0 := ⟨hx, hb, hml, hown, hts⟩
  have hl : lv_has ls 1 [(0, .ref q0)] := hl
  refine lv_aload_n hx hb dJ0_init_0 rfl (lv_at hl 0 rfl) ?_
  refine W.objInit hx hb hown (hts _ q64) (hts _ q51) (hts _ q52) rfl (by rw [hml]; exact hl.1) rfl dJ0_init_1 (Nat.le_of_ble_eq_true rfl) (Nat.le_of_ble_eq_true rfl) ?_
  exact k_vret hx hb hr hlocks hG hz hM hS (Nat.le_of_ble_eq_true rfl) (Nat.le_of_ble_eq_true rfl) dJ0_init_4 ⟨rfl, rfl⟩
set_option maxHeartbeats 4000000 in
set_option maxRecDepth 100000 in
theorem metJ1_init {l : Launch} {z : Nat} {E : EE} {M : MM} {q0 : Nat} (hq : M q0 = some (.inr (6, [.int 0, .null, .int 0]))) : Kt l yJ1_init (ws_ yJ1_init cJ1_init 1 none) ({ frames := 20, cells := 0, slots := 0, locals := 600 } : Room) z E [.ref q0] M (pV (fun M' => M' = mput M q0 (.inr (6, [.int 0, .null, .int 0])))) xNo 0 0 := by
  refine k_body RJ1 (by decide) rfl (Nat.le_of_ble_eq_true rfl) ?_
  intro p e s m args below meth c hx hb hr hml hown hlocks hname hno hts hz hG hM hS ls hl
  have hF : CallFix p m c cJ1_init 1 s args lw_all RJ1 := ⟨hx, hb, hml, hown, hts⟩
  have hl : lv_has ls 1 [(0, .ref q0)] := hl
  refine lv_aload_n hx hb dJ1_init_0 rfl (lv_at hl 0 rfl) ?_
  refine kI (k9 := 0) (n9 := 0) hF hG hz hM hS [] [] (metJ0_init (q0 := q0)) (cwI 0 hts (lw_meth q63) rfl rfl rfl (hts _ q19) (hts _ q61) (hts _ q62) rfl (by decide +kernel) ⟨(Nat.le_of_ble_eq_true rfl), (Nat.le_of_ble_eq_true rfl)⟩) rfl hl.1 rfl (Nat.le_of_ble_eq_true rfl) dJ1_init_1 rfl rfl (Nat.le_of_ble_eq_true rfl) (Nat.le_of_ble_eq_true rfl) (fun _ _ _ _ _ h9 _ _ _ _ _ => h9.elim) (fun v9 M9_1 H locs hp9 hM9_1 hS => ?_)
  obtain ⟨rfl, rfl⟩ := hp9
  have hM := hM9_1
  refine W.eq (g2 := F0 m 4 ls []) rfl ?_
  refine lv_aload_n hx hb dJ1_init_4 rfl (lv_at hl 0 rfl) ?_
  refine lv_iconst (v := 0) hx hb dJ1_init_5 (by decide) ?_
  refine r_put (ci := 6) (ty := .int) (v := .int 0) hF in_J2 tyJ2 tyJ2_ok nmJ2 hG hM hS hq rfl 0 (by decide) q69 (fun _ h => h) rfl (by decide +kernel) rfl rfl (Nat.le_of_ble_eq_true rfl) dJ1_init_6 (fun H locs hM hS => ?_)
  exact k_vret hx hb hr hlocks hG hz hM hS (Nat.le_of_ble_eq_true rfl) (Nat.le_of_ble_eq_true rfl) dJ1_init_9 ⟨rfl, rfl⟩
set_option maxHeartbeats 4000000 in
set_option maxRecDepth 100000 in
theorem metJ2_init {l : Launch} {z : Nat} {E : EE} {M : MM} {q0 : Nat} (hq : M q0 = some (.inr (6, [.int 0, .null, .int 0]))) : Kt l yJ2_init (ws_ yJ2_init cJ2_init 1 none) ({ frames := 30, cells := 0, slots := 0, locals := 900 } : Room) z E [.ref q0] M (pV (fun M' => M' q0 = some (.inr (6, [.int 0, .ref (eN E), .int (nI 0)])) ∧ Own q0 M M')) xNo 0 0 := by
  refine k_body RJ2 (by decide) rfl (Nat.le_of_ble_eq_true rfl) ?_
  intro p e s m args below meth c hx hb hr hml hown hlocks hname hno hts hz hG hM hS ls hl
  have hF : CallFix p m c cJ2_init 1 s args lw_all RJ2 := ⟨hx, hb, hml, hown, hts⟩
  have hl : lv_has ls 1 [(0, .ref q0)] := hl
  refine lv_aload_n hx hb dJ2_init_0 rfl (lv_at hl 0 rfl) ?_
  refine kI (k9 := 0) (n9 := 0) hF hG hz hM hS [] [] (metJ1_init hq) (cwI 0 hts (lw_meth q60) rfl rfl rfl (hts _ q20) (hts _ q58) (hts _ q59) rfl (by decide +kernel) ⟨(Nat.le_of_ble_eq_true rfl), (Nat.le_of_ble_eq_true rfl)⟩) rfl hl.1 rfl (Nat.le_of_ble_eq_true rfl) dJ2_init_1 rfl rfl (Nat.le_of_ble_eq_true rfl) (Nat.le_of_ble_eq_true rfl) (fun _ _ _ _ _ h9 _ _ _ _ _ => h9.elim) (fun v9 M9_1 H locs hp9 hM9_1 hS => ?_)
  obtain ⟨rfl, rfl⟩ := hp9
  have hM := hM9_1
  refine W.eq (g2 := F0 m 4 ls []) rfl ?_
  refine lv_aload_n hx hb dJ2_init_4 rfl (lv_at hl 0 rfl) ?_
  refine va_gets hx hb hG.2.1.1 hS hown (hts _ q65) (fun x h => h) dJ2_init_5 ?_
  refine r_put (ci := 6) (ty := (.array (.object "java/lang/Object"))) (v := .ref (eN E)) hF in_J2 tyJ2 tyJ2_ok nmJ2 hG hM hS mput_s rfl 1 (by decide) q67 (fun _ h => h) rfl (by decide +kernel) rfl rfl (Nat.le_of_ble_eq_true rfl) dJ2_init_8 (fun H locs hM hS => ?_)
  exact k_vret hx hb hr hlocks hG hz hM hS (Nat.le_of_ble_eq_true rfl) (Nat.le_of_ble_eq_true rfl) dJ2_init_11 ⟨rfl, mput_s, Own.put (Own.put Own.rf)⟩
