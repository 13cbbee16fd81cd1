/-! THE PURSE's LEAVES, contract by contract (printed by gen_leaf.py) -/
set_option maxHeartbeats 4000000 in
set_option maxRecDepth 100000 in
theorem metX2_left {l : Launch} {z : Nat} {E : EE} {M : MM} {p : Nat} {la : Nat → Nat} {el : Nat → Nat → Nat} {K : Kp} {cn : Nat → Nat} {lim : Int32} {ar : Nat → Nat → Int32} (hPp : PicP E M p la el K cn lim ar) {k : Nat} (hk : k < cn 0) : Kt l yX2_left (ws_ yX2_left cX2_left 1 (some .int)) ({ frames := 10, cells := 0, slots := 0, locals := 300 } : Room) z E [.ref (el 0 k)] M (pI (fun r M' => r = lef ar k ∧ M = M')) xNo 0 0 := by
  refine k_body RX2 (by decide) rfl (Nat.le_of_ble_eq_true rfl) ?_
  intro p e s m args below meth c hx hb hr hml hown hlocks hname hno hts hz hG hM hS ls hl
  have hF : CallFix p m c cX2_left 1 s args lw_all RX2 := ⟨hx, hb, hml, hown, hts⟩
  have hl : lv_has ls 1 [(0, .ref (el 0 k))] := hl
  refine lv_aload_n hx hb dX2_left_0 rfl (lv_at hl 0 rfl) ?_
  refine r_get (ci := 1) hF in_X2 hG hM (hPp.ac hk) rfl 3 (by decide) q89 (fun _ h => h) (.int (ar 7 k)) rfl dX2_left_1 ?_
  refine lv_aload_n hx hb dX2_left_4 rfl (lv_at hl 0 rfl) ?_
  refine r_get (ci := 1) hF in_X2 hG hM (hPp.ac hk) rfl 4 (by decide) q91 (fun _ h => h) (.int (ar 8 k)) rfl dX2_left_5 ?_
  refine lv_iadd hx hb dX2_left_8 ?_
  refine lv_aload_n hx hb dX2_left_9 rfl (lv_at hl 0 rfl) ?_
  refine r_get (ci := 1) hF in_X2 hG hM (hPp.ac hk) rfl 6 (by decide) q94 (fun _ h => h) (.int (ar 10 k)) rfl dX2_left_10 ?_
  refine lv_isub hx hb dX2_left_13 ?_
  exact k_iret hx hb hr rfl hlocks hG hz hM hS (Nat.le_of_ble_eq_true rfl) (Nat.le_of_ble_eq_true rfl) dX2_left_14 ⟨_, rfl, rfl, rfl⟩
set_option maxHeartbeats 4000000 in
set_option maxRecDepth 100000 in
theorem metX2_isUnder {l : Launch} {z : Nat} {E : EE} {M : MM} {p : Nat} {la : Nat → Nat} {el : Nat → Nat → Nat} {K : Kp} {cn : Nat → Nat} {lim : Int32} {ar : Nat → Nat → Int32} (hPp : PicP E M p la el K cn lim ar) (hW : WF cn lim ar) {b : Nat} (hb0 : b < cn 0) : ∀ (f k : Nat) , k ≤ f → k < cn 0 → Kt l yX2_isUnder (ws_ yX2_isUnder cX2_isUnder 2 (some .boolean)) ({ frames := f + 1, cells := 0, slots := 0, locals := 60 * (f + 1) } : Room) z E [.ref (el 0 k), .ref (el 0 b)] M (pI (fun r M' => bRes (und (ar 0) (nI k) (nI b)) r ∧ M = M')) xNo 0 0 := by
  intro f
  induction f with
  | zero =>
    intro k hkf hk
    refine k_body RX2 (by decide) rfl (Nat.le_of_ble_eq_true rfl) ?_
    intro p e s m args below meth c hx hb hr hml hown hlocks hname hno hts hz hG hM hS ls hl
    have hF : CallFix p m c cX2_isUnder 2 s args lw_all RX2 := ⟨hx, hb, hml, hown, hts⟩
    have hl : lv_has ls 2 [(0, .ref (el 0 k)), (1, .ref (el 0 b))] := hl
    have hwb := hW.b
    rcases hW.ab hk with h9 | ⟨j, hj, h9⟩
    · skip
      refine lv_aload_n hx hb dX2_isUnder_0 rfl (lv_at hl 0 rfl) ?_
      refine lv_aload_n hx hb dX2_isUnder_1 rfl (lv_at hl 1 rfl) ?_
      refine lv_acmp_eq (rx := (some (el 0 k))) (ry := (some (el 0 b))) (tgt := 23) hx hb dX2_isUnder_2 (by decide) (fun c_1 => ?_) (fun c_1 => ?_)
      · have e9 : k = b := hPp.inj 0 (by decide) hk hb0 (Option.some.inj c_1)
        subst e9
        have u9 : und (ar 0) (nI k) (nI k) = true := und_self (by omega)
        refine lv_iconst (v := 1) hx hb dX2_isUnder_23 (by decide) ?_
        refine lv_goto (tgt := 28) hx hb dX2_isUnder_24 (by decide) ?_
        exact k_iret hx hb hr rfl hlocks hG hz hM hS (Nat.le_of_ble_eq_true rfl) (Nat.le_of_ble_eq_true rfl) dX2_isUnder_28 ⟨_, rfl, Or.inl ⟨u9, rfl⟩, rfl⟩
      · have e9 : ¬ nI k = nI b := fun h8 => c_1 (by rw [(nI_eq (by omega) (by omega)).mp h8])
        have u9 : und (ar 0) (nI k) (nI b) = false := und_top (by omega) e9 h9
        refine lv_aload_n hx hb dX2_isUnder_5 rfl (lv_at hl 0 rfl) ?_
        refine r_get (ci := 1) hF in_X2 hG hM (PicP.acN hPp hk h9) rfl 0 (by decide) q85 (fun _ h => h) (.null) rfl dX2_isUnder_6 ?_
        refine lv_ifnullN (tgt := 27) hx hb dX2_isUnder_9 (by decide) ?_
        refine lv_iconst (v := 0) hx hb dX2_isUnder_27 (by decide) ?_
        exact k_iret hx hb hr rfl hlocks hG hz hM hS (Nat.le_of_ble_eq_true rfl) (Nat.le_of_ble_eq_true rfl) dX2_isUnder_28 ⟨_, rfl, Or.inr ⟨u9, rfl⟩, rfl⟩
    · skip
      omega
  | succ f ih =>
    intro k hkf hk
    refine k_body RX2 (by decide) rfl (Nat.le_of_ble_eq_true rfl) ?_
    intro p e s m args below meth c hx hb hr hml hown hlocks hname hno hts hz hG hM hS ls hl
    have hF : CallFix p m c cX2_isUnder 2 s args lw_all RX2 := ⟨hx, hb, hml, hown, hts⟩
    have hl : lv_has ls 2 [(0, .ref (el 0 k)), (1, .ref (el 0 b))] := hl
    have hwb := hW.b
    rcases hW.ab hk with h9 | ⟨j, hj, h9⟩
    · skip
      refine lv_aload_n hx hb dX2_isUnder_0 rfl (lv_at hl 0 rfl) ?_
      refine lv_aload_n hx hb dX2_isUnder_1 rfl (lv_at hl 1 rfl) ?_
      refine lv_acmp_eq (rx := (some (el 0 k))) (ry := (some (el 0 b))) (tgt := 23) hx hb dX2_isUnder_2 (by decide) (fun c_1 => ?_) (fun c_1 => ?_)
      · have e9 : k = b := hPp.inj 0 (by decide) hk hb0 (Option.some.inj c_1)
        subst e9
        have u9 : und (ar 0) (nI k) (nI k) = true := und_self (by omega)
        refine lv_iconst (v := 1) hx hb dX2_isUnder_23 (by decide) ?_
        refine lv_goto (tgt := 28) hx hb dX2_isUnder_24 (by decide) ?_
        exact k_iret hx hb hr rfl hlocks hG hz hM hS (Nat.le_of_ble_eq_true rfl) (Nat.le_of_ble_eq_true rfl) dX2_isUnder_28 ⟨_, rfl, Or.inl ⟨u9, rfl⟩, rfl⟩
      · have e9 : ¬ nI k = nI b := fun h8 => c_1 (by rw [(nI_eq (by omega) (by omega)).mp h8])
        have u9 : und (ar 0) (nI k) (nI b) = false := und_top (by omega) e9 h9
        refine lv_aload_n hx hb dX2_isUnder_5 rfl (lv_at hl 0 rfl) ?_
        refine r_get (ci := 1) hF in_X2 hG hM (PicP.acN hPp hk h9) rfl 0 (by decide) q85 (fun _ h => h) (.null) rfl dX2_isUnder_6 ?_
        refine lv_ifnullN (tgt := 27) hx hb dX2_isUnder_9 (by decide) ?_
        refine lv_iconst (v := 0) hx hb dX2_isUnder_27 (by decide) ?_
        exact k_iret hx hb hr rfl hlocks hG hz hM hS (Nat.le_of_ble_eq_true rfl) (Nat.le_of_ble_eq_true rfl) dX2_isUnder_28 ⟨_, rfl, Or.inr ⟨u9, rfl⟩, rfl⟩
    · skip
      refine lv_aload_n hx hb dX2_isUnder_0 rfl (lv_at hl 0 rfl) ?_
      refine lv_aload_n hx hb dX2_isUnder_1 rfl (lv_at hl 1 rfl) ?_
      refine lv_acmp_eq (rx := (some (el 0 k))) (ry := (some (el 0 b))) (tgt := 23) hx hb dX2_isUnder_2 (by decide) (fun c_2 => ?_) (fun c_2 => ?_)
      · have e9 : k = b := hPp.inj 0 (by decide) hk hb0 (Option.some.inj c_2)
        subst e9
        have u9 : und (ar 0) (nI k) (nI k) = true := und_self (by omega)
        refine lv_iconst (v := 1) hx hb dX2_isUnder_23 (by decide) ?_
        refine lv_goto (tgt := 28) hx hb dX2_isUnder_24 (by decide) ?_
        exact k_iret hx hb hr rfl hlocks hG hz hM hS (Nat.le_of_ble_eq_true rfl) (Nat.le_of_ble_eq_true rfl) dX2_isUnder_28 ⟨_, rfl, Or.inl ⟨u9, rfl⟩, rfl⟩
      · have e9 : ¬ nI k = nI b := fun h8 => c_2 (by rw [(nI_eq (by omega) (by omega)).mp h8])
        have u8 : und (ar 0) (nI k) (nI b) = und (ar 0) (nI j) (nI b) := und_upW hW hk hj e9 h9
        refine lv_aload_n hx hb dX2_isUnder_5 rfl (lv_at hl 0 rfl) ?_
        refine r_get (ci := 1) hF in_X2 hG hM (PicP.acR hPp hk h9 hj hwb.2.1) rfl 0 (by decide) q85 (fun _ h => h) (.ref (el 0 j)) rfl dX2_isUnder_6 ?_
        refine lv_ifnull hx hb dX2_isUnder_9 ?_
        refine lv_aload_n hx hb dX2_isUnder_12 rfl (lv_at hl 0 rfl) ?_
        refine r_get (ci := 1) hF in_X2 hG hM (PicP.acR hPp hk h9 hj hwb.2.1) rfl 0 (by decide) q85 (fun _ h => h) (.ref (el 0 j)) rfl dX2_isUnder_13 ?_
        refine lv_aload_n hx hb dX2_isUnder_16 rfl (lv_at hl 1 rfl) ?_
        refine kV (k9 := 0) (n9 := 0) hF hG hz hM hS [.ref (el 0 b)] [] (ih j (by omega) (by omega)) (cwV 1 hts (lw_V q562 q559 q560 q22 q561) rfl rfl rfl (by decide +kernel) ⟨Nat.le_refl _, (by show 8 + (_ + 11) + 60 * (f + 1) ≤ 60 * (f + 1 + 1); omega)⟩) (k_recv hG hM (PicP.ac hPp (k := j) (by omega)) (ci := 1) rfl) rfl hl.1 rfl (Nat.le_of_ble_eq_true rfl) dX2_isUnder_17 rfl rfl (Nat.le_of_ble_eq_true rfl) (Nat.le_of_ble_eq_true rfl) (fun _ _ _ _ _ h9 _ _ _ _ _ => h9.elim) (fun v9 M9_1 H locs hp9 hM9_1 hS => ?_)
        obtain ⟨r_3, rfl, b9, rfl⟩ := hp9
        have hM := hM9_1
        rcases b9 with ⟨b9, rfl⟩ | ⟨b9, rfl⟩
        · refine W.eq (g2 := F0 m 20 ls [.int 1]) rfl ?_
          have u9 := u8.trans b9
          refine lv_if_eq (tgt := 27) hx hb dX2_isUnder_20 (by decide) (fun c9 => absurd c9 (by decide)) (fun _ => ?_)
          refine lv_iconst (v := 1) hx hb dX2_isUnder_23 (by decide) ?_
          refine lv_goto (tgt := 28) hx hb dX2_isUnder_24 (by decide) ?_
          exact k_iret hx hb hr rfl hlocks hG hz hM hS (Nat.le_of_ble_eq_true rfl) (Nat.le_of_ble_eq_true rfl) dX2_isUnder_28 ⟨_, rfl, Or.inl ⟨u9, rfl⟩, rfl⟩
        · refine W.eq (g2 := F0 m 20 ls [.int 0]) rfl ?_
          have u9 := u8.trans b9
          refine lv_if_eq (tgt := 27) hx hb dX2_isUnder_20 (by decide) (fun _ => ?_) (fun c9 => absurd (by decide) c9)
          refine lv_iconst (v := 0) hx hb dX2_isUnder_27 (by decide) ?_
          exact k_iret hx hb hr rfl hlocks hG hz hM hS (Nat.le_of_ble_eq_true rfl) (Nat.le_of_ble_eq_true rfl) dX2_isUnder_28 ⟨_, rfl, Or.inr ⟨u9, rfl⟩, rfl⟩
set_option maxHeartbeats 4000000 in
set_option maxRecDepth 100000 in
theorem metX2_add {l : Launch} {z : Nat} {E : EE} {p : Nat} {la : Nat → Nat} {el : Nat → Nat → Nat} {cn : Nat → Nat} {lim : Int32} {ar : Nat → Nat → Int32} (hW : WF cn lim ar) {t0 : Nat} (ht0 : t0 < 13) {v : Int32} : ∀ (f k : Nat) (M : MM) (K : Kp) (_ : PicP E M p la el K cn lim ar) , k ≤ f → k < cn 0 → Kt l yX2_add (ws_ yX2_add cX2_add 3 none) ({ frames := f + 1, cells := 0, slots := 0, locals := 60 * (f + 1) } : Room) z E [.ref (el 0 k), .int (nI t0), .int v] M (pV (fun M' => ∃ sc1 : Nat → Nat → Int32, PicP E M' p la el (kSc K sc1) cn lim ar ∧ Fr kP M M' ∧ ∀ i, i < cn 0 → ∀ t, sc1 i t = ksc K i t + gain ar k i t t0 v)) xNo 0 0 := by
  intro f
  induction f with
  | zero =>
    intro k M K hPp hkf hk
    refine k_body RX2 (by decide) rfl (Nat.le_of_ble_eq_true rfl) ?_
    intro p e s m args below meth c hx hb hr hml hown hlocks hname hno hts hz hG hM hS ls hl
    have hF : CallFix p m c cX2_add 3 s args lw_all RX2 := ⟨hx, hb, hml, hown, hts⟩
    have hl : lv_has ls 3 [(0, .ref (el 0 k)), (1, .int (nI t0)), (2, .int v)] := hl
    have hwb := hW.b
    rcases hW.ab hk with h9 | ⟨j, hj, h9⟩
    · skip
      refine lv_aload_n hx hb dX2_add_0 rfl (lv_at hl 0 rfl) ?_
      refine r_get (ci := 1) hF in_X2 hG hM (PicP.acN hPp hk h9) rfl 1 (by decide) q86 (fun _ h => h) (.ref (ksm K k)) rfl dX2_add_1 ?_
      refine lv_iload_n hx hb dX2_add_4 rfl (lv_at hl 1 rfl) ?_
      refine lv_dup2_11 hx hb dX2_add_5 rfl rfl ?_
      refine r_ialdN (n := 13) (f := (ksc K k)) t0 hF hG hM (PicP.sm hPp hk) (by omega) (by decide) rfl dX2_add_6 ?_
      refine lv_iload_n hx hb dX2_add_7 rfl (lv_at hl 2 rfl) ?_
      refine lv_iadd hx hb dX2_add_8 ?_
      refine r_iast (n := 13) (f := (ksc K k)) t0 hF hG hM hS (PicP.sm hPp hk) (by omega) (by decide) rfl dX2_add_9 (fun H locs hM hS => ?_)
      obtain ⟨M1, hM, hPp1, hfr⟩ := PicP.stepSm k hk hPp (Fr.rf) hM
      refine lv_aload_n hx hb dX2_add_10 rfl (lv_at hl 0 rfl) ?_
      refine r_get (ci := 1) hF in_X2 hG hM (PicP.acN hPp1 hk h9) rfl 0 (by decide) q85 (fun _ h => h) (.null) rfl dX2_add_11 ?_
      refine lv_ifnullN (tgt := 26) hx hb dX2_add_14 (by decide) ?_
      exact k_vret hx hb hr hlocks hG hz hM hS (Nat.le_of_ble_eq_true rfl) (Nat.le_of_ble_eq_true rfl) dX2_add_26 ⟨rfl, _, hPp1, hfr, fun i hi t => gain_top (K := K) hW hk h9 hi⟩
    · skip
      omega
  | succ f ih =>
    intro k M K hPp hkf hk
    refine k_body RX2 (by decide) rfl (Nat.le_of_ble_eq_true rfl) ?_
    intro p e s m args below meth c hx hb hr hml hown hlocks hname hno hts hz hG hM hS ls hl
    have hF : CallFix p m c cX2_add 3 s args lw_all RX2 := ⟨hx, hb, hml, hown, hts⟩
    have hl : lv_has ls 3 [(0, .ref (el 0 k)), (1, .int (nI t0)), (2, .int v)] := hl
    have hwb := hW.b
    rcases hW.ab hk with h9 | ⟨j, hj, h9⟩
    · skip
      refine lv_aload_n hx hb dX2_add_0 rfl (lv_at hl 0 rfl) ?_
      refine r_get (ci := 1) hF in_X2 hG hM (PicP.acN hPp hk h9) rfl 1 (by decide) q86 (fun _ h => h) (.ref (ksm K k)) rfl dX2_add_1 ?_
      refine lv_iload_n hx hb dX2_add_4 rfl (lv_at hl 1 rfl) ?_
      refine lv_dup2_11 hx hb dX2_add_5 rfl rfl ?_
      refine r_ialdN (n := 13) (f := (ksc K k)) t0 hF hG hM (PicP.sm hPp hk) (by omega) (by decide) rfl dX2_add_6 ?_
      refine lv_iload_n hx hb dX2_add_7 rfl (lv_at hl 2 rfl) ?_
      refine lv_iadd hx hb dX2_add_8 ?_
      refine r_iast (n := 13) (f := (ksc K k)) t0 hF hG hM hS (PicP.sm hPp hk) (by omega) (by decide) rfl dX2_add_9 (fun H locs hM hS => ?_)
      obtain ⟨M1, hM, hPp1, hfr⟩ := PicP.stepSm k hk hPp (Fr.rf) hM
      refine lv_aload_n hx hb dX2_add_10 rfl (lv_at hl 0 rfl) ?_
      refine r_get (ci := 1) hF in_X2 hG hM (PicP.acN hPp1 hk h9) rfl 0 (by decide) q85 (fun _ h => h) (.null) rfl dX2_add_11 ?_
      refine lv_ifnullN (tgt := 26) hx hb dX2_add_14 (by decide) ?_
      exact k_vret hx hb hr hlocks hG hz hM hS (Nat.le_of_ble_eq_true rfl) (Nat.le_of_ble_eq_true rfl) dX2_add_26 ⟨rfl, _, hPp1, hfr, fun i hi t => gain_top (K := K) hW hk h9 hi⟩
    · skip
      refine lv_aload_n hx hb dX2_add_0 rfl (lv_at hl 0 rfl) ?_
      refine r_get (ci := 1) hF in_X2 hG hM (PicP.acR hPp hk h9 hj hwb.2.1) rfl 1 (by decide) q86 (fun _ h => h) (.ref (ksm K k)) rfl dX2_add_1 ?_
      refine lv_iload_n hx hb dX2_add_4 rfl (lv_at hl 1 rfl) ?_
      refine lv_dup2_11 hx hb dX2_add_5 rfl rfl ?_
      refine r_ialdN (n := 13) (f := (ksc K k)) t0 hF hG hM (PicP.sm hPp hk) (by omega) (by decide) rfl dX2_add_6 ?_
      refine lv_iload_n hx hb dX2_add_7 rfl (lv_at hl 2 rfl) ?_
      refine lv_iadd hx hb dX2_add_8 ?_
      refine r_iast (n := 13) (f := (ksc K k)) t0 hF hG hM hS (PicP.sm hPp hk) (by omega) (by decide) rfl dX2_add_9 (fun H locs hM hS => ?_)
      obtain ⟨M1, hM, hPp1, hfr⟩ := PicP.stepSm k hk hPp (Fr.rf) hM
      refine lv_aload_n hx hb dX2_add_10 rfl (lv_at hl 0 rfl) ?_
      refine r_get (ci := 1) hF in_X2 hG hM (PicP.acR hPp1 hk h9 hj hwb.2.1) rfl 0 (by decide) q85 (fun _ h => h) (.ref (el 0 j)) rfl dX2_add_11 ?_
      refine lv_ifnull hx hb dX2_add_14 ?_
      refine lv_aload_n hx hb dX2_add_17 rfl (lv_at hl 0 rfl) ?_
      refine r_get (ci := 1) hF in_X2 hG hM (PicP.acR hPp1 hk h9 hj hwb.2.1) rfl 0 (by decide) q85 (fun _ h => h) (.ref (el 0 j)) rfl dX2_add_18 ?_
      refine lv_iload_n hx hb dX2_add_21 rfl (lv_at hl 1 rfl) ?_
      refine lv_iload_n hx hb dX2_add_22 rfl (lv_at hl 2 rfl) ?_
      refine kV (k9 := 0) (n9 := 0) hF hG hz hM hS [.int (nI t0), .int v] [] (ih j M1 _ hPp1 (by omega) (by omega)) (cwV 2 hts (lw_V q480 q477 q478 q22 q479) rfl rfl rfl (by decide +kernel) ⟨Nat.le_refl _, (by show 8 + (_ + 11) + 60 * (f + 1) ≤ 60 * (f + 1 + 1); omega)⟩) (k_recv hG hM (PicP.ac hPp1 (k := j) (by omega)) (ci := 1) rfl) rfl hl.1 rfl (Nat.le_of_ble_eq_true rfl) dX2_add_23 rfl rfl (Nat.le_of_ble_eq_true rfl) (Nat.le_of_ble_eq_true rfl) (fun _ _ _ _ _ h9 _ _ _ _ _ => h9.elim) (fun v9 M9_1 H locs hp9 hM9_1 hS => ?_)
      obtain ⟨rfl, sc1, hq1, hq2, hq3⟩ := hp9
      have hM := hM9_1
      refine W.eq (g2 := F0 m 26 ls []) rfl ?_
      exact k_vret hx hb hr hlocks hG hz hM hS (Nat.le_of_ble_eq_true rfl) (Nat.le_of_ble_eq_true rfl) dX2_add_26 ⟨rfl, sc1, hq1, hfr.tr hq2, fun i hi t => (hq3 i hi t).trans (gain_rec (K := K) hW hk hj h9 hi)⟩
set_option maxHeartbeats 4000000 in
set_option maxRecDepth 100000 in
theorem metX2_initN {l : Launch} {z : Nat} {E : EE} {M : MM} {b : Nat} (hb0 : M b = some (.inr (1, [.null, .null, .int 0, .int 0, .int 0, .int 0, .int 0]))) : Kt l yX2_init (ws_ yX2_init cX2_init 2 none) ({ frames := 20, cells := 1, slots := 13, locals := 600 } : Room) z E [.ref b, .null] M (pV (fun M' => ∃ q, M q = none ∧ M' q = some (.inl (eI E, 13, .inl (fun _ => 0))) ∧ M' b = some (.inr (1, [.null, .ref q, .int 0, .int 0, .int 0, .int 0, .int 0])) ∧ Own b M M')) xNo 1 13 := by
  refine k_body RX2 (by decide) rfl (Nat.le_of_ble_eq_true rfl) ?_
  intro p e s m args below meth c hx hb hr hml hown hlocks hname hno hts hz hG hM hS ls hl
  have hF : CallFix p m c cX2_init 2 s args lw_all RX2 := ⟨hx, hb, hml, hown, hts⟩
  have hl : lv_has ls 2 [(0, .ref b), (1, .null)] := hl
  refine lv_aload_n hx hb dX2_init_0 rfl (lv_at hl 0 rfl) ?_
  refine W.objInit hx hb hown (hts _ q84) (hts _ q51) (hts _ q52) rfl (by rw [hml]; exact hl.1) rfl dX2_init_1 (Nat.le_of_ble_eq_true rfl) (Nat.le_of_ble_eq_true rfl) ?_
  refine lv_aload_n hx hb dX2_init_4 rfl (lv_at hl 0 rfl) ?_
  refine lv_bipush (v := 13) hx hb dX2_init_5 (by decide) ?_
  refine r_newI 13 hF q111 hz hG hM hS rfl (by decide) (k := 1) (n := 13) rfl rfl (Nat.le_of_ble_eq_true rfl) (Nat.le_of_ble_eq_true rfl) dX2_init_7 (fun q_1 H hnq_1 hzq_1 hM hS => ?_)
  have hb1 := (Ext.new (M := M) (e := .inl (eI E, 13, .inl (fun _ => 0))) Ext.rf hnq_1) _ _ hb0
  refine r_putF (ci := 1) (ty := (.array .int)) (v := .ref q_1) hF in_X2 tyX2 tyX2_ok nmX2 hG hM hS hb1 rfl 1 (by decide) q86 (fun _ h => h) rfl hname rfl (by decide +kernel) rfl rfl (Nat.le_of_ble_eq_true rfl) dX2_init_9 (fun H locs hM hS => ?_)
  refine lv_aload_n hx hb dX2_init_12 rfl (lv_at hl 0 rfl) ?_
  refine lv_aload_nN hx hb dX2_init_13 rfl (lv_at hl 1 rfl) ?_
  refine r_putF (ci := 1) (ty := (.object "TownPurse$Account")) (v := .null) hF in_X2 tyX2 tyX2_ok nmX2 hG hM hS mput_s rfl 0 (by decide) q85 (fun _ h => h) rfl hname rfl (by decide +kernel) rfl rfl (Nat.le_of_ble_eq_true rfl) dX2_init_14 (fun H locs hM hS => ?_)
  exact k_vret hx hb hr hlocks hG hz hM hS (Nat.le_of_ble_eq_true rfl) (Nat.le_of_ble_eq_true rfl) dX2_init_17 ⟨rfl, q_1, hnq_1, (by rw [mput_n (Ne.symm (ne_new hb0 hnq_1)), mput_n (Ne.symm (ne_new hb0 hnq_1))]; exact mput_s), mput_s, Own.put (Own.put (Ext.Own (Ext.new Ext.rf hnq_1)))⟩
set_option maxHeartbeats 4000000 in
set_option maxRecDepth 100000 in
theorem metX2_initR {l : Launch} {z : Nat} {E : EE} {M : MM} {b : Nat} {x : Nat} (hb0 : M b = some (.inr (1, [.null, .null, .int 0, .int 0, .int 0, .int 0, .int 0]))) : Kt l yX2_init (ws_ yX2_init cX2_init 2 none) ({ frames := 20, cells := 1, slots := 13, locals := 600 } : Room) z E [.ref b, .ref x] M (pV (fun M' => ∃ q, M q = none ∧ M' q = some (.inl (eI E, 13, .inl (fun _ => 0))) ∧ M' b = some (.inr (1, [.ref x, .ref q, .int 0, .int 0, .int 0, .int 0, .int 0])) ∧ Own b M M')) xNo 1 13 := by
  refine k_body RX2 (by decide) rfl (Nat.le_of_ble_eq_true rfl) ?_
  intro p e s m args below meth c hx hb hr hml hown hlocks hname hno hts hz hG hM hS ls hl
  have hF : CallFix p m c cX2_init 2 s args lw_all RX2 := ⟨hx, hb, hml, hown, hts⟩
  have hl : lv_has ls 2 [(0, .ref b), (1, .ref x)] := hl
  refine lv_aload_n hx hb dX2_init_0 rfl (lv_at hl 0 rfl) ?_
  refine W.objInit hx hb hown (hts _ q84) (hts _ q51) (hts _ q52) rfl (by rw [hml]; exact hl.1) rfl dX2_init_1 (Nat.le_of_ble_eq_true rfl) (Nat.le_of_ble_eq_true rfl) ?_
  refine lv_aload_n hx hb dX2_init_4 rfl (lv_at hl 0 rfl) ?_
  refine lv_bipush (v := 13) hx hb dX2_init_5 (by decide) ?_
  refine r_newI 13 hF q111 hz hG hM hS rfl (by decide) (k := 1) (n := 13) rfl rfl (Nat.le_of_ble_eq_true rfl) (Nat.le_of_ble_eq_true rfl) dX2_init_7 (fun q_1 H hnq_1 hzq_1 hM hS => ?_)
  have hb1 := (Ext.new (M := M) (e := .inl (eI E, 13, .inl (fun _ => 0))) Ext.rf hnq_1) _ _ hb0
  refine r_putF (ci := 1) (ty := (.array .int)) (v := .ref q_1) hF in_X2 tyX2 tyX2_ok nmX2 hG hM hS hb1 rfl 1 (by decide) q86 (fun _ h => h) rfl hname rfl (by decide +kernel) rfl rfl (Nat.le_of_ble_eq_true rfl) dX2_init_9 (fun H locs hM hS => ?_)
  refine lv_aload_n hx hb dX2_init_12 rfl (lv_at hl 0 rfl) ?_
  refine lv_aload_n hx hb dX2_init_13 rfl (lv_at hl 1 rfl) ?_
  refine r_putF (ci := 1) (ty := (.object "TownPurse$Account")) (v := .ref x) hF in_X2 tyX2 tyX2_ok nmX2 hG hM hS mput_s rfl 0 (by decide) q85 (fun _ h => h) rfl hname rfl (by decide +kernel) rfl rfl (Nat.le_of_ble_eq_true rfl) dX2_init_14 (fun H locs hM hS => ?_)
  exact k_vret hx hb hr hlocks hG hz hM hS (Nat.le_of_ble_eq_true rfl) (Nat.le_of_ble_eq_true rfl) dX2_init_17 ⟨rfl, q_1, hnq_1, (by rw [mput_n (Ne.symm (ne_new hb0 hnq_1)), mput_n (Ne.symm (ne_new hb0 hnq_1))]; exact mput_s), mput_s, Own.put (Own.put (Ext.Own (Ext.new Ext.rf hnq_1)))⟩
set_option maxHeartbeats 4000000 in
set_option maxRecDepth 100000 in
theorem metJ16_init {l : Launch} {z : Nat} {E : EE} {M : MM} {b : Nat} : Kt l yJ16_init (ws_ yJ16_init cJ16_init 1 none) ({ frames := 10, cells := 0, slots := 0, locals := 300 } : Room) z E [.ref b] M (pV (fun M' => M = M')) xNo 0 0 := by
  refine k_body RJ16 (by decide) rfl (Nat.le_of_ble_eq_true rfl) ?_
  intro p e s m args below meth c hx hb hr hml hown hlocks hname hno hts hz hG hM hS ls hl
  have hF : CallFix p m c cJ16_init 1 s args lw_all RJ16 := ⟨hx, hb, hml, hown, hts⟩
  have hl : lv_has ls 1 [(0, .ref b)] := hl
  refine lv_aload_n hx hb dJ16_init_0 rfl (lv_at hl 0 rfl) ?_
  refine W.objInit hx hb hown (hts _ q395) (hts _ q51) (hts _ q52) rfl (by rw [hml]; exact hl.1) rfl dJ16_init_1 (Nat.le_of_ble_eq_true rfl) (Nat.le_of_ble_eq_true rfl) ?_
  exact k_vret hx hb hr hlocks hG hz hM hS (Nat.le_of_ble_eq_true rfl) (Nat.le_of_ble_eq_true rfl) dJ16_init_4 ⟨rfl, rfl⟩
set_option maxHeartbeats 4000000 in
set_option maxRecDepth 100000 in
theorem metX4_init {l : Launch} {z : Nat} {E : EE} {M : MM} {b t f : Nat} (pe am : Int32) (hb0 : M b = some (.inr (2, [.int 0, .null, .null, .int 0]))) : Kt l yX4_init (ws_ yX4_init cX4_init 5 none) ({ frames := 20, cells := 0, slots := 0, locals := 600 } : Room) z E [.ref b, .int pe, .ref t, .ref f, .int am] M (pV (fun M' => M' b = some (.inr (2, [.int pe, .ref t, .ref f, .int am])) ∧ Own b M M')) xNo 0 0 := by
  refine k_body RX4 (by decide) rfl (Nat.le_of_ble_eq_true rfl) ?_
  intro p e s m args below meth c hx hb hr hml hown hlocks hname hno hts hz hG hM hS ls hl
  have hF : CallFix p m c cX4_init 5 s args lw_all RX4 := ⟨hx, hb, hml, hown, hts⟩
  have hl : lv_has ls 5 [(0, .ref b), (1, .int pe), (2, .ref t), (3, .ref f), (4, .int am)] := hl
  refine lv_aload_n hx hb dX4_init_0 rfl (lv_at hl 0 rfl) ?_
  refine kI (k9 := 0) (n9 := 0) hF hG hz hM hS [] [] (metJ16_init (b := b)) (cwI 0 hts (lw_meth q394) rfl rfl rfl (hts _ q38) (hts _ q392) (hts _ q393) rfl (by decide +kernel) ⟨(Nat.le_of_ble_eq_true rfl), (Nat.le_of_ble_eq_true rfl)⟩) rfl hl.1 rfl (Nat.le_of_ble_eq_true rfl) dX4_init_1 rfl rfl (Nat.le_of_ble_eq_true rfl) (Nat.le_of_ble_eq_true rfl) (fun _ _ _ _ _ h9 _ _ _ _ _ => h9.elim) (fun v9 M9_1 H locs hp9 hM9_1 hS => ?_)
  obtain ⟨rfl, rfl⟩ := hp9
  have hM := hM9_1
  refine W.eq (g2 := F0 m 4 ls []) rfl ?_
  refine lv_aload_n hx hb dX4_init_4 rfl (lv_at hl 0 rfl) ?_
  refine lv_iload_n hx hb dX4_init_5 rfl (lv_at hl 1 rfl) ?_
  refine r_putF (ci := 2) (ty := .int) (v := .int pe) hF in_X4 tyX4 tyX4_ok nmX4 hG hM hS hb0 rfl 0 (by decide) q396 (fun _ h => h) rfl hname rfl (by decide +kernel) rfl rfl (Nat.le_of_ble_eq_true rfl) dX4_init_6 (fun H locs hM hS => ?_)
  refine lv_aload_n hx hb dX4_init_9 rfl (lv_at hl 0 rfl) ?_
  refine lv_aload_n hx hb dX4_init_10 rfl (lv_at hl 2 rfl) ?_
  refine r_putF (ci := 2) (ty := (.object "TownPurse$Account")) (v := .ref t) hF in_X4 tyX4 tyX4_ok nmX4 hG hM hS mput_s rfl 1 (by decide) q397 (fun _ h => h) rfl hname rfl (by decide +kernel) rfl rfl (Nat.le_of_ble_eq_true rfl) dX4_init_11 (fun H locs hM hS => ?_)
  refine lv_aload_n hx hb dX4_init_14 rfl (lv_at hl 0 rfl) ?_
  refine lv_aload_n hx hb dX4_init_15 rfl (lv_at hl 3 rfl) ?_
  refine r_putF (ci := 2) (ty := (.object "TownPurse$Account")) (v := .ref f) hF in_X4 tyX4 tyX4_ok nmX4 hG hM hS mput_s rfl 2 (by decide) q398 (fun _ h => h) rfl hname rfl (by decide +kernel) rfl rfl (Nat.le_of_ble_eq_true rfl) dX4_init_16 (fun H locs hM hS => ?_)
  refine lv_aload_n hx hb dX4_init_19 rfl (lv_at hl 0 rfl) ?_
  refine lv_iload hx hb dX4_init_20 (lv_at hl 4 rfl) ?_
  refine r_putF (ci := 2) (ty := .int) (v := .int am) hF in_X4 tyX4 tyX4_ok nmX4 hG hM hS mput_s rfl 3 (by decide) q399 (fun _ h => h) rfl hname rfl (by decide +kernel) rfl rfl (Nat.le_of_ble_eq_true rfl) dX4_init_22 (fun H locs hM hS => ?_)
  exact k_vret hx hb hr hlocks hG hz hM hS (Nat.le_of_ble_eq_true rfl) (Nat.le_of_ble_eq_true rfl) dX4_init_25 ⟨rfl, mput_s, Own.put (Own.put (Own.put (Own.put Own.rf)))⟩
set_option maxHeartbeats 4000000 in
set_option maxRecDepth 100000 in
theorem metX4_period {l : Launch} {z : Nat} {E : EE} {M : MM} {b t f : Nat} {pe am : Int32} (hb0 : M b = some (.inr (2, [.int pe, .ref t, .ref f, .int am]))) : Kt l yX4_period (ws_ yX4_period cX4_period 1 (some .int)) ({ frames := 10, cells := 0, slots := 0, locals := 300 } : Room) z E [.ref b] M (pI (fun r M' => r = pe ∧ M = M')) xNo 0 0 := by
  refine k_body RX4 (by decide) rfl (Nat.le_of_ble_eq_true rfl) ?_
  intro p e s m args below meth c hx hb hr hml hown hlocks hname hno hts hz hG hM hS ls hl
  have hF : CallFix p m c cX4_period 1 s args lw_all RX4 := ⟨hx, hb, hml, hown, hts⟩
  have hl : lv_has ls 1 [(0, .ref b)] := hl
  refine lv_aload_n hx hb dX4_period_0 rfl (lv_at hl 0 rfl) ?_
  refine r_get (ci := 2) hF in_X4 hG hM hb0 rfl 0 (by decide) q396 (fun _ h => h) (.int pe) rfl dX4_period_1 ?_
  exact k_iret hx hb hr rfl hlocks hG hz hM hS (Nat.le_of_ble_eq_true rfl) (Nat.le_of_ble_eq_true rfl) dX4_period_4 ⟨_, rfl, rfl, rfl⟩
set_option maxHeartbeats 4000000 in
set_option maxRecDepth 100000 in
theorem metX4_amount {l : Launch} {z : Nat} {E : EE} {M : MM} {b t f : Nat} {pe am : Int32} (hb0 : M b = some (.inr (2, [.int pe, .ref t, .ref f, .int am]))) : Kt l yX4_amount (ws_ yX4_amount cX4_amount 1 (some .int)) ({ frames := 10, cells := 0, slots := 0, locals := 300 } : Room) z E [.ref b] M (pI (fun r M' => r = am ∧ M = M')) xNo 0 0 := by
  refine k_body RX4 (by decide) rfl (Nat.le_of_ble_eq_true rfl) ?_
  intro p e s m args below meth c hx hb hr hml hown hlocks hname hno hts hz hG hM hS ls hl
  have hF : CallFix p m c cX4_amount 1 s args lw_all RX4 := ⟨hx, hb, hml, hown, hts⟩
  have hl : lv_has ls 1 [(0, .ref b)] := hl
  refine lv_aload_n hx hb dX4_amount_0 rfl (lv_at hl 0 rfl) ?_
  refine r_get (ci := 2) hF in_X4 hG hM hb0 rfl 3 (by decide) q399 (fun _ h => h) (.int am) rfl dX4_amount_1 ?_
  exact k_iret hx hb hr rfl hlocks hG hz hM hS (Nat.le_of_ble_eq_true rfl) (Nat.le_of_ble_eq_true rfl) dX4_amount_4 ⟨_, rfl, rfl, rfl⟩
set_option maxHeartbeats 4000000 in
set_option maxRecDepth 100000 in
theorem metX4_to {l : Launch} {z : Nat} {E : EE} {M : MM} {b t f : Nat} {pe am : Int32} (hb0 : M b = some (.inr (2, [.int pe, .ref t, .ref f, .int am]))) : Kt l yX4_to (ws_ yX4_to cX4_to 1 (some (.object "TownPurse$Account"))) ({ frames := 10, cells := 0, slots := 0, locals := 300 } : Room) z E [.ref b] M (pA (fun r M' => r = t ∧ M = M')) xNo 0 0 := by
  refine k_body RX4 (by decide) rfl (Nat.le_of_ble_eq_true rfl) ?_
  intro p e s m args below meth c hx hb hr hml hown hlocks hname hno hts hz hG hM hS ls hl
  have hF : CallFix p m c cX4_to 1 s args lw_all RX4 := ⟨hx, hb, hml, hown, hts⟩
  have hl : lv_has ls 1 [(0, .ref b)] := hl
  refine lv_aload_n hx hb dX4_to_0 rfl (lv_at hl 0 rfl) ?_
  refine r_get (ci := 2) hF in_X4 hG hM hb0 rfl 1 (by decide) q397 (fun _ h => h) (.ref t) rfl dX4_to_1 ?_
  exact k_aret hx hb hr (Or.inl ⟨_, rfl⟩) hlocks hG hz hM hS (Nat.le_of_ble_eq_true rfl) (Nat.le_of_ble_eq_true rfl) dX4_to_4 ⟨_, rfl, rfl, rfl⟩
set_option maxHeartbeats 4000000 in
set_option maxRecDepth 100000 in
theorem metX4_from {l : Launch} {z : Nat} {E : EE} {M : MM} {b t f : Nat} {pe am : Int32} (hb0 : M b = some (.inr (2, [.int pe, .ref t, .ref f, .int am]))) : Kt l yX4_from (ws_ yX4_from cX4_from 1 (some (.object "TownPurse$Account"))) ({ frames := 10, cells := 0, slots := 0, locals := 300 } : Room) z E [.ref b] M (pA (fun r M' => r = f ∧ M = M')) xNo 0 0 := by
  refine k_body RX4 (by decide) rfl (Nat.le_of_ble_eq_true rfl) ?_
  intro p e s m args below meth c hx hb hr hml hown hlocks hname hno hts hz hG hM hS ls hl
  have hF : CallFix p m c cX4_from 1 s args lw_all RX4 := ⟨hx, hb, hml, hown, hts⟩
  have hl : lv_has ls 1 [(0, .ref b)] := hl
  refine lv_aload_n hx hb dX4_from_0 rfl (lv_at hl 0 rfl) ?_
  refine r_get (ci := 2) hF in_X4 hG hM hb0 rfl 2 (by decide) q398 (fun _ h => h) (.ref f) rfl dX4_from_1 ?_
  exact k_aret hx hb hr (Or.inl ⟨_, rfl⟩) hlocks hG hz hM hS (Nat.le_of_ble_eq_true rfl) (Nat.le_of_ble_eq_true rfl) dX4_from_4 ⟨_, rfl, rfl, rfl⟩
set_option maxHeartbeats 4000000 in
set_option maxRecDepth 100000 in
theorem metX4_isLate {l : Launch} {z : Nat} {E : EE} {M : MM} {b : Nat} : Kt l yX4_isLate (ws_ yX4_isLate cX4_isLate 1 (some .boolean)) ({ frames := 10, cells := 0, slots := 0, locals := 300 } : Room) z E [.ref b] M (pI (fun r M' => r = 1 ∧ M = M')) xNo 0 0 := by
  refine k_body RX4 (by decide) rfl (Nat.le_of_ble_eq_true rfl) ?_
  intro p e s m args below meth c hx hb hr hml hown hlocks hname hno hts hz hG hM hS ls hl
  have hF : CallFix p m c cX4_isLate 1 s args lw_all RX4 := ⟨hx, hb, hml, hown, hts⟩
  have hl : lv_has ls 1 [(0, .ref b)] := hl
  refine lv_iconst (v := 1) hx hb dX4_isLate_0 (by decide) ?_
  exact k_iret hx hb hr rfl hlocks hG hz hM hS (Nat.le_of_ble_eq_true rfl) (Nat.le_of_ble_eq_true rfl) dX4_isLate_1 ⟨_, rfl, rfl, rfl⟩
set_option maxHeartbeats 4000000 in
set_option maxRecDepth 100000 in
theorem metX5_init {l : Launch} {z : Nat} {E : EE} {M : MM} {b t f : Nat} (pe am : Int32) (hb0 : M b = some (.inr (3, [.int 0, .null, .null, .int 0]))) : Kt l yX5_init (ws_ yX5_init cX5_init 5 none) ({ frames := 20, cells := 0, slots := 0, locals := 600 } : Room) z E [.ref b, .int pe, .ref t, .ref f, .int am] M (pV (fun M' => M' b = some (.inr (3, [.int pe, .ref t, .ref f, .int am])) ∧ Own b M M')) xNo 0 0 := by
  refine k_body RX5 (by decide) rfl (Nat.le_of_ble_eq_true rfl) ?_
  intro p e s m args below meth c hx hb hr hml hown hlocks hname hno hts hz hG hM hS ls hl
  have hF : CallFix p m c cX5_init 5 s args lw_all RX5 := ⟨hx, hb, hml, hown, hts⟩
  have hl : lv_has ls 5 [(0, .ref b), (1, .int pe), (2, .ref t), (3, .ref f), (4, .int am)] := hl
  refine lv_aload_n hx hb dX5_init_0 rfl (lv_at hl 0 rfl) ?_
  refine kI (k9 := 0) (n9 := 0) hF hG hz hM hS [] [] (metJ16_init (b := b)) (cwI 0 hts (lw_meth q394) rfl rfl rfl (hts _ q38) (hts _ q414) (hts _ q393) rfl (by decide +kernel) ⟨(Nat.le_of_ble_eq_true rfl), (Nat.le_of_ble_eq_true rfl)⟩) rfl hl.1 rfl (Nat.le_of_ble_eq_true rfl) dX5_init_1 rfl rfl (Nat.le_of_ble_eq_true rfl) (Nat.le_of_ble_eq_true rfl) (fun _ _ _ _ _ h9 _ _ _ _ _ => h9.elim) (fun v9 M9_1 H locs hp9 hM9_1 hS => ?_)
  obtain ⟨rfl, rfl⟩ := hp9
  have hM := hM9_1
  refine W.eq (g2 := F0 m 4 ls []) rfl ?_
  refine lv_aload_n hx hb dX5_init_4 rfl (lv_at hl 0 rfl) ?_
  refine lv_iload_n hx hb dX5_init_5 rfl (lv_at hl 1 rfl) ?_
  refine r_putF (ci := 3) (ty := .int) (v := .int pe) hF in_X5 tyX5 tyX5_ok nmX5 hG hM hS hb0 rfl 0 (by decide) q415 (fun _ h => h) rfl hname rfl (by decide +kernel) rfl rfl (Nat.le_of_ble_eq_true rfl) dX5_init_6 (fun H locs hM hS => ?_)
  refine lv_aload_n hx hb dX5_init_9 rfl (lv_at hl 0 rfl) ?_
  refine lv_aload_n hx hb dX5_init_10 rfl (lv_at hl 2 rfl) ?_
  refine r_putF (ci := 3) (ty := (.object "TownPurse$Account")) (v := .ref t) hF in_X5 tyX5 tyX5_ok nmX5 hG hM hS mput_s rfl 1 (by decide) q416 (fun _ h => h) rfl hname rfl (by decide +kernel) rfl rfl (Nat.le_of_ble_eq_true rfl) dX5_init_11 (fun H locs hM hS => ?_)
  refine lv_aload_n hx hb dX5_init_14 rfl (lv_at hl 0 rfl) ?_
  refine lv_aload_n hx hb dX5_init_15 rfl (lv_at hl 3 rfl) ?_
  refine r_putF (ci := 3) (ty := (.object "TownPurse$Account")) (v := .ref f) hF in_X5 tyX5 tyX5_ok nmX5 hG hM hS mput_s rfl 2 (by decide) q417 (fun _ h => h) rfl hname rfl (by decide +kernel) rfl rfl (Nat.le_of_ble_eq_true rfl) dX5_init_16 (fun H locs hM hS => ?_)
  refine lv_aload_n hx hb dX5_init_19 rfl (lv_at hl 0 rfl) ?_
  refine lv_iload hx hb dX5_init_20 (lv_at hl 4 rfl) ?_
  refine r_putF (ci := 3) (ty := .int) (v := .int am) hF in_X5 tyX5 tyX5_ok nmX5 hG hM hS mput_s rfl 3 (by decide) q418 (fun _ h => h) rfl hname rfl (by decide +kernel) rfl rfl (Nat.le_of_ble_eq_true rfl) dX5_init_22 (fun H locs hM hS => ?_)
  exact k_vret hx hb hr hlocks hG hz hM hS (Nat.le_of_ble_eq_true rfl) (Nat.le_of_ble_eq_true rfl) dX5_init_25 ⟨rfl, mput_s, Own.put (Own.put (Own.put (Own.put Own.rf)))⟩
set_option maxHeartbeats 4000000 in
set_option maxRecDepth 100000 in
theorem metX5_period {l : Launch} {z : Nat} {E : EE} {M : MM} {b t f : Nat} {pe am : Int32} (hb0 : M b = some (.inr (3, [.int pe, .ref t, .ref f, .int am]))) : Kt l yX5_period (ws_ yX5_period cX5_period 1 (some .int)) ({ frames := 10, cells := 0, slots := 0, locals := 300 } : Room) z E [.ref b] M (pI (fun r M' => r = pe ∧ M = M')) xNo 0 0 := by
  refine k_body RX5 (by decide) rfl (Nat.le_of_ble_eq_true rfl) ?_
  intro p e s m args below meth c hx hb hr hml hown hlocks hname hno hts hz hG hM hS ls hl
  have hF : CallFix p m c cX5_period 1 s args lw_all RX5 := ⟨hx, hb, hml, hown, hts⟩
  have hl : lv_has ls 1 [(0, .ref b)] := hl
  refine lv_aload_n hx hb dX5_period_0 rfl (lv_at hl 0 rfl) ?_
  refine r_get (ci := 3) hF in_X5 hG hM hb0 rfl 0 (by decide) q415 (fun _ h => h) (.int pe) rfl dX5_period_1 ?_
  exact k_iret hx hb hr rfl hlocks hG hz hM hS (Nat.le_of_ble_eq_true rfl) (Nat.le_of_ble_eq_true rfl) dX5_period_4 ⟨_, rfl, rfl, rfl⟩
set_option maxHeartbeats 4000000 in
set_option maxRecDepth 100000 in
theorem metX5_amount {l : Launch} {z : Nat} {E : EE} {M : MM} {b t f : Nat} {pe am : Int32} (hb0 : M b = some (.inr (3, [.int pe, .ref t, .ref f, .int am]))) : Kt l yX5_amount (ws_ yX5_amount cX5_amount 1 (some .int)) ({ frames := 10, cells := 0, slots := 0, locals := 300 } : Room) z E [.ref b] M (pI (fun r M' => r = am ∧ M = M')) xNo 0 0 := by
  refine k_body RX5 (by decide) rfl (Nat.le_of_ble_eq_true rfl) ?_
  intro p e s m args below meth c hx hb hr hml hown hlocks hname hno hts hz hG hM hS ls hl
  have hF : CallFix p m c cX5_amount 1 s args lw_all RX5 := ⟨hx, hb, hml, hown, hts⟩
  have hl : lv_has ls 1 [(0, .ref b)] := hl
  refine lv_aload_n hx hb dX5_amount_0 rfl (lv_at hl 0 rfl) ?_
  refine r_get (ci := 3) hF in_X5 hG hM hb0 rfl 3 (by decide) q418 (fun _ h => h) (.int am) rfl dX5_amount_1 ?_
  exact k_iret hx hb hr rfl hlocks hG hz hM hS (Nat.le_of_ble_eq_true rfl) (Nat.le_of_ble_eq_true rfl) dX5_amount_4 ⟨_, rfl, rfl, rfl⟩
set_option maxHeartbeats 4000000 in
set_option maxRecDepth 100000 in
theorem metX5_to {l : Launch} {z : Nat} {E : EE} {M : MM} {b t f : Nat} {pe am : Int32} (hb0 : M b = some (.inr (3, [.int pe, .ref t, .ref f, .int am]))) : Kt l yX5_to (ws_ yX5_to cX5_to 1 (some (.object "TownPurse$Account"))) ({ frames := 10, cells := 0, slots := 0, locals := 300 } : Room) z E [.ref b] M (pA (fun r M' => r = t ∧ M = M')) xNo 0 0 := by
  refine k_body RX5 (by decide) rfl (Nat.le_of_ble_eq_true rfl) ?_
  intro p e s m args below meth c hx hb hr hml hown hlocks hname hno hts hz hG hM hS ls hl
  have hF : CallFix p m c cX5_to 1 s args lw_all RX5 := ⟨hx, hb, hml, hown, hts⟩
  have hl : lv_has ls 1 [(0, .ref b)] := hl
  refine lv_aload_n hx hb dX5_to_0 rfl (lv_at hl 0 rfl) ?_
  refine r_get (ci := 3) hF in_X5 hG hM hb0 rfl 1 (by decide) q416 (fun _ h => h) (.ref t) rfl dX5_to_1 ?_
  exact k_aret hx hb hr (Or.inl ⟨_, rfl⟩) hlocks hG hz hM hS (Nat.le_of_ble_eq_true rfl) (Nat.le_of_ble_eq_true rfl) dX5_to_4 ⟨_, rfl, rfl, rfl⟩
set_option maxHeartbeats 4000000 in
set_option maxRecDepth 100000 in
theorem metX5_from {l : Launch} {z : Nat} {E : EE} {M : MM} {b t f : Nat} {pe am : Int32} (hb0 : M b = some (.inr (3, [.int pe, .ref t, .ref f, .int am]))) : Kt l yX5_from (ws_ yX5_from cX5_from 1 (some (.object "TownPurse$Account"))) ({ frames := 10, cells := 0, slots := 0, locals := 300 } : Room) z E [.ref b] M (pA (fun r M' => r = f ∧ M = M')) xNo 0 0 := by
  refine k_body RX5 (by decide) rfl (Nat.le_of_ble_eq_true rfl) ?_
  intro p e s m args below meth c hx hb hr hml hown hlocks hname hno hts hz hG hM hS ls hl
  have hF : CallFix p m c cX5_from 1 s args lw_all RX5 := ⟨hx, hb, hml, hown, hts⟩
  have hl : lv_has ls 1 [(0, .ref b)] := hl
  refine lv_aload_n hx hb dX5_from_0 rfl (lv_at hl 0 rfl) ?_
  refine r_get (ci := 3) hF in_X5 hG hM hb0 rfl 2 (by decide) q417 (fun _ h => h) (.ref f) rfl dX5_from_1 ?_
  exact k_aret hx hb hr (Or.inl ⟨_, rfl⟩) hlocks hG hz hM hS (Nat.le_of_ble_eq_true rfl) (Nat.le_of_ble_eq_true rfl) dX5_from_4 ⟨_, rfl, rfl, rfl⟩
set_option maxHeartbeats 4000000 in
set_option maxRecDepth 100000 in
theorem metX5_isLate {l : Launch} {z : Nat} {E : EE} {M : MM} {b : Nat} : Kt l yX5_isLate (ws_ yX5_isLate cX5_isLate 1 (some .boolean)) ({ frames := 10, cells := 0, slots := 0, locals := 300 } : Room) z E [.ref b] M (pI (fun r M' => r = 0 ∧ M = M')) xNo 0 0 := by
  refine k_body RX5 (by decide) rfl (Nat.le_of_ble_eq_true rfl) ?_
  intro p e s m args below meth c hx hb hr hml hown hlocks hname hno hts hz hG hM hS ls hl
  have hF : CallFix p m c cX5_isLate 1 s args lw_all RX5 := ⟨hx, hb, hml, hown, hts⟩
  have hl : lv_has ls 1 [(0, .ref b)] := hl
  refine lv_iconst (v := 0) hx hb dX5_isLate_0 (by decide) ?_
  exact k_iret hx hb hr rfl hlocks hG hz hM hS (Nat.le_of_ble_eq_true rfl) (Nat.le_of_ble_eq_true rfl) dX5_isLate_1 ⟨_, rfl, rfl, rfl⟩
set_option maxHeartbeats 4000000 in
set_option maxRecDepth 100000 in
theorem metX7_init {l : Launch} {z : Nat} {E : EE} {M : MM} {b : Nat} (ps am : Int32) (hb0 : M b = some (.inr (5, [.int 0, .int 0, .int 0]))) : Kt l yX7_init (ws_ yX7_init cX7_init 3 none) ({ frames := 20, cells := 0, slots := 0, locals := 600 } : Room) z E [.ref b, .int ps, .int am] M (pV (fun M' => M' b = some (.inr (5, [.int ps, .int am, .int 0])) ∧ Own b M M')) xNo 0 0 := by
  refine k_body RX7 (by decide) rfl (Nat.le_of_ble_eq_true rfl) ?_
  intro p e s m args below meth c hx hb hr hml hown hlocks hname hno hts hz hG hM hS ls hl
  have hF : CallFix p m c cX7_init 3 s args lw_all RX7 := ⟨hx, hb, hml, hown, hts⟩
  have hl : lv_has ls 3 [(0, .ref b), (1, .int ps), (2, .int am)] := hl
  refine lv_aload_n hx hb dX7_init_0 rfl (lv_at hl 0 rfl) ?_
  refine W.objInit hx hb hown (hts _ q731) (hts _ q51) (hts _ q52) rfl (by rw [hml]; exact hl.1) rfl dX7_init_1 (Nat.le_of_ble_eq_true rfl) (Nat.le_of_ble_eq_true rfl) ?_
  refine lv_aload_n hx hb dX7_init_4 rfl (lv_at hl 0 rfl) ?_
  refine lv_iload_n hx hb dX7_init_5 rfl (lv_at hl 1 rfl) ?_
  refine r_putF (ci := 5) (ty := .int) (v := .int ps) hF in_X7 tyX7 tyX7_ok nmX7 hG hM hS hb0 rfl 0 (by decide) q732 (fun _ h => h) rfl hname rfl (by decide +kernel) rfl rfl (Nat.le_of_ble_eq_true rfl) dX7_init_6 (fun H locs hM hS => ?_)
  refine lv_aload_n hx hb dX7_init_9 rfl (lv_at hl 0 rfl) ?_
  refine lv_iload_n hx hb dX7_init_10 rfl (lv_at hl 2 rfl) ?_
  refine r_putF (ci := 5) (ty := .int) (v := .int am) hF in_X7 tyX7 tyX7_ok nmX7 hG hM hS mput_s rfl 1 (by decide) q734 (fun _ h => h) rfl hname rfl (by decide +kernel) rfl rfl (Nat.le_of_ble_eq_true rfl) dX7_init_11 (fun H locs hM hS => ?_)
  exact k_vret hx hb hr hlocks hG hz hM hS (Nat.le_of_ble_eq_true rfl) (Nat.le_of_ble_eq_true rfl) dX7_init_14 ⟨rfl, mput_s, Own.put (Own.put Own.rf)⟩
set_option maxHeartbeats 4000000 in
set_option maxRecDepth 100000 in
theorem metX6_init {l : Launch} {z : Nat} {E : EE} {M : MM} {b x : Nat} (py am ps pe : Int32) (hb0 : M b = some (.inr (4, [.null, .int 0, .int 0, .int 0, .int 0, .null, .int 0]))) : Kt l yX6_init (ws_ yX6_init cX6_init 6 none) ({ frames := 20, cells := 0, slots := 0, locals := 600 } : Room) z E [.ref b, .ref x, .int py, .int am, .int ps, .int pe] M (pV (fun M' => M' b = some (.inr (4, [.ref x, .int py, .int am, .int ps, .int pe, .ref (eR E 0), .int 0])) ∧ Own b M M')) xNo 0 0 := by
  refine k_body RX6 (by decide) rfl (Nat.le_of_ble_eq_true rfl) ?_
  intro p e s m args below meth c hx hb hr hml hown hlocks hname hno hts hz hG hM hS ls hl
  have hF : CallFix p m c cX6_init 6 s args lw_all RX6 := ⟨hx, hb, hml, hown, hts⟩
  have hl : lv_has ls 6 [(0, .ref b), (1, .ref x), (2, .int py), (3, .int am), (4, .int ps), (5, .int pe)] := hl
  refine lv_aload_n hx hb dX6_init_0 rfl (lv_at hl 0 rfl) ?_
  refine W.objInit hx hb hown (hts _ q615) (hts _ q51) (hts _ q52) rfl (by rw [hml]; exact hl.1) rfl dX6_init_1 (Nat.le_of_ble_eq_true rfl) (Nat.le_of_ble_eq_true rfl) ?_
  refine lv_aload_n hx hb dX6_init_4 rfl (lv_at hl 0 rfl) ?_
  refine va_gets hx hb (hG.st (i := 0) (by decide)).1 hS hown (hts _ q616) (fun x h => h) dX6_init_5 ?_
  refine r_put (ci := 4) (ty := (.object "TownPurse$Stage")) (v := .ref (eR E 0)) hF in_X6 tyX6 tyX6_ok nmX6 hG hM hS hb0 rfl 5 (by decide) q626 (fun _ h => h) rfl (by decide +kernel) rfl rfl (Nat.le_of_ble_eq_true rfl) dX6_init_8 (fun H locs hM hS => ?_)
  refine lv_aload_n hx hb dX6_init_11 rfl (lv_at hl 0 rfl) ?_
  refine lv_aload_n hx hb dX6_init_12 rfl (lv_at hl 1 rfl) ?_
  refine r_putF (ci := 4) (ty := (.object "TownPurse$Account")) (v := .ref x) hF in_X6 tyX6 tyX6_ok nmX6 hG hM hS mput_s rfl 0 (by decide) q618 (fun _ h => h) rfl hname rfl (by decide +kernel) rfl rfl (Nat.le_of_ble_eq_true rfl) dX6_init_13 (fun H locs hM hS => ?_)
  refine lv_aload_n hx hb dX6_init_16 rfl (lv_at hl 0 rfl) ?_
  refine lv_iload_n hx hb dX6_init_17 rfl (lv_at hl 2 rfl) ?_
  refine r_putF (ci := 4) (ty := .int) (v := .int py) hF in_X6 tyX6 tyX6_ok nmX6 hG hM hS mput_s rfl 1 (by decide) q620 (fun _ h => h) rfl hname rfl (by decide +kernel) rfl rfl (Nat.le_of_ble_eq_true rfl) dX6_init_18 (fun H locs hM hS => ?_)
  refine lv_aload_n hx hb dX6_init_21 rfl (lv_at hl 0 rfl) ?_
  refine lv_iload_n hx hb dX6_init_22 rfl (lv_at hl 3 rfl) ?_
  refine r_putF (ci := 4) (ty := .int) (v := .int am) hF in_X6 tyX6 tyX6_ok nmX6 hG hM hS mput_s rfl 2 (by decide) q621 (fun _ h => h) rfl hname rfl (by decide +kernel) rfl rfl (Nat.le_of_ble_eq_true rfl) dX6_init_23 (fun H locs hM hS => ?_)
  refine lv_aload_n hx hb dX6_init_26 rfl (lv_at hl 0 rfl) ?_
  refine lv_iload hx hb dX6_init_27 (lv_at hl 4 rfl) ?_
  refine r_putF (ci := 4) (ty := .int) (v := .int ps) hF in_X6 tyX6 tyX6_ok nmX6 hG hM hS mput_s rfl 3 (by decide) q623 (fun _ h => h) rfl hname rfl (by decide +kernel) rfl rfl (Nat.le_of_ble_eq_true rfl) dX6_init_29 (fun H locs hM hS => ?_)
  refine lv_aload_n hx hb dX6_init_32 rfl (lv_at hl 0 rfl) ?_
  refine lv_iload hx hb dX6_init_33 (lv_at hl 5 rfl) ?_
  refine r_putF (ci := 4) (ty := .int) (v := .int pe) hF in_X6 tyX6 tyX6_ok nmX6 hG hM hS mput_s rfl 4 (by decide) q625 (fun _ h => h) rfl hname rfl (by decide +kernel) rfl rfl (Nat.le_of_ble_eq_true rfl) dX6_init_35 (fun H locs hM hS => ?_)
  exact k_vret hx hb hr hlocks hG hz hM hS (Nat.le_of_ble_eq_true rfl) (Nat.le_of_ble_eq_true rfl) dX6_init_38 ⟨rfl, mput_s, Own.put (Own.put (Own.put (Own.put (Own.put (Own.put Own.rf)))))⟩
set_option maxHeartbeats 4000000 in
set_option maxRecDepth 100000 in
theorem metX6_isLike {l : Launch} {z : Nat} {E : EE} {M : MM} {p : Nat} {la : Nat → Nat} {el : Nat → Nat → Nat} {K : Kp} {cn : Nat → Nat} {lim : Int32} {ar : Nat → Nat → Int32} (hPp : PicP E M p la el K cn lim ar) (hW : WF cn lim ar) {k j : Nat} (hk : k < cn 2) (hj : j < cn 2) : Kt l yX6_isLike (ws_ yX6_isLike cX6_isLike 2 (some .boolean)) ({ frames := 10, cells := 0, slots := 0, locals := 300 } : Room) z E [.ref (el 2 k), .ref (el 2 j)] M (pI (fun r M' => bRes (alike ar k j) r ∧ M = M')) xNo 0 0 := by
  refine k_body RX6 (by decide) rfl (Nat.le_of_ble_eq_true rfl) ?_
  intro p e s m args below meth c hx hb hr hml hown hlocks hname hno hts hz hG hM hS ls hl
  have hF : CallFix p m c cX6_isLike 2 s args lw_all RX6 := ⟨hx, hb, hml, hown, hts⟩
  have hl : lv_has ls 2 [(0, .ref (el 2 k)), (1, .ref (el 2 j))] := hl
  refine lv_aload_n hx hb dX6_isLike_0 rfl (lv_at hl 0 rfl) ?_
  refine r_get (ci := 4) hF in_X6 hG hM (hPp.pa hk) rfl 0 (by decide) q618 (fun _ h => h) (.ref (el 0 (nx (ar 11 k)))) rfl dX6_isLike_1 ?_
  refine lv_aload_n hx hb dX6_isLike_4 rfl (lv_at hl 1 rfl) ?_
  refine r_get (ci := 4) hF in_X6 hG hM (hPp.pa hj) rfl 0 (by decide) q618 (fun _ h => h) (.ref (el 0 (nx (ar 11 j)))) rfl dX6_isLike_5 ?_
  refine lv_acmp_ne (rx := (some (el 0 (nx (ar 11 k))))) (ry := (some (el 0 (nx (ar 11 j))))) (tgt := 37) hx hb dX6_isLike_8 (by decide) (fun c_1 => ?_) (fun c_1 => ?_)
  · have e9 : ¬ ar 11 k = ar 11 j := fun h8 => c_1 (by rw [h8])
    refine lv_iconst (v := 0) hx hb dX6_isLike_37 (by decide) ?_
    exact k_iret hx hb hr rfl hlocks hG hz hM hS (Nat.le_of_ble_eq_true rfl) (Nat.le_of_ble_eq_true rfl) dX6_isLike_38 ⟨_, rfl, Or.inr ⟨by simp [alike, e9], rfl⟩, rfl⟩
  · have e9 : (ar 11 k = ar 11 j) = True := eq_true (like_a hPp hW hk hj (Option.some.inj c_1))
    refine lv_aload_n hx hb dX6_isLike_11 rfl (lv_at hl 0 rfl) ?_
    refine r_get (ci := 4) hF in_X6 hG hM (hPp.pa hk) rfl 1 (by decide) q620 (fun _ h => h) (.int (ar 12 k)) rfl dX6_isLike_12 ?_
    refine lv_aload_n hx hb dX6_isLike_15 rfl (lv_at hl 1 rfl) ?_
    refine r_get (ci := 4) hF in_X6 hG hM (hPp.pa hj) rfl 1 (by decide) q620 (fun _ h => h) (.int (ar 12 j)) rfl dX6_isLike_16 ?_
    refine lv_icmp_ne (tgt := 37) hx hb dX6_isLike_19 (by decide) (fun c_2 => ?_) (fun c_2 => ?_)
    · refine lv_iconst (v := 0) hx hb dX6_isLike_37 (by decide) ?_
      exact k_iret hx hb hr rfl hlocks hG hz hM hS (Nat.le_of_ble_eq_true rfl) (Nat.le_of_ble_eq_true rfl) dX6_isLike_38 ⟨_, rfl, Or.inr ⟨by simp [alike, e9, c_2], rfl⟩, rfl⟩
    · refine lv_aload_n hx hb dX6_isLike_22 rfl (lv_at hl 0 rfl) ?_
      refine r_get (ci := 4) hF in_X6 hG hM (hPp.pa hk) rfl 4 (by decide) q625 (fun _ h => h) (.int (ar 15 k)) rfl dX6_isLike_23 ?_
      refine lv_aload_n hx hb dX6_isLike_26 rfl (lv_at hl 1 rfl) ?_
      refine r_get (ci := 4) hF in_X6 hG hM (hPp.pa hj) rfl 4 (by decide) q625 (fun _ h => h) (.int (ar 15 j)) rfl dX6_isLike_27 ?_
      refine lv_icmp_ne (tgt := 37) hx hb dX6_isLike_30 (by decide) (fun c_3 => ?_) (fun c_3 => ?_)
      · refine lv_iconst (v := 0) hx hb dX6_isLike_37 (by decide) ?_
        exact k_iret hx hb hr rfl hlocks hG hz hM hS (Nat.le_of_ble_eq_true rfl) (Nat.le_of_ble_eq_true rfl) dX6_isLike_38 ⟨_, rfl, Or.inr ⟨by simp [alike, e9, (eq_true c_2), c_3], rfl⟩, rfl⟩
      · refine lv_iconst (v := 1) hx hb dX6_isLike_33 (by decide) ?_
        refine lv_goto (tgt := 38) hx hb dX6_isLike_34 (by decide) ?_
        exact k_iret hx hb hr rfl hlocks hG hz hM hS (Nat.le_of_ble_eq_true rfl) (Nat.le_of_ble_eq_true rfl) dX6_isLike_38 ⟨_, rfl, Or.inl ⟨by simp [alike, e9, (eq_true c_2), (eq_true c_3)], rfl⟩, rfl⟩
set_option maxHeartbeats 4000000 in
set_option maxRecDepth 100000 in
theorem metX6_many {l : Launch} {z : Nat} {E : EE} {M : MM} {p : Nat} {la : Nat → Nat} {el : Nat → Nat → Nat} {K : Kp} {cn : Nat → Nat} {lim : Int32} {ar : Nat → Nat → Int32} (hPp : PicP E M p la el K cn lim ar) {k : Nat} (hk : k < cn 2) : Kt l yX6_many (ws_ yX6_many cX6_many 3 (some .int)) ({ frames := 10, cells := 0, slots := 0, locals := 300 } : Room) z E [.ref (el 2 k)] M (pI (fun r M' => r = popF (ar 17 k) 0 5 ∧ M = M')) xNo 0 0 := by
  refine k_body RX6 (by decide) rfl (Nat.le_of_ble_eq_true rfl) ?_
  intro p e s m args below meth c hx hb hr hml hown hlocks hname hno hts hz hG hM hS ls hl
  have hF : CallFix p m c cX6_many 3 s args lw_all RX6 := ⟨hx, hb, hml, hown, hts⟩
  have hl : lv_has ls 3 [(0, .ref (el 2 k))] := hl
  refine lv_iconst (v := 0) hx hb dX6_many_0 (by decide) ?_
  refine lv_istore_n (lv' := [(1, .int 0), (0, .ref (el 2 k))]) hx hb dX6_many_1 rfl hl (by decide) rfl (fun ls hl => ?_)
  refine lv_iconst (v := 0) hx hb dX6_many_2 (by decide) ?_
  refine lv_istore_n (lv' := [(2, .int 0), (1, .int 0), (0, .ref (el 2 k))]) hx hb dX6_many_3 rfl hl (by decide) rfl (fun ls hl => ?_)
  refine lv_iload_n hx hb dX6_many_4 rfl (lv_at hl 0 rfl) ?_
  refine lv_iconst (v := 5) hx hb dX6_many_5 (by decide) ?_
  refine lv_icmp_ge (tgt := 26) hx hb dX6_many_6 (by decide) (fun c9 => absurd c9 (by decide)) (fun _ => ?_)
  refine lv_iload_n hx hb dX6_many_9 rfl (lv_at hl 1 rfl) ?_
  refine lv_aload_n hx hb dX6_many_10 rfl (lv_at hl 2 rfl) ?_
  refine r_get (ci := 4) hF in_X6 hG hM (hPp.pa hk) rfl 6 (by decide) q628 (fun _ h => h) (.int (ar 17 k)) rfl dX6_many_11 ?_
  refine lv_iload_n hx hb dX6_many_14 rfl (lv_at hl 0 rfl) ?_
  refine lv_ishr hx hb dX6_many_15 ?_
  refine lv_iconst (v := 1) hx hb dX6_many_16 (by decide) ?_
  refine lv_iand hx hb dX6_many_17 ?_
  refine lv_iadd hx hb dX6_many_18 ?_
  refine lv_istore_n (lv' := [(1, .int ((0 : Int32) + (((ar 17 k) >>> (0 &&& 31 : Int32) : Int32) &&& 1 : Int32))), (2, .int 0), (0, .ref (el 2 k))]) hx hb dX6_many_19 rfl hl (by decide) rfl (fun ls hl => ?_)
  refine lv_iinc (v := 1) (lv' := [(2, .int 1), (1, .int ((0 : Int32) + (((ar 17 k) >>> (0 &&& 31 : Int32) : Int32) &&& 1 : Int32))), (0, .ref (el 2 k))]) hx hb dX6_many_20 hl (k := 1) rfl (by decide) (by decide) rfl (fun ls hl => ?_)
  refine lv_goto (tgt := 4) hx hb dX6_many_23 (by decide) ?_
  refine lv_iload_n hx hb dX6_many_4 rfl (lv_at hl 0 rfl) ?_
  refine lv_iconst (v := 5) hx hb dX6_many_5 (by decide) ?_
  refine lv_icmp_ge (tgt := 26) hx hb dX6_many_6 (by decide) (fun c9 => absurd c9 (by decide)) (fun _ => ?_)
  refine lv_iload_n hx hb dX6_many_9 rfl (lv_at hl 1 rfl) ?_
  refine lv_aload_n hx hb dX6_many_10 rfl (lv_at hl 2 rfl) ?_
  refine r_get (ci := 4) hF in_X6 hG hM (hPp.pa hk) rfl 6 (by decide) q628 (fun _ h => h) (.int (ar 17 k)) rfl dX6_many_11 ?_
  refine lv_iload_n hx hb dX6_many_14 rfl (lv_at hl 0 rfl) ?_
  refine lv_ishr hx hb dX6_many_15 ?_
  refine lv_iconst (v := 1) hx hb dX6_many_16 (by decide) ?_
  refine lv_iand hx hb dX6_many_17 ?_
  refine lv_iadd hx hb dX6_many_18 ?_
  refine lv_istore_n (lv' := [(1, .int (((0 : Int32) + (((ar 17 k) >>> (0 &&& 31 : Int32) : Int32) &&& 1 : Int32)) + (((ar 17 k) >>> (1 &&& 31 : Int32) : Int32) &&& 1 : Int32))), (2, .int 1), (0, .ref (el 2 k))]) hx hb dX6_many_19 rfl hl (by decide) rfl (fun ls hl => ?_)
  refine lv_iinc (v := 2) (lv' := [(2, .int 2), (1, .int (((0 : Int32) + (((ar 17 k) >>> (0 &&& 31 : Int32) : Int32) &&& 1 : Int32)) + (((ar 17 k) >>> (1 &&& 31 : Int32) : Int32) &&& 1 : Int32))), (0, .ref (el 2 k))]) hx hb dX6_many_20 hl (k := 1) rfl (by decide) (by decide) rfl (fun ls hl => ?_)
  refine lv_goto (tgt := 4) hx hb dX6_many_23 (by decide) ?_
  refine lv_iload_n hx hb dX6_many_4 rfl (lv_at hl 0 rfl) ?_
  refine lv_iconst (v := 5) hx hb dX6_many_5 (by decide) ?_
  refine lv_icmp_ge (tgt := 26) hx hb dX6_many_6 (by decide) (fun c9 => absurd c9 (by decide)) (fun _ => ?_)
  refine lv_iload_n hx hb dX6_many_9 rfl (lv_at hl 1 rfl) ?_
  refine lv_aload_n hx hb dX6_many_10 rfl (lv_at hl 2 rfl) ?_
  refine r_get (ci := 4) hF in_X6 hG hM (hPp.pa hk) rfl 6 (by decide) q628 (fun _ h => h) (.int (ar 17 k)) rfl dX6_many_11 ?_
  refine lv_iload_n hx hb dX6_many_14 rfl (lv_at hl 0 rfl) ?_
  refine lv_ishr hx hb dX6_many_15 ?_
  refine lv_iconst (v := 1) hx hb dX6_many_16 (by decide) ?_
  refine lv_iand hx hb dX6_many_17 ?_
  refine lv_iadd hx hb dX6_many_18 ?_
  refine lv_istore_n (lv' := [(1, .int ((((0 : Int32) + (((ar 17 k) >>> (0 &&& 31 : Int32) : Int32) &&& 1 : Int32)) + (((ar 17 k) >>> (1 &&& 31 : Int32) : Int32) &&& 1 : Int32)) + (((ar 17 k) >>> (2 &&& 31 : Int32) : Int32) &&& 1 : Int32))), (2, .int 2), (0, .ref (el 2 k))]) hx hb dX6_many_19 rfl hl (by decide) rfl (fun ls hl => ?_)
  refine lv_iinc (v := 3) (lv' := [(2, .int 3), (1, .int ((((0 : Int32) + (((ar 17 k) >>> (0 &&& 31 : Int32) : Int32) &&& 1 : Int32)) + (((ar 17 k) >>> (1 &&& 31 : Int32) : Int32) &&& 1 : Int32)) + (((ar 17 k) >>> (2 &&& 31 : Int32) : Int32) &&& 1 : Int32))), (0, .ref (el 2 k))]) hx hb dX6_many_20 hl (k := 1) rfl (by decide) (by decide) rfl (fun ls hl => ?_)
  refine lv_goto (tgt := 4) hx hb dX6_many_23 (by decide) ?_
  refine lv_iload_n hx hb dX6_many_4 rfl (lv_at hl 0 rfl) ?_
  refine lv_iconst (v := 5) hx hb dX6_many_5 (by decide) ?_
  refine lv_icmp_ge (tgt := 26) hx hb dX6_many_6 (by decide) (fun c9 => absurd c9 (by decide)) (fun _ => ?_)
  refine lv_iload_n hx hb dX6_many_9 rfl (lv_at hl 1 rfl) ?_
  refine lv_aload_n hx hb dX6_many_10 rfl (lv_at hl 2 rfl) ?_
  refine r_get (ci := 4) hF in_X6 hG hM (hPp.pa hk) rfl 6 (by decide) q628 (fun _ h => h) (.int (ar 17 k)) rfl dX6_many_11 ?_
  refine lv_iload_n hx hb dX6_many_14 rfl (lv_at hl 0 rfl) ?_
  refine lv_ishr hx hb dX6_many_15 ?_
  refine lv_iconst (v := 1) hx hb dX6_many_16 (by decide) ?_
  refine lv_iand hx hb dX6_many_17 ?_
  refine lv_iadd hx hb dX6_many_18 ?_
  refine lv_istore_n (lv' := [(1, .int (((((0 : Int32) + (((ar 17 k) >>> (0 &&& 31 : Int32) : Int32) &&& 1 : Int32)) + (((ar 17 k) >>> (1 &&& 31 : Int32) : Int32) &&& 1 : Int32)) + (((ar 17 k) >>> (2 &&& 31 : Int32) : Int32) &&& 1 : Int32)) + (((ar 17 k) >>> (3 &&& 31 : Int32) : Int32) &&& 1 : Int32))), (2, .int 3), (0, .ref (el 2 k))]) hx hb dX6_many_19 rfl hl (by decide) rfl (fun ls hl => ?_)
  refine lv_iinc (v := 4) (lv' := [(2, .int 4), (1, .int (((((0 : Int32) + (((ar 17 k) >>> (0 &&& 31 : Int32) : Int32) &&& 1 : Int32)) + (((ar 17 k) >>> (1 &&& 31 : Int32) : Int32) &&& 1 : Int32)) + (((ar 17 k) >>> (2 &&& 31 : Int32) : Int32) &&& 1 : Int32)) + (((ar 17 k) >>> (3 &&& 31 : Int32) : Int32) &&& 1 : Int32))), (0, .ref (el 2 k))]) hx hb dX6_many_20 hl (k := 1) rfl (by decide) (by decide) rfl (fun ls hl => ?_)
  refine lv_goto (tgt := 4) hx hb dX6_many_23 (by decide) ?_
  refine lv_iload_n hx hb dX6_many_4 rfl (lv_at hl 0 rfl) ?_
  refine lv_iconst (v := 5) hx hb dX6_many_5 (by decide) ?_
  refine lv_icmp_ge (tgt := 26) hx hb dX6_many_6 (by decide) (fun c9 => absurd c9 (by decide)) (fun _ => ?_)
  refine lv_iload_n hx hb dX6_many_9 rfl (lv_at hl 1 rfl) ?_
  refine lv_aload_n hx hb dX6_many_10 rfl (lv_at hl 2 rfl) ?_
  refine r_get (ci := 4) hF in_X6 hG hM (hPp.pa hk) rfl 6 (by decide) q628 (fun _ h => h) (.int (ar 17 k)) rfl dX6_many_11 ?_
  refine lv_iload_n hx hb dX6_many_14 rfl (lv_at hl 0 rfl) ?_
  refine lv_ishr hx hb dX6_many_15 ?_
  refine lv_iconst (v := 1) hx hb dX6_many_16 (by decide) ?_
  refine lv_iand hx hb dX6_many_17 ?_
  refine lv_iadd hx hb dX6_many_18 ?_
  refine lv_istore_n (lv' := [(1, .int ((((((0 : Int32) + (((ar 17 k) >>> (0 &&& 31 : Int32) : Int32) &&& 1 : Int32)) + (((ar 17 k) >>> (1 &&& 31 : Int32) : Int32) &&& 1 : Int32)) + (((ar 17 k) >>> (2 &&& 31 : Int32) : Int32) &&& 1 : Int32)) + (((ar 17 k) >>> (3 &&& 31 : Int32) : Int32) &&& 1 : Int32)) + (((ar 17 k) >>> (4 &&& 31 : Int32) : Int32) &&& 1 : Int32))), (2, .int 4), (0, .ref (el 2 k))]) hx hb dX6_many_19 rfl hl (by decide) rfl (fun ls hl => ?_)
  refine lv_iinc (v := 5) (lv' := [(2, .int 5), (1, .int ((((((0 : Int32) + (((ar 17 k) >>> (0 &&& 31 : Int32) : Int32) &&& 1 : Int32)) + (((ar 17 k) >>> (1 &&& 31 : Int32) : Int32) &&& 1 : Int32)) + (((ar 17 k) >>> (2 &&& 31 : Int32) : Int32) &&& 1 : Int32)) + (((ar 17 k) >>> (3 &&& 31 : Int32) : Int32) &&& 1 : Int32)) + (((ar 17 k) >>> (4 &&& 31 : Int32) : Int32) &&& 1 : Int32))), (0, .ref (el 2 k))]) hx hb dX6_many_20 hl (k := 1) rfl (by decide) (by decide) rfl (fun ls hl => ?_)
  refine lv_goto (tgt := 4) hx hb dX6_many_23 (by decide) ?_
  refine lv_iload_n hx hb dX6_many_4 rfl (lv_at hl 0 rfl) ?_
  refine lv_iconst (v := 5) hx hb dX6_many_5 (by decide) ?_
  refine lv_icmp_ge (tgt := 26) hx hb dX6_many_6 (by decide) (fun _ => ?_) (fun c9 => absurd (by decide) c9)
  refine lv_iload_n hx hb dX6_many_26 rfl (lv_at hl 1 rfl) ?_
  exact k_iret hx hb hr rfl hlocks hG hz hM hS (Nat.le_of_ble_eq_true rfl) (Nat.le_of_ble_eq_true rfl) dX6_many_27 ⟨_, rfl, rfl, rfl⟩
set_option maxHeartbeats 4000000 in
set_option maxRecDepth 100000 in
theorem metX8_counts {l : Launch} {z : Nat} {E : EE} {M : MM} {b : Nat} : Kt l yX8_counts (ws_ yX8_counts cX8_counts 1 (some .boolean)) ({ frames := 10, cells := 0, slots := 0, locals := 300 } : Room) z E [.ref b] M (pI (fun r M' => r = 1 ∧ M = M')) xNo 0 0 := by
  refine k_body RX8 (by decide) rfl (Nat.le_of_ble_eq_true rfl) ?_
  intro p e s m args below meth c hx hb hr hml hown hlocks hname hno hts hz hG hM hS ls hl
  have hF : CallFix p m c cX8_counts 1 s args lw_all RX8 := ⟨hx, hb, hml, hown, hts⟩
  have hl : lv_has ls 1 [(0, .ref b)] := hl
  refine lv_iconst (v := 1) hx hb dX8_counts_0 (by decide) ?_
  exact k_iret hx hb hr rfl hlocks hG hz hM hS (Nat.le_of_ble_eq_true rfl) (Nat.le_of_ble_eq_true rfl) dX8_counts_1 ⟨_, rfl, rfl, rfl⟩
set_option maxHeartbeats 4000000 in
set_option maxRecDepth 100000 in
theorem metX9_counts {l : Launch} {z : Nat} {E : EE} {M : MM} {b : Nat} : Kt l yX9_counts (ws_ yX9_counts cX9_counts 1 (some .boolean)) ({ frames := 10, cells := 0, slots := 0, locals := 300 } : Room) z E [.ref b] M (pI (fun r M' => r = 1 ∧ M = M')) xNo 0 0 := by
  refine k_body RX9 (by decide) rfl (Nat.le_of_ble_eq_true rfl) ?_
  intro p e s m args below meth c hx hb hr hml hown hlocks hname hno hts hz hG hM hS ls hl
  have hF : CallFix p m c cX9_counts 1 s args lw_all RX9 := ⟨hx, hb, hml, hown, hts⟩
  have hl : lv_has ls 1 [(0, .ref b)] := hl
  refine lv_iconst (v := 1) hx hb dX9_counts_0 (by decide) ?_
  exact k_iret hx hb hr rfl hlocks hG hz hM hS (Nat.le_of_ble_eq_true rfl) (Nat.le_of_ble_eq_true rfl) dX9_counts_1 ⟨_, rfl, rfl, rfl⟩
set_option maxHeartbeats 4000000 in
set_option maxRecDepth 100000 in
theorem metX10_counts {l : Launch} {z : Nat} {E : EE} {M : MM} {b : Nat} : Kt l yX10_counts (ws_ yX10_counts cX10_counts 1 (some .boolean)) ({ frames := 10, cells := 0, slots := 0, locals := 300 } : Room) z E [.ref b] M (pI (fun r M' => r = 0 ∧ M = M')) xNo 0 0 := by
  refine k_body RX10 (by decide) rfl (Nat.le_of_ble_eq_true rfl) ?_
  intro p e s m args below meth c hx hb hr hml hown hlocks hname hno hts hz hG hM hS ls hl
  have hF : CallFix p m c cX10_counts 1 s args lw_all RX10 := ⟨hx, hb, hml, hown, hts⟩
  have hl : lv_has ls 1 [(0, .ref b)] := hl
  refine lv_iconst (v := 0) hx hb dX10_counts_0 (by decide) ?_
  exact k_iret hx hb hr rfl hlocks hG hz hM hS (Nat.le_of_ble_eq_true rfl) (Nat.le_of_ble_eq_true rfl) dX10_counts_1 ⟨_, rfl, rfl, rfl⟩
