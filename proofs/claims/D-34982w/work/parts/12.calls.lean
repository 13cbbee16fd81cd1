/-! ROWS for arrays of references, and calls by kind -/
section
variable {p : Program} {l : Launch} {e : Env} {R : Room} {s : State} {m : MethodId} {args : Array Value} {below : List Frame} {meth : Method} {c : Code} {H : Heap} {locs : List Loc} {cells slots : Nat} {Q : State → Prop}
variable {cc : ByteArray} {pc : Nat} {ls : Array Slot} {rest : List Value} {z : Nat} {E : EE} {M : MM} {a nL : Nat} {own : String}
theorem r_any {b ci : Nat} {fs : List Value} {r : vw_C} (hG : Gl z E s) (hM : Mod z E M H) (hb : M b = some (.inr (ci, fs))) (hc : vwCl[ci]? = some r) (hca : Cond.castable r.1 "java/lang/Object" ∈ lw_tbl) : va_Any "java/lang/Object" s H b := by
  refine va_rAny hG.K (hM.one hb) (q0 := 0) rfl hc (fun comp c0 h1 h2 => ?_)
  obtain ⟨c9, t9, f1, f2, f3⟩ := Cond.castable_spec (va_Nw.use (A := #[]) rfl (hG.nw hca rfl))
  cases h2.symm.trans f1
  cases h1.symm.trans f2
  exact f3
theorem r_aast {n v : Nat} {f : Nat → Option Nat} (j : Nat) (hF : CallFix p m c cc nL s args lw_all own) (hG : Gl z E s) (hM : Mod z E M H) (hS : va_S (zA z) s.heap H locs) (ha : M a = some (.inl (eO E, n, .inr (.inr (.inr (.inr f)))))) (hr : va_Any "java/lang/Object" s H v) (hj : j < n) (hn : n < 2 ^ 31) {i : Int32} (hi : i = nI j) (hdg : decode cc pc = .ok (.aastore, 1))
    (kk : ∀ (H : Heap) (locs : List Loc), Mod z E (mput M a (.inl (eO E, n, .inr (.inr (.inr (.inr (va_up f j (some v)))))))) H → va_S (zA z) s.heap H locs → W p l e R s m args below meth c H locs cells slots Q (F0 m (pc + 1) ls rest)) : W p l e R s m args below meth c H locs cells slots Q (F0 m pc ls (.ref v :: .int i :: .ref a :: rest)) := by
  subst hi
  have hin := vp_in_nI hj hn
  have h0 : ¬ nI j < 0 := fun q => hin (Or.inl q)
  have hlt : (nI j).toNatClampNeg < n := Nat.not_le.mp fun q => hin (Or.inr q)
  obtain ⟨hza, hat0⟩ := hM a _ ha
  have hat : H[a]? = some (vp_cell (eO E) (n, .inr (.inr (.inr (.inr f))))) := hat0
  obtain ⟨cellV, g1, g3, ⟨kC, hkC⟩, hasg⟩ := hr
  obtain ⟨kA, comp, k1, k2, k3, -⟩ := (hG.K.2 2 _ rfl).2
  obtain ⟨kE, hkE, -⟩ := Vm.findClass_spec k3
  refine W.aast hF.1 hF.2.1 hat (fun q h => by cases h) (fun h => by cases h) k1 k2 rfl hkE ⟨h0, by show _ < (arrV _ _ _).slots.size; rw [arrV_size]; exact hlt⟩ g1 (fun q h => by rw [h] at g3; cases g3) hkC (hasg _ k3) rfl rfl hdg fun H1 e z1 oq => ?_
  refine kk H1 _ (hM.put hza ?_ (fun q _ hq => oq q hq)) (hS.put z1 oq hza)
  show H1[a]? = some (vp_cell (eO E) (n, .inr (.inr (.inr (.inr (va_up f j (some v)))))))
  rw [e, vp_cell_q, vp_cell_q, arrV_store, nI_clamp (by omega)]
  congr 2
  funext q
  by_cases hq : q = j
  · subst hq
    simp [updV, va_up, va_rf]
  · simp [updV, va_up, hq]
/-- System.arraycopy of N references from the beginning to the beginning of another array -/
theorem r_copy {index : Nat} {a0 n0 n1 : Nat} {f g : Nat → Option Nat} (N : Nat) (hF : CallFix p m c cc nL s args lw_all own) (hlink : Cond.methodLink own index arraycopyName ∈ lw_all) (hnat : Cond.native arraycopyName ∈ lw_all) (hstat : Cond.static arraycopyName ∈ lw_all) (hini : Cond.initialized "java/lang/System" ∈ lw_all) (hsz : ls.size = nL)
    (hG : Gl z E s) (hM : Mod z E M H) (hS : va_S (zA z) s.heap H locs) (ha0 : M a0 = some (.inl (eO E, n0, .inr (.inr (.inr (.inr f)))))) (ha1 : M a = some (.inl (eO E, n1, .inr (.inr (.inr (.inr g)))))) (hN : N < 2 ^ 31) (h4 : N ≤ n0) (h5 : N ≤ n1) (hel : ∀ i : Nat, i < N → ∀ y : Nat, f i = some y → va_Any "java/lang/Object" s H y)
    {i : Int32} (hi : i = nI N) (hframes : 1 ≤ R.frames) (hlocals : (rest.map fun v => v.category).sum + (nativeFrameWords "java/lang/System" "arraycopy" 5 + 11) ≤ R.locals) (hdg : decode cc pc = .ok (.invokestatic index, 3))
    (kk : ∀ (H : Heap) (locs : List Loc), Mod z E (mput M a (.inl (eO E, n1, .inr (.inr (.inr (.inr (va_cpy f g 0 0 N))))))) H → va_S (zA z) s.heap H locs → W p l e R s m args below meth c H locs cells slots Q (F0 m (pc + 3) ls rest)) : W p l e R s m args below meth c H locs cells slots Q (F0 m pc ls (.int i :: .int 0 :: .ref a :: .int 0 :: .ref a0 :: rest)) := by
  subst hi
  obtain ⟨hza, hat⟩ := hM a _ ha1
  have hc1 : H[a]? = some (vp_cell (eO E) (n1, .inr (.inr (.inr (.inr g))))) := hat
  have e9 : (nI N).toNatClampNeg = N := nI_clamp hN
  have e0 : (0 : Int32).toNatClampNeg = 0 := by decide
  intro T hT X
  have hc0 : H[a0]? = some (vp_cell (eO E) (n0, .inr (.inr (.inr (.inr f))))) := (hM a0 _ ha0).2
  obtain ⟨-, k0, hk0, cm0, hkk0⟩ := (hG.K.2 2 _ rfl).1 n0 (fun j => va_rf (f j))
  obtain ⟨-, k1, hk1, cm1, hkk1⟩ := (hG.K.2 2 _ rfl).1 n1 (fun j => va_rf (g j))
  obtain ⟨vm', X', step⟩ := X.arraycopy hF.1 hF.2.2.2.1 (hF.2.2.2.2 _ hlink) (hF.2.2.2.2 _ hnat) (hF.2.2.2.2 _ hstat) (hF.2.2.2.2 _ hini) (src := a0) (dst := a) (cs := vp_cell (eO E) (n0, .inr (.inr (.inr (.inr f))))) (cd := vp_cell (eO E) (n1, .inr (.inr (.inr (.inr g))))) (srcPos := 0) (destPos := 0) (n := nI N) (by rw [hT]; exact hc0) (by rw [hT]; exact hc1)
    (fun _ h => by cases h) (fun _ h => by cases h) (fun h => by cases h) (fun h => by cases h) hk0 hk1 hkk0 hkk1 rfl (by decide) (by decide) (nI_pos hN)
    (by rw [nI_toInt hN]; show ¬ _ > ((arrV (eO E) n0 (fun j => va_rf (f j))).slots.size : Int); rw [arrV_size]; have : (0 : Int32).toInt = 0 := by decide
        omega)
    (by rw [nI_toInt hN]; show ¬ _ > ((arrV (eO E) n1 (fun j => va_rf (g j))).slots.size : Int); rw [arrV_size]; have : (0 : Int32).toInt = 0 := by decide
        omega)
    (fun vm₁ hal i hi => by
      rw [e9] at hi
      have e : (vp_cell (eO E) (n0, .inr (.inr (.inr (.inr f))))).slots.getD ((0 : Int32).toNatClampNeg + i) .null = va_rf (f i) := by
        show (arrV (eO E) n0 (fun j => va_rf (f j))).slots.getD _ _ = _
        rw [e0, Nat.zero_add, Array.getD_eq_getD_getElem?, arrV_read _ _ (by omega)]
        rfl
      rw [e]
      cases hy : f i with
      | none => exact ⟨rfl, trivial⟩
      | some y =>
        obtain ⟨cellV, g1, g2, ⟨kC, hkC⟩, hasg⟩ := hel i hi y hy
        obtain ⟨kA, comp, r1, r2, r3, -⟩ := (hG.K.2 2 _ rfl).2
        cases hk1.symm.trans r1
        cases hkk1.symm.trans r2
        obtain ⟨kE, hkE, -⟩ := Vm.findClass_spec r3
        obtain ⟨kC', hkC', -⟩ := hal.2.2 _ _ hkC
        obtain ⟨kE', hkE', -⟩ := hal.2.2 _ _ hkE
        refine ⟨rfl, cellV, (show T.heap[y]? = some cellV by rw [hT]; exact g1), (fun q h => by rw [h] at g2; cases g2), ⟨kC', hkC'⟩, ?_, ?_⟩
        · exact ⟨kE', hkE'⟩
        · show vm₁.assignable _ _ = true
          rw [hal.assignable]
          exact hasg _ r3)
    (g := F0 m pc ls (.int (nI N) :: .int 0 :: .ref a :: .int 0 :: .ref a0 :: rest)) rfl (by rw [hsz]; exact hF.2.2.1.symm) (rest := rest) rfl (by rw [hF.2.1]; exact hdg) hframes (by show 2 * 0 + _ + _ ≤ _; omega)
  have e1 : copied (vp_cell (eO E) (n0, .inr (.inr (.inr (.inr f))))) (vp_cell (eO E) (n1, .inr (.inr (.inr (.inr g))))) 0 0 (nI N) = vp_cell (eO E) (n1, .inr (.inr (.inr (.inr (va_cpy f g 0 0 N))))) := by
    have h4' : (0 : Int32).toNatClampNeg + (nI N).toNatClampNeg ≤ n0 := by rw [e9, e0]; omega
    have h9 : copied (vp_cell (eO E) (n0, .inr (.inr (.inr (.inr f))))) (vp_cell (eO E) (n1, .inr (.inr (.inr (.inr g))))) 0 0 (nI N) = vp_cell (eO E) (n1, .inr (.inr (.inr (.inr (va_cpy f g (0 : Int32).toNatClampNeg (0 : Int32).toNatClampNeg (nI N).toNatClampNeg))))) := by
      rw [vp_cell_q, vp_cell_q, vp_cell_q]
      exact va_copied (fun z => va_rf z) (eO E) (eO E) f g h4'
    rw [e9, e0] at h9
    exact h9
  rw [e1] at X' step
  have hl : a < H.size := (Array.getElem?_eq_some_iff.mp hc1).1
  have hheap : ((T.setVm vm').setCell a (vp_cell (eO E) (n1, .inr (.inr (.inr (.inr (va_cpy f g 0 0 N))))))).heap = H.setIfInBounds a (vp_cell (eO E) (n1, .inr (.inr (.inr (.inr (va_cpy f g 0 0 N)))))) := by rw [← hT]; rfl
  have oq : ∀ q : Nat, q ≠ a → (H.setIfInBounds a (vp_cell (eO E) (n1, .inr (.inr (.inr (.inr (va_cpy f g 0 0 N)))))))[q]? = H[q]? := fun q hq => by simp [Array.getElem?_setIfInBounds, Ne.symm hq]
  obtain ⟨t, a1, b1⟩ := kk _ _ (hM.put hza (show (H.setIfInBounds a _)[a]? = some _ by simp [Array.getElem?_setIfInBounds, hl]) (fun q _ hq => oq q hq)) ⟨by simp; exact hS.1, fun q g1 g2 => by
      rw [oq q (fun e => g2 (by rw [e]; exact hza))]
      exact hS.2.1 q g1 g2, fun q hq => by
      rcases List.mem_append.mp hq with h | h
      · exact hS.2.2 q h
      · obtain ⟨z9, -, hz9⟩ := List.mem_map.mp h
        rw [← hz9]
        exact hza⟩ _ hheap X'
  exact ⟨t, step t a1, b1⟩
/-! calls: V by an object, S static, I a constructor, N a private constructor of a nest mate, A an abstract or inherited method, F by the interface, D its default method -/
variable {st : List Value} {y : MethodName} {bytes : ByteArray} {maxL index n mc ms k9 n9 : Nat} {ret : Option FieldType} {rm : Room} {post : Option Value → MM → Prop} {xp : String → Prop} {b : Nat} {As : List Value} {C : String}
theorem kV (hF : CallFix p m c cc nL s args lw_all own) (hG : Gl z E s) (hz : z ≤ s.heap.size) (hM : Mod z E M H) (hS : va_S (zA z) s.heap H locs) (As : List Value) (rest : List Value) (hK : Kt l y (ws_ y bytes maxL ret) rm z E (.ref b :: As) M post xp mc ms) (cw : CallW R s args own C index y bytes maxL ret (ws_ y bytes maxL ret) rm mc ms n)
    (hr : ∃ cell : Cell, H[b]? = some cell ∧ cell.vm.isStatics = false ∧ s.vm.findClass C = some cell.cls) (hn : As.length = n) (hsz : ls.size = nL) (hst : st = As.reverse ++ .ref b :: rest) (hW : (rest.map fun v => v.category).sum ≤ 8) (hdg : decode cc pc = .ok (.invokevirtual index, 3)) (hk : cells + mc = k9) (hn9 : slots + ms = n9) (hkR : k9 ≤ R.cells) (hnR : n9 ≤ R.slots)
    (kx : ∀ (cn : String) (ce : Cell) (q9 : Addr) (H : Heap) (locs : List Loc), xp cn → Mod z E M H → va_S (zA z) s.heap H locs → H[q9]? = some ce → ce.vm = .none → s.vm.findClass cn = some ce.cls → vx_W p l e R s m args below meth c H locs k9 n9 Q (F0 m pc ls rest) q9)
    (kk : ∀ (v : Option Value) (M : MM) (H : Heap) (locs : List Loc), post v M → Mod z E M H → va_S (zA z) s.heap H locs → W p l e R s m args below meth c H locs k9 n9 Q (F0 m (pc + 3) ls (v.toList ++ rest))) : W p l e R s m args below meth c H locs cells slots Q (F0 m pc ls st) :=
  k_go (vx_runV hF hK cw ⟨wd_blind, hr, fun U hU hW => ⟨rfl, wd_call hG hz hS hM hU hW⟩⟩ rfl hn hsz hst (lv_room hW) hdg ⟨by omega, by omega⟩) hS hk hn9 kx kk
theorem kS (hF : CallFix p m c cc nL s args lw_all own) (hG : Gl z E s) (hz : z ≤ s.heap.size) (hM : Mod z E M H) (hS : va_S (zA z) s.heap H locs) (As : List Value) (rest : List Value) (hK : Kt l y (ws_ y bytes maxL ret) rm z E As M post xp mc ms) (cw : CallB R s args own index y bytes maxL ret (ws_ y bytes maxL ret) rm mc ms n ∧ (Cond.static y).before args s = true)
    (hn : As.length = n) (hsz : ls.size = nL) (hst : st = As.reverse ++ rest) (hW : (rest.map fun v => v.category).sum ≤ 8) (hdg : decode cc pc = .ok (.invokestatic index, 3)) (hk : cells + mc = k9) (hn9 : slots + ms = n9) (hkR : k9 ≤ R.cells) (hnR : n9 ≤ R.slots)
    (kx : ∀ (cn : String) (ce : Cell) (q9 : Addr) (H : Heap) (locs : List Loc), xp cn → Mod z E M H → va_S (zA z) s.heap H locs → H[q9]? = some ce → ce.vm = .none → s.vm.findClass cn = some ce.cls → vx_W p l e R s m args below meth c H locs k9 n9 Q (F0 m pc ls rest) q9)
    (kk : ∀ (v : Option Value) (M : MM) (H : Heap) (locs : List Loc), post v M → Mod z E M H → va_S (zA z) s.heap H locs → W p l e R s m args below meth c H locs k9 n9 Q (F0 m (pc + 3) ls (v.toList ++ rest))) : W p l e R s m args below meth c H locs cells slots Q (F0 m pc ls st) :=
  k_go (vx_runS hF hK cw ⟨wd_blind, fun U hU hW => ⟨rfl, wd_call hG hz hS hM hU hW⟩⟩ rfl hn hsz hst (lv_room hW) hdg ⟨by omega, by omega⟩) hS hk hn9 kx kk
/-- a static method with handlers -/
theorem kSW {hh : List (Nat × Nat × Nat × Nat)} (hF : CallFix p m c cc nL s args lw_all own) (hG : Gl z E s) (hz : z ≤ s.heap.size) (hM : Mod z E M H) (hS : va_S (zA z) s.heap H locs) (As : List Value) (rest : List Value) (hK : Kt l y (wsW_ y bytes maxL ret hh) rm z E As M post xp mc ms) (cw : vx_CSW R s args own index y bytes maxL ret hh (wsW_ y bytes maxL ret hh) rm mc ms n)
    (hn : As.length = n) (hsz : ls.size = nL) (hst : st = As.reverse ++ rest) (hW : (rest.map fun v => v.category).sum ≤ 8) (hdg : decode cc pc = .ok (.invokestatic index, 3)) (hk : cells + mc = k9) (hn9 : slots + ms = n9) (hkR : k9 ≤ R.cells) (hnR : n9 ≤ R.slots)
    (kx : ∀ (cn : String) (ce : Cell) (q9 : Addr) (H : Heap) (locs : List Loc), xp cn → Mod z E M H → va_S (zA z) s.heap H locs → H[q9]? = some ce → ce.vm = .none → s.vm.findClass cn = some ce.cls → vx_W p l e R s m args below meth c H locs k9 n9 Q (F0 m pc ls rest) q9)
    (kk : ∀ (v : Option Value) (M : MM) (H : Heap) (locs : List Loc), post v M → Mod z E M H → va_S (zA z) s.heap H locs → W p l e R s m args below meth c H locs k9 n9 Q (F0 m (pc + 3) ls (v.toList ++ rest))) : W p l e R s m args below meth c H locs cells slots Q (F0 m pc ls st) :=
  k_go (vx_runSX hF hK cw ⟨wd_blind, fun U hU hW => ⟨rfl, wd_call hG hz hS hM hU hW⟩⟩ rfl hn hsz hst (lv_room hW) hdg ⟨by omega, by omega⟩) hS hk hn9 kx kk
theorem kI (hF : CallFix p m c cc nL s args lw_all own) (hG : Gl z E s) (hz : z ≤ s.heap.size) (hM : Mod z E M H) (hS : va_S (zA z) s.heap H locs) (As : List Value) (rest : List Value) (hK : Kt l y (ws_ y bytes maxL none) rm z E (.ref b :: As) M post xp mc ms) (cw : CallB R s args own index y bytes maxL none (ws_ y bytes maxL none) rm mc ms n ∧ y.name = "<init>" ∧ (Cond.instanceMethod y).before args s = true)
    (hn : As.length = n) (hsz : ls.size = nL) (hst : st = As.reverse ++ .ref b :: rest) (hW : (rest.map fun v => v.category).sum ≤ 8) (hdg : decode cc pc = .ok (.invokespecial index, 3)) (hk : cells + mc = k9) (hn9 : slots + ms = n9) (hkR : k9 ≤ R.cells) (hnR : n9 ≤ R.slots)
    (kx : ∀ (cn : String) (ce : Cell) (q9 : Addr) (H : Heap) (locs : List Loc), xp cn → Mod z E M H → va_S (zA z) s.heap H locs → H[q9]? = some ce → ce.vm = .none → s.vm.findClass cn = some ce.cls → vx_W p l e R s m args below meth c H locs k9 n9 Q (F0 m pc ls rest) q9)
    (kk : ∀ (v : Option Value) (M : MM) (H : Heap) (locs : List Loc), post v M → Mod z E M H → va_S (zA z) s.heap H locs → W p l e R s m args below meth c H locs k9 n9 Q (F0 m (pc + 3) ls (v.toList ++ rest))) : W p l e R s m args below meth c H locs cells slots Q (F0 m pc ls st) :=
  k_go (vx_runI hF hK cw ⟨wd_blind, fun U hU hW => ⟨rfl, wd_call hG hz hS hM hU hW⟩⟩ rfl hn hsz hst (lv_room hW) hdg ⟨by omega, by omega⟩) hS hk hn9 kx kk
theorem kN {host : String} (hF : CallFix p m c cc nL s args lw_all own) (hG : Gl z E s) (hz : z ≤ s.heap.size) (hM : Mod z E M H) (hS : va_S (zA z) s.heap H locs) (As : List Value) (rest : List Value) (hK : Kt l y (ws_ y bytes maxL none) rm z E (.ref b :: As) M post xp mc ms) (cw : va_CN R s args own index y host bytes maxL none (ws_ y bytes maxL none) rm mc ms n ∧ y.name = "<init>" ∧ (Cond.instanceMethod y).before args s = true)
    (hn : As.length = n) (hsz : ls.size = nL) (hst : st = As.reverse ++ .ref b :: rest) (hW : (rest.map fun v => v.category).sum ≤ 8) (hdg : decode cc pc = .ok (.invokespecial index, 3)) (hk : cells + mc = k9) (hn9 : slots + ms = n9) (hkR : k9 ≤ R.cells) (hnR : n9 ≤ R.slots)
    (kx : ∀ (cn : String) (ce : Cell) (q9 : Addr) (H : Heap) (locs : List Loc), xp cn → Mod z E M H → va_S (zA z) s.heap H locs → H[q9]? = some ce → ce.vm = .none → s.vm.findClass cn = some ce.cls → vx_W p l e R s m args below meth c H locs k9 n9 Q (F0 m pc ls rest) q9)
    (kk : ∀ (v : Option Value) (M : MM) (H : Heap) (locs : List Loc), post v M → Mod z E M H → va_S (zA z) s.heap H locs → W p l e R s m args below meth c H locs k9 n9 Q (F0 m (pc + 3) ls (v.toList ++ rest))) : W p l e R s m args below meth c H locs cells slots Q (F0 m pc ls st) :=
  k_go (vx_runIN hF hK cw ⟨wd_blind, fun U hU hW => ⟨rfl, wd_call hG hz hS hM hU hW⟩⟩ rfl hn hsz hst (lv_room hW) hdg ⟨by omega, by omega⟩) hS hk hn9 kx kk
theorem kA {x : MethodName} {owner : String} (hF : CallFix p m c cc nL s args lw_all own) (hG : Gl z E s) (hz : z ≤ s.heap.size) (hM : Mod z E M H) (hS : va_S (zA z) s.heap H locs) (As : List Value) (rest : List Value) (hK : Kt l y (ws_ y bytes maxL ret) rm z E (.ref b :: As) M post xp mc ms) (cw : va_CU R s args own C owner index x y bytes maxL ret (ws_ y bytes maxL ret) rm mc ms n)
    (hr : ∃ cell : Cell, H[b]? = some cell ∧ cell.vm.isStatics = false ∧ s.vm.findClass C = some cell.cls) (hn : As.length = n) (hsz : ls.size = nL) (hst : st = As.reverse ++ .ref b :: rest) (hW : (rest.map fun v => v.category).sum ≤ 8) (hdg : decode cc pc = .ok (.invokevirtual index, 3)) (hk : cells + mc = k9) (hn9 : slots + ms = n9) (hkR : k9 ≤ R.cells) (hnR : n9 ≤ R.slots)
    (kx : ∀ (cn : String) (ce : Cell) (q9 : Addr) (H : Heap) (locs : List Loc), xp cn → Mod z E M H → va_S (zA z) s.heap H locs → H[q9]? = some ce → ce.vm = .none → s.vm.findClass cn = some ce.cls → vx_W p l e R s m args below meth c H locs k9 n9 Q (F0 m pc ls rest) q9)
    (kk : ∀ (v : Option Value) (M : MM) (H : Heap) (locs : List Loc), post v M → Mod z E M H → va_S (zA z) s.heap H locs → W p l e R s m args below meth c H locs k9 n9 Q (F0 m (pc + 3) ls (v.toList ++ rest))) : W p l e R s m args below meth c H locs cells slots Q (F0 m pc ls st) :=
  k_go (vx_runU hF hK cw ⟨wd_blind, hr, fun U hU hW => ⟨rfl, wd_call hG hz hS hM hU hW⟩⟩ rfl hn hsz hst (lv_room hW) hdg ⟨by omega, by omega⟩) hS hk hn9 kx kk
theorem kF {x : MethodName} {count : Nat} {T : u_T} {N ci : Nat} {fs : List Value} (hF : CallFix p m c cc nL s args lw_all own) (hG : Gl z E s) (hz : z ≤ s.heap.size) (hM : Mod z E M H) (hS : va_S (zA z) s.heap H locs) (As : List Value) (rest : List Value) (hK : Kt l y (ws_ y bytes maxL ret) rm z E (.ref b :: As) M post xp mc ms) (cw : va_CI R s args own C index x y bytes maxL ret (ws_ y bytes maxL ret) rm mc ms n)
    (hb : M b = some (.inr (ci, fs))) (hc : vwCl[ci]? = some (C, T, N)) (hn : As.length = n) (hsz : ls.size = nL) (hst : st = As.reverse ++ .ref b :: rest) (hW : (rest.map fun v => v.category).sum ≤ 8) (hdg : decode cc pc = .ok (.invokeinterface index count, 5)) (hk : cells + mc = k9) (hn9 : slots + ms = n9) (hkR : k9 ≤ R.cells) (hnR : n9 ≤ R.slots)
    (kx : ∀ (cn : String) (ce : Cell) (q9 : Addr) (H : Heap) (locs : List Loc), xp cn → Mod z E M H → va_S (zA z) s.heap H locs → H[q9]? = some ce → ce.vm = .none → s.vm.findClass cn = some ce.cls → vx_W p l e R s m args below meth c H locs k9 n9 Q (F0 m pc ls rest) q9)
    (kk : ∀ (v : Option Value) (M : MM) (H : Heap) (locs : List Loc), post v M → Mod z E M H → va_S (zA z) s.heap H locs → W p l e R s m args below meth c H locs k9 n9 Q (F0 m (pc + 5) ls (v.toList ++ rest))) : W p l e R s m args below meth c H locs cells slots Q (F0 m pc ls st) :=
  k_go5 (vx_runF (hG.K.1 ci _ hc).2 hF hK cw ⟨wd_blind, k_recv hG hM hb hc, fun U hU hW => ⟨rfl, wd_call hG hz hS hM hU hW⟩⟩ rfl hn hsz hst (lv_room hW) hdg ⟨by omega, by omega⟩) hS hk hn9 kx kk
theorem kD {x : MethodName} {count : Nat} {T : u_T} {N ci : Nat} {fs : List Value} (hF : CallFix p m c cc nL s args lw_all own) (hG : Gl z E s) (hz : z ≤ s.heap.size) (hM : Mod z E M H) (hS : va_S (zA z) s.heap H locs) (As : List Value) (rest : List Value) (hK : Kt l y (ws_ y bytes maxL ret) rm z E (.ref b :: As) M post xp mc ms)
    (h1 : Cond.methodLink own index x ∈ lw_all) (h2 : Cond.instanceMethod y ∈ lw_all) (h3 : Cond.initialized y.cls ∈ lw_all) (h4 : Cond.code y bytes maxL ret ∈ lw_all) (hd : x.cls ≠ "java/lang/invoke/MethodHandle" ∧ x.cls ≠ "java/lang/invoke/VarHandle" ∧ (parseMethodDescriptor x.desc).map (fun d => d.parameters.length) = some n) (hf : vFd C x y s) (hrc : rm.cells = mc) (hrs : rm.slots = ms) (hR : rm.frames + 1 ≤ R.frames ∧ 8 + (maxL + 11) + rm.locals ≤ R.locals)
    (hb : M b = some (.inr (ci, fs))) (hc : vwCl[ci]? = some (C, T, N)) (hn : As.length = n) (hsz : ls.size = nL) (hst : st = As.reverse ++ .ref b :: rest) (hW : (rest.map fun v => v.category).sum ≤ 8) (hdg : decode cc pc = .ok (.invokeinterface index count, 5)) (hk : cells + mc = k9) (hn9 : slots + ms = n9) (hkR : k9 ≤ R.cells) (hnR : n9 ≤ R.slots)
    (kx : ∀ (cn : String) (ce : Cell) (q9 : Addr) (H : Heap) (locs : List Loc), xp cn → Mod z E M H → va_S (zA z) s.heap H locs → H[q9]? = some ce → ce.vm = .none → s.vm.findClass cn = some ce.cls → vx_W p l e R s m args below meth c H locs k9 n9 Q (F0 m pc ls rest) q9)
    (kk : ∀ (v : Option Value) (M : MM) (H : Heap) (locs : List Loc), post v M → Mod z E M H → va_S (zA z) s.heap H locs → W p l e R s m args below meth c H locs k9 n9 Q (F0 m (pc + 5) ls (v.toList ++ rest))) : W p l e R s m args below meth c H locs cells slots Q (F0 m pc ls st) := by
  have hts := hF.2.2.2.2
  have hGd : GoodIn lw_all (ws_ y bytes maxL ret) := lw_meth h4
  refine k_go5 (x_runFD (hG.K.1 ci _ hc).2 hF hK ⟨⟨hrc, hrs, hR.1, hR.2, pay_in hts hGd, List.mem_cons_self⟩, hts _ h1, hts _ h2, hts _ h3, hts _ h4, ⟨hd.1, hd.2.1⟩, fun sig h => ?_, hf⟩ ⟨wd_blind, k_recv hG hM hb hc, fun U hU hW => ⟨rfl, wd_call hG hz hS hM hU hW⟩⟩ rfl hn hsz hst (lv_room hW) hdg ⟨by omega, by omega⟩) hS hk hn9 kx kk
  have h2 := hd.2.2
  rw [h] at h2
  exact (Option.some.inj h2).symm
end
