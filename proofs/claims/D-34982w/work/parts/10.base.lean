/-! OWN BASE LAYER: the world is a partial map of cells (MM), all at or above z; one contract form (Kt) for methods that return or throw -/
abbrev vwCl : List vw_C := [(RX1, TX1, 6), (RX2, TX2, 7), (RX4, TX4, 4), (RX5, TX5, 4), (RX6, TX6, 7), (RX7, TX7, 3), (RJ2, TJ2, 3), (RX3, TX3, 29)]
abbrev EE : Type := va_G × (ClassId × ClassId × ClassId) × Nat × (Nat → Nat) × Nat
def eD (E : EE) : va_G := E.1
def eI (E : EE) : ClassId := E.2.1.1
def eJ (E : EE) : ClassId := E.2.1.2.1
def eO (E : EE) : ClassId := E.2.1.2.2
def eN (E : EE) : Nat := E.2.2.1
def eR (E : EE) : Nat → Nat := E.2.2.2.1
def eC (E : EE) : Nat := E.2.2.2.2
abbrev eT (E : EE) : List (ClassId × FieldType) := [(eI E, .int), (eJ E, .long), (eO E, .object "java/lang/Object")]
abbrev MM : Type := Nat → Option va_E
def zA (z : Nat) : Nat → Prop := fun q => z ≤ q
def Mod (z : Nat) (E : EE) (M : MM) (H : Heap) : Prop := ∀ (a : Nat) (e : va_E), M a = some e → z ≤ a ∧ va_at (eD E) vwCl (a, e) H
def mput (M : MM) (a : Nat) (e : va_E) : MM := fun q => if q = a then some e else M q
theorem mput_s {M : MM} {a : Nat} {e : va_E} : mput M a e a = some e := if_pos rfl
theorem mput_n {M : MM} {a q : Nat} {e : va_E} (h : q ≠ a) : mput M a e q = M q := if_neg h
theorem Mod.one {z : Nat} {E : EE} {M : MM} {H : Heap} (h : Mod z E M H) {a : Nat} {e : va_E} (ha : M a = some e) : va_P (eD E) vwCl [(a, e)] H := by
  intro k q hk
  have hz : k < 1 := (List.getElem?_eq_some_iff.mp hk).1
  rw [show k = 0 by omega] at hk
  cases hk
  exact (h a e ha).2
theorem Mod.two {z : Nat} {E : EE} {M : MM} {H : Heap} (h : Mod z E M H) {a b : Nat} {e f : va_E} (ha : M a = some e) (hb : M b = some f) : va_P (eD E) vwCl [(a, e), (b, f)] H := (h.one ha).app (h.one hb)
theorem Mod.lt {z : Nat} {E : EE} {M : MM} {H : Heap} (h : Mod z E M H) {a : Nat} {e : va_E} (ha : M a = some e) : a < H.size := (h a e ha).2.lt
theorem Mod.put {z : Nat} {E : EE} {M : MM} {H H1 : Heap} (h : Mod z E M H) {a : Nat} {e : va_E} (hz : z ≤ a) (he : va_at (eD E) vwCl (a, e) H1) (ho : ∀ q : Nat, q < H.size → q ≠ a → H1[q]? = H[q]?) : Mod z E (mput M a e) H1 := by
  intro q f hq
  by_cases e1 : q = a
  · subst e1
    rw [mput_s] at hq
    cases hq
    exact ⟨hz, he⟩
  · rw [mput_n e1] at hq
    exact ⟨(h q f hq).1, (h q f hq).2.kept (ho q (h.lt hq) e1)⟩
theorem Mod.sub {z : Nat} {E : EE} {M M' : MM} {H : Heap} (h : Mod z E M H) (hs : ∀ a e, M' a = some e → M a = some e) : Mod z E M' H := fun a e ha => h a e (hs a e ha)
/-- the words that hold by the tables alone and ride along -/
def isMov : Cond → Bool
  | .fieldLinkNest _ _ _ _ _ _ => true
  | .methodLinkNest _ _ _ _ => true
  | .castable _ _ => true
  | .declares _ => true
  | _ => false
theorem isMov_warm {w : Cond} (hw : isMov w = true) {s U : State} (hW : s.WarmedH U.vm) (h : va_Nw w s) : va_Nw w U := by
  cases w <;> first | exact va_Nw.warmF hW h | exact va_Nw.warmM hW h | exact va_Nw.warmC hW h | exact va_Nw.warmD hW h | (exact absurd hw (by simp [isMov]))
/-- what a call of a default method through an interface asks of the tables -/
def vFd (C : String) (x y : MethodName) (U : State) : Prop := (Cond.declares x).before #[] U = true ∧ (Cond.interfaceMethod x.cls x.cls x.name x.desc).before #[] U = true ∧ (Cond.publicMethod y).before #[] U = true ∧ (Cond.landsInDefault C x y).before #[] U = true ∧ (Cond.castable C x.cls).before #[] U = true
theorem vFd.of {C : String} {x y : MethodName} {U : State} {A : Array Value} (h1 : (Cond.declares x).before A U = true) (h2 : (Cond.interfaceMethod x.cls x.cls x.name x.desc).before A U = true) (h3 : (Cond.publicMethod y).before A U = true) (h4 : (Cond.landsInDefault C x y).before A U = true) (h5 : (Cond.castable C x.cls).before A U = true) : vFd C x y U :=
  ⟨va_any rfl h1, va_any rfl h2, va_any rfl h3, h4, va_any rfl h5⟩
theorem vFd.moved {C : String} {x y : MethodName} (hx : x.cls ≠ "java/lang/invoke/MethodHandle" ∧ x.cls ≠ "java/lang/invoke/VarHandle") {u U : State} (hvm : u.vm.Alike U.vm) (h : vFd C x y u) : vFd C x y U := by
  obtain ⟨h1, h2, h3, h4, h5⟩ := h
  obtain ⟨r, meth, hn, -⟩ := Cond.declares_spec h1
  have tr : ∀ {c : Cond}, c.onTables = true → c.before #[] (u.setVm U.vm) = true → c.before #[] U = true := by
    intro c hc h
    have e := Cond.onTables_vm (A := #[]) (A' := #[]) (U := u) (U' := U) U.vm c hc
    have hU : U.setVm U.vm = U := rfl
    rw [hU] at e
    rw [← e]
    exact h
  exact ⟨tr rfl (by rw [Cond.declares_setVm hvm]; exact h1), tr rfl (by rw [Cond.interfaceMethod_setVm hvm (r := r) hn hx]; exact h2), tr rfl (by rw [Cond.publicMethod_setVm hvm]; exact h3), ((Cond.landsInDefault_setVm (args' := #[]) hvm (State.methodFound?_setVm hvm _ _ _)).trans h4 : (Cond.landsInDefault C x y).before #[] (u.setVm U.vm) = true), tr rfl (by rw [Cond.castable_setVm hvm]; exact h5)⟩
def stN : Nat → String := fun k => match k with
  | 0 => "READY"
  | 1 => "DONE"
  | _ => "GONE"
def stC : Nat → String := fun k => match k with
  | 0 => "TownPurse$Stage$1"
  | 1 => "TownPurse$Stage$2"
  | _ => "TownPurse$Stage$3"
def enM (n d : String) : MethodName := ⟨RX11, n, d⟩
/-- the faces: class, method named, method run -/
def faces : List (String × MethodName × MethodName) := [(RX4, enM "to" "()LTownPurse$Account;", yX4_to), (RX4, enM "from" "()LTownPurse$Account;", yX4_from), (RX4, enM "period" "()I", yX4_period), (RX4, enM "amount" "()I", yX4_amount), (RX4, enM "isLate" "()Z", yX4_isLate), (RX5, enM "to" "()LTownPurse$Account;", yX5_to), (RX5, enM "from" "()LTownPurse$Account;", yX5_from), (RX5, enM "period" "()I", yX5_period), (RX5, enM "amount" "()I", yX5_amount), (RX5, enM "isLate" "()Z", yX5_isLate)]
abbrev xIO : String := "java/lang/IndexOutOfBoundsException"
abbrev xIS : String := "java/lang/IllegalStateException"
abbrev xIA : String := "java/lang/IllegalArgumentException"
/-- all that holds of the tables and of what lies below z, all through the run -/
def Gl (z : Nat) (E : EE) (U : State) : Prop :=
  (va_K (eD E) vwCl (eT E) U ∧ (∀ w ∈ lw_tbl, isMov w = true → va_Nw w U) ∧ (∀ q ∈ faces, va_Fw q.1 q.2.1 q.2.2 U) ∧ (vFd RX4 yX11_makes yX11_makes U ∧ vFd RX5 yX11_makes yX11_makes U) ∧ va_AO "java/lang/Object" U ∧ va_Mi "[Ljava/lang/Object;" (eC E) U ∧
    (va_Nc xIS xIO U ∧ va_Nc xIA xIO U ∧ va_Nc xIS xIA U)) ∧
  (va_Z "java/util/ArrayList" "DEFAULTCAPACITY_EMPTY_ELEMENTDATA" "[Ljava/lang/Object;" (.ref (eN E)) (zA z) U U.heap ∧ va_T (.object "java/lang/Object") (eN E) 0 (fun _ => .null) (zA z) U U.heap ∧
    (∀ i, i < 3 → va_Z "TownPurse$Stage" (stN i) "LTownPurse$Stage;" (.ref (eR E i)) (zA z) U U.heap ∧ va_O (stC i) (eR E i) (zA z) U U.heap ∧ va_OF "java/lang/Enum" "ordinal" "I" (.int (nI i)) (eR E i) (zA z) U U.heap) ∧
    vx_Zq Bundle.tN "UNASSIGNED_STACK" Bundle.steD (zA z) U U.heap ∧ vx_Zq Bundle.tN "SUPPRESSED_SENTINEL" Bundle.listD (zA z) U U.heap) ∧
  (∀ i j, i < 3 → j < 3 → eR E i = eR E j → i = j)
theorem Gl.moved {z : Nat} {E : EE} {s U : State} (h : Gl z E s) (hW : s.WarmedH U.vm) (hq : ∀ q : Nat, q < s.heap.size → ¬ zA z q → U.heap[q]? = s.heap[q]?) : Gl z E U := by
  obtain ⟨⟨k1, k2, k3, ⟨k4, k4'⟩, k5, k6, k7, k8, k9⟩, ⟨g1, g2, g3, g4, g5⟩, i1⟩ := h
  have ha := hW.alike
  refine ⟨⟨k1.moved ha, fun w hw hm => isMov_warm hm hW (k2 w hw hm), fun q hq9 => ?_, ⟨k4.moved (by decide) ha, k4'.moved (by decide) ha⟩, k5.moved ha, k6.moved ha, k7.moved ha, k8.moved ha, k9.moved ha⟩, ⟨(g1.kept hq).moved ha, (g2.kept hq).moved ha, fun i hi => ⟨((g3 i hi).1.kept hq).moved ha, ((g3 i hi).2.1.kept hq).moved ha, ((g3 i hi).2.2.kept hq).moved ha⟩, vx_Zq.moved ha (g4.kept hq), vx_Zq.moved ha (g5.kept hq)⟩, i1⟩
  have hx : q.2.1.cls ≠ "java/lang/invoke/MethodHandle" ∧ q.2.1.cls ≠ "java/lang/invoke/VarHandle" := by
    have hall : faces.all (fun q => decide (q.2.1.cls ≠ "java/lang/invoke/MethodHandle") && decide (q.2.1.cls ≠ "java/lang/invoke/VarHandle")) = true := by decide +kernel
    have h9 := List.all_eq_true.mp hall q hq9
    simp only [Bool.and_eq_true, decide_eq_true_eq] at h9
    exact h9
  exact (k3 q hq9).moved hx ha
theorem Gl.K {z : Nat} {E : EE} {U : State} (h : Gl z E U) : va_K (eD E) vwCl (eT E) U := h.1.1
theorem Gl.nw {z : Nat} {E : EE} {U : State} (h : Gl z E U) {w : Cond} (hw : w ∈ lw_tbl) (hm : isMov w = true) : va_Nw w U := h.1.2.1 w hw hm
theorem Gl.fw {z : Nat} {E : EE} {U : State} (h : Gl z E U) (k : Nat) {q : String × MethodName × MethodName} (hk : faces[k]? = some q) : va_Fw q.1 q.2.1 q.2.2 U := h.1.2.2.1 q (List.mem_of_getElem? hk)
theorem Gl.ao {z : Nat} {E : EE} {U : State} (h : Gl z E U) : va_AO "java/lang/Object" U := h.1.2.2.2.2.1
theorem Gl.mi {z : Nat} {E : EE} {U : State} (h : Gl z E U) : va_Mi "[Ljava/lang/Object;" (eC E) U := h.1.2.2.2.2.2.1
theorem Gl.st {z : Nat} {E : EE} {U : State} (h : Gl z E U) {i : Nat} (hi : i < 3) : va_Z "TownPurse$Stage" (stN i) "LTownPurse$Stage;" (.ref (eR E i)) (zA z) U U.heap ∧ va_O (stC i) (eR E i) (zA z) U U.heap ∧ va_OF "java/lang/Enum" "ordinal" "I" (.int (nI i)) (eR E i) (zA z) U U.heap := h.2.1.2.2.1 i hi
theorem Gl.inj {z : Nat} {E : EE} {U : State} (h : Gl z E U) {i j : Nat} (hi : i < 3) (hj : j < 3) (e : eR E i = eR E j) : i = j := h.2.2 i j hi hj e
/-- the world at a state -/
def Wd (z : Nat) (E : EE) (M : MM) (U : State) : Prop := z ≤ U.heap.size ∧ Mod z E M U.heap ∧ Gl z E U
def Qg (z : Nat) (E : EE) (post : Option Value → MM → Prop) : Array Value → State → Outcome → State → Prop := fun _ st oc t => (∃ (v : Option Value) (M' : MM), oc = .returned v ∧ post v M' ∧ Wd z E M' t) ∧ va_F (zA z) st t
def XCm (z : Nat) (E : EE) (M : MM) (xp : String → Prop) : String → State → State → Prop := fun cn st t => (xp cn ∧ Wd z E M t) ∧ va_F (zA z) st t
/-- THE CONTRACT: method y with arguments av in the world M returns v in a world M' with 'post v M'', or throws an exception of a class cn with 'xp cn', the world unchanged -/
def Kt (l : Launch) (y : MethodName) (ws : List Cond) (rm : Room) (z : Nat) (E : EE) (av : List Value) (M : MM) (post : Option Value → MM → Prop) (xp : String → Prop) (mc ms : Nat) : Prop :=
  vx_Met l y ws rm (va_Pc av (Wd z E M)) (Qg z E post) (XCm z E M xp) mc ms (zA z)
abbrev pI (P : Int32 → MM → Prop) : Option Value → MM → Prop := fun v M' => ∃ r : Int32, v = some (.int r) ∧ P r M'
abbrev pV (P : MM → Prop) : Option Value → MM → Prop := fun v M' => v = none ∧ P M'
abbrev pA (P : Nat → MM → Prop) : Option Value → MM → Prop := fun v M' => ∃ r : Nat, v = some (.ref r) ∧ P r M'
abbrev xNo : String → Prop := fun _ => False
theorem wd_blind {av : List Value} {z : Nat} {E : EE} {M : MM} : FrameBlind (va_Pc av (Wd z E M)) := fun a U g mk q => ⟨q.1, q.2.1, q.2.2.1, Gl.moved (U := U.calling g mk a) q.2.2.2 (State.WarmedH.refl U) (fun _ _ _ => rfl)⟩
theorem wd_call {z : Nat} {E : EE} {M : MM} {s : State} {H : Heap} {locs : List Loc} (hG : Gl z E s) (hz : z ≤ s.heap.size) (hS : va_S (zA z) s.heap H locs) (hM : Mod z E M H) {U : State} (hU : U.heap = H) (hW : s.WarmedH U.vm) : Wd z E M U :=
  ⟨by rw [hU]; exact Nat.le_trans hz hS.1, by rw [hU]; exact hM, hG.moved hW (by rw [hU]; exact hS.2.1)⟩
section KB
variable {p : Program} {l : Launch} {e : Env} {R : Room} {s : State} {m : MethodId} {args : Array Value} {below : List Frame} {meth : Method} {c : Code} {H : Heap} {locs : List Loc} {cells slots : Nat} {Q : State → Prop}
variable {z : Nat} {E : EE} {M : MM} {pc : Nat} {ls : Array Slot} {st0 rest : List Value} {a : Array Value} {mc ms k n : Nat} {post : Option Value → MM → Prop} {xp : String → Prop}
/-- a method's body: all that its rows need -/
theorem k_body {y : MethodName} {cc : ByteArray} {maxL : Nat} {ret : Option FieldType} {rm : Room} {av : List Value} (own : String) (hy : plainName y.cls = true) (ho : y.cls = own) (hlen : (lg_sl av).length ≤ maxL)
    (body : ∀ (p : Program) (e : Env) (s : State) (m : MethodId) (args : Array Value) (below : List Frame) (meth : Method) (c : Code), p.tables.exec = Jvm.exec → c.code = cc → meth.sig.returnType = ret → c.maxLocals = maxL → s.vm.findClass own = some m.cls → meth.locks = false → meth.name = y.name → (∀ x ∈ c.exceptionTable.toList, False) →
      (∀ w ∈ lw_all, w.before args s = true) → z ≤ s.heap.size → Gl z E s → Mod z E M s.heap → va_S (zA z) s.heap s.heap [] → ∀ ls : Array Slot, lv_has ls maxL (lv_args 0 av) →
      W p l e rm s m args below meth c s.heap [] 0 0 (vx_MQ below (Qg z E post) (XCm z E M xp) args s mc ms (zA z)) (F0 m 0 ls [])) : Kt l y (ws_ y cc maxL ret) rm z E av M post xp mc ms := by
  refine vx_ofW (cc := cc) (maxL := maxL) (ret := ret) hy rfl ?_
  intro p e s m args below meth c s₁ B hml hno hv
  obtain ⟨rfl, hz, hM, hG⟩ := hv
  have hts := atoms_spec (ws := ws_ y cc maxL ret) B.pre
  have hown : s.vm.findClass y.cls = some m.cls := findClass_of_methodNamed B.named
  rw [ho] at hown
  rw [lg_entry_eq]
  exact body p e s m _ below meth c B.exec B.bytes B.returns hml hown B.notSynchronized (name_of_methodNamed B.named B.method).1 hno (fun w h => hts w (List.mem_cons_of_mem _ h)) hz hG hM va_S.rf _ (lv_entry av hlen)
/-- the same of a method with handlers -/
theorem k_bodyW {y : MethodName} {cc : ByteArray} {maxL : Nat} {ret : Option FieldType} {hh : List (Nat × Nat × Nat × Nat)} {rm : Room} {av : List Value} (own : String) (hy : plainName y.cls = true) (ho : y.cls = own) (hlen : (lg_sl av).length ≤ maxL)
    (body : ∀ (p : Program) (e : Env) (s : State) (m : MethodId) (args : Array Value) (below : List Frame) (meth : Method) (c : Code), p.tables.exec = Jvm.exec → c.code = cc → meth.sig.returnType = ret → c.maxLocals = maxL → s.vm.findClass own = some m.cls → meth.locks = false → meth.name = y.name → c.exceptionTable.toList = tableOf hh →
      (∀ w ∈ lw_all, w.before args s = true) → z ≤ s.heap.size → Gl z E s → Mod z E M s.heap → va_S (zA z) s.heap s.heap [] → ∀ ls : Array Slot, lv_has ls maxL (lv_args 0 av) →
      W p l e rm s m args below meth c s.heap [] 0 0 (vx_MQ below (Qg z E post) (XCm z E M xp) args s mc ms (zA z)) (F0 m 0 ls [])) : Kt l y (wsW_ y cc maxL ret hh) rm z E av M post xp mc ms := by
  refine vx_ofWH (cc := cc) (maxL := maxL) (ret := ret) hy rfl ?_
  intro p e s m args below meth c s₁ B hml hv
  obtain ⟨rfl, hz, hM, hG⟩ := hv
  have hts := atoms_spec (ws := wsW_ y cc maxL ret hh) B.pre
  have hown : s.vm.findClass y.cls = some m.cls := findClass_of_methodNamed B.named
  rw [ho] at hown
  have htab := vx_table (x := y) B (hts _ List.mem_cons_self)
  rw [lg_entry_eq]
  exact body p e s m _ below meth c B.exec B.bytes B.returns hml hown B.notSynchronized (name_of_methodNamed B.named B.method).1 htab (fun w h => hts w (List.mem_cons_of_mem _ h)) hz hG hM va_S.rf _ (lv_entry av hlen)
/-- a call's two ways on -/
theorem k_go (hr : vx_Run p l e R s m args below meth c H locs cells slots mc ms (F0 m pc ls st0) rest (Qg z E post a) (XCm z E M xp) (zA z)) (hS : va_S (zA z) s.heap H locs) (hk : cells + mc = k) (hn : slots + ms = n)
    (kx : ∀ (cn : String) (ce : Cell) (q9 : Addr) (H : Heap) (locs : List Loc), xp cn → Mod z E M H → va_S (zA z) s.heap H locs → H[q9]? = some ce → ce.vm = .none → s.vm.findClass cn = some ce.cls → vx_W p l e R s m args below meth c H locs k n Q (F0 m pc ls rest) q9)
    (kk : ∀ (v : Option Value) (M : MM) (H : Heap) (locs : List Loc), post v M → Mod z E M H → va_S (zA z) s.heap H locs → W p l e R s m args below meth c H locs k n Q (F0 m (pc + 3) ls (v.toList ++ rest))) : W p l e R s m args below meth c H locs cells slots Q (F0 m pc ls st0) := by
  subst hk; subst hn
  intro T hT X
  rcases hr T hT X with ⟨v, st₀, t, T', L, h0, X', hL, e1, e2, ⟨⟨v2, M', hv, hp, hb⟩, hF⟩, st⟩ | ⟨q, st₀, t, T', L, cn, ce, h0, X', hL, e1, e2, ⟨⟨hp, hb⟩, hF⟩, hce, hcv, hcl, st⟩
  · cases hv
    obtain ⟨k1, k2, k3⟩ := vx_keep h0 e1 hS (fun q _ h => h) (fun q h => h) hL hF
    obtain ⟨t2, a1, b1⟩ := kk v M' T'.heap (locs ++ L) hp (by rw [e1]; exact hb.2.1) k3 T' rfl X'
    exact ⟨t2, st t2 a1, b1⟩
  · obtain ⟨k1, k2, k3⟩ := vx_keep h0 e1 hS (fun q _ h => h) (fun q h => h) hL hF
    obtain ⟨t2, a1, b1⟩ := kx cn ce q T'.heap (locs ++ L) hp (by rw [e1]; exact hb.2.1) k3 (by rw [e1]; exact hce) hcv hcl T' rfl X'
    exact ⟨t2, st.trans a1, b1⟩
theorem k_go5 (hr : vx_Run5 p l e R s m args below meth c H locs cells slots mc ms (F0 m pc ls st0) rest (Qg z E post a) (XCm z E M xp) (zA z)) (hS : va_S (zA z) s.heap H locs) (hk : cells + mc = k) (hn : slots + ms = n)
    (kx : ∀ (cn : String) (ce : Cell) (q9 : Addr) (H : Heap) (locs : List Loc), xp cn → Mod z E M H → va_S (zA z) s.heap H locs → H[q9]? = some ce → ce.vm = .none → s.vm.findClass cn = some ce.cls → vx_W p l e R s m args below meth c H locs k n Q (F0 m pc ls rest) q9)
    (kk : ∀ (v : Option Value) (M : MM) (H : Heap) (locs : List Loc), post v M → Mod z E M H → va_S (zA z) s.heap H locs → W p l e R s m args below meth c H locs k n Q (F0 m (pc + 5) ls (v.toList ++ rest))) : W p l e R s m args below meth c H locs cells slots Q (F0 m pc ls st0) := by
  subst hk; subst hn
  intro T hT X
  rcases hr T hT X with ⟨v, st₀, t, T', L, h0, X', hL, e1, e2, ⟨⟨v2, M', hv, hp, hb⟩, hF⟩, st⟩ | ⟨q, st₀, t, T', L, cn, ce, h0, X', hL, e1, e2, ⟨⟨hp, hb⟩, hF⟩, hce, hcv, hcl, st⟩
  · cases hv
    obtain ⟨k1, k2, k3⟩ := vx_keep h0 e1 hS (fun q _ h => h) (fun q h => h) hL hF
    obtain ⟨t2, a1, b1⟩ := kk v M' T'.heap (locs ++ L) hp (by rw [e1]; exact hb.2.1) k3 T' rfl X'
    exact ⟨t2, st t2 a1, b1⟩
  · obtain ⟨k1, k2, k3⟩ := vx_keep h0 e1 hS (fun q _ h => h) (fun q h => h) hL hF
    obtain ⟨t2, a1, b1⟩ := kx cn ce q T'.heap (locs ++ L) hp (by rw [e1]; exact hb.2.1) k3 (by rw [e1]; exact hce) hcv hcl T' rfl X'
    exact ⟨t2, st.trans a1, b1⟩
/-- not caught: out to the caller -/
theorem k_out {M0 : MM} {xp0 : String → Prop} {cn : String} {ce : Cell} {q9 : Addr} (hno : ∀ x ∈ c.exceptionTable.toList, False) (hlocks : meth.locks = false) (hG : Gl z E s) (hz : z ≤ s.heap.size) (hM : Mod z E M0 H) (hS : va_S (zA z) s.heap H locs) (hcell : H[q9]? = some ce) (hv : ce.vm = .none) (hcl : s.vm.findClass cn = some ce.cls) (hx : xp0 cn) (hk : k ≤ mc) (hn : n ≤ ms) :
    vx_W p l e R s m args below meth c H locs k n (vx_MQ below (Qg z E post) (XCm z E M0 xp0) args s mc ms (zA z)) (F0 m pc ls rest) q9 := by
  intro T hT X
  obtain ⟨st1, hrun, hend, hW, hsm⟩ := X.leaveThrown q9 (g := F0 m pc ls rest) rfl rfl rfl (fun x h => (hno x h).elim) hlocks
  have hcell9 : (T.setFrames (.throwing q9 :: below)).heap[q9]? = some ce := by
    show T.heap[q9]? = some ce
    rw [hT]; exact hcell
  refine ⟨_, st1, .threw q9, hrun, hend, Or.inr ⟨q9, rfl, cn, ce, locs, ⟨⟨hx, wd_call hG hz hS hM hT hW⟩, hS.F hT⟩, hcell9, hv, hcl, hW, hsm.mono hk hn, hS.2.2⟩⟩
/-- the ways out -/
theorem k_iret {cc : ByteArray} {ty : FieldType} {v : Int32} {M0 : MM} {xp0 : String → Prop} (hx : p.tables.exec = Jvm.exec) (hb : c.code = cc) (hr : meth.sig.returnType = some ty) (hty : narrow ty (.int v) = .int v) (hlocks : meth.locks = false) (hG : Gl z E s) (hz : z ≤ s.heap.size) (hM : Mod z E M H) (hS : va_S (zA z) s.heap H locs) (hk : cells ≤ mc) (hn : slots ≤ ms) (hdg : decode cc pc = .ok (.ireturn, 1)) (hp : post (some (.int v)) M) :
    W p l e R s m args below meth c H locs cells slots (vx_MQ below (Qg z E post) (XCm z E M0 xp0) args s mc ms (zA z)) (F0 m pc ls [.int v]) := by
  refine W.widen (k := mc) (n := ms) hk hn (vx_ret (W.zret (v := v) hx hb hr hty (fun t ht hW => ?_) hS.2.2 hdg hlocks))
  exact ⟨⟨_, M, rfl, hp, wd_call hG hz hS hM ht hW⟩, hS.F ht⟩
theorem k_vret {cc : ByteArray} {M0 : MM} {xp0 : String → Prop} (hx : p.tables.exec = Jvm.exec) (hb : c.code = cc) (hr : meth.sig.returnType = none) (hlocks : meth.locks = false) (hG : Gl z E s) (hz : z ≤ s.heap.size) (hM : Mod z E M H) (hS : va_S (zA z) s.heap H locs) (hk : cells ≤ mc) (hn : slots ≤ ms) (hdg : decode cc pc = .ok (.return_, 1)) (hp : post none M) :
    W p l e R s m args below meth c H locs cells slots (vx_MQ below (Qg z E post) (XCm z E M0 xp0) args s mc ms (zA z)) (F0 m pc ls []) := by
  refine W.widen (k := mc) (n := ms) hk hn (vx_ret (W.vret hx hb hr (fun t ht hW => ?_) hS.2.2 hdg hlocks))
  exact ⟨⟨_, M, rfl, hp, wd_call hG hz hS hM ht hW⟩, hS.F ht⟩
theorem k_aret {cc : ByteArray} {rt : FieldType} {v : Nat} {M0 : MM} {xp0 : String → Prop} (hx : p.tables.exec = Jvm.exec) (hb : c.code = cc) (hr : meth.sig.returnType = some rt) (hrt : (∃ n, rt = .object n) ∨ ∃ t, rt = .array t) (hlocks : meth.locks = false) (hG : Gl z E s) (hz : z ≤ s.heap.size) (hM : Mod z E M H) (hS : va_S (zA z) s.heap H locs) (hk : cells ≤ mc) (hn : slots ≤ ms) (hdg : decode cc pc = .ok (.areturn, 1)) (hp : post (some (.ref v)) M) :
    W p l e R s m args below meth c H locs cells slots (vx_MQ below (Qg z E post) (XCm z E M0 xp0) args s mc ms (zA z)) (F0 m pc ls [.ref v]) := by
  refine W.widen (k := mc) (n := ms) hk hn (vx_ret (W.aret (v := .ref v) hx hb hr hrt (Or.inr ⟨v, rfl⟩) (fun t ht hW => ?_) hS.2.2 hdg hlocks))
  exact ⟨⟨_, M, rfl, hp, wd_call hG hz hS hM ht hW⟩, hS.F ht⟩
theorem k_recv {b ci : Nat} {fs : List Value} {C : String} {T : u_T} {N : Nat} (hG : Gl z E s) (hM : Mod z E M H) (hb : M b = some (.inr (ci, fs))) (hc : vwCl[ci]? = some (C, T, N)) : ∃ cell : Cell, H[b]? = some cell ∧ cell.vm.isStatics = false ∧ s.vm.findClass C = some cell.cls := va_recv hG.K (hM.one hb) hc (q0 := 0) rfl
end KB
