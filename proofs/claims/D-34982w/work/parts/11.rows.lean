/-! ROWS over the world map: one instruction, one row; calls by kind. x_callIFD, x_runFD follow vx_callIF, vx_runF of kit/laws/EXCEPTIONS (a default method instead of a declared one: the library's interfaceBackD) -/
section
variable {p : Program} {l : Launch} {e : Env} {R : Room} {s : State} {m : MethodId} {args : Array Value} {below : List Frame} {meth : Method} {c : Code} {H : Heap} {locs : List Loc} {cells slots : Nat} {Q : State → Prop}
theorem x_callIFD {T : State} (X : Stand p l e R s m args below meth c T locs cells slots) (hexec : p.tables.exec = Jvm.exec) {own C : String} {index count : Nat} {x y : MethodName} {bytes : ByteArray} {maxL : Nat} {ret : Option FieldType}
    (hown : s.vm.findClass own = some m.cls) (hlink : (Cond.methodLink own index x).before args s = true) (hdecl : (Cond.declares x).before args s = true) (hface : (Cond.interfaceMethod x.cls x.cls x.name x.desc).before args s = true)
    (hsel : (Cond.landsInDefault C x y).before args s = true) (hinst : (Cond.instanceMethod y).before args s = true) (hpub : (Cond.publicMethod y).before args s = true)
    (hcast : (Cond.castable C x.cls).before args s = true) (hcode : (Cond.code y bytes maxL ret).before args s = true) (hx : x.cls ≠ "java/lang/invoke/MethodHandle" ∧ x.cls ≠ "java/lang/invoke/VarHandle")
    {W9 : Nat} {Pre : Pt → Array Value → Prop} {Post : Pt → Array Value → Option Value → Pt → Prop} {PostX : Pt → Array Value → Addr → Pt → Prop} (hK : vx_Back l R p e below s args y 5 W9 Pre Post PostX)
    {b : Addr} {cellB : Cell} {kB : Class} (hcell : T.heap[b]? = some cellB) (hobj : cellB.vm.isStatics = false) (hcls : s.vm.findClass C = some cellB.cls) (hkB : s.vm.classes[cellB.cls]? = some kB)
    {g : JFrame} (hg : g.method = m) (hsize : g.locals.size = c.maxLocals) {argsL rest : List Value} (hlen : ∀ sig, parseMethodDescriptor x.desc = some sig → argsL.length = sig.parameters.length)
    (hstack : g.stack = argsL.reverse ++ .ref b :: rest) (hW : 2 * g.monitorRoom + (rest.map fun v => v.category).sum ≤ W9) (hdg : decode c.code g.pc = .ok (.invokeinterface index count, 5))
    (hpre : ∀ vm₁, s.WarmedH vm₁ → Pre ⟨T.setVm vm₁, locs, cells, slots⟩ (Value.ref b :: argsL).toArray) :
    (∃ (v : Option Value) (vm₁ : Vm) (B : Pt), s.WarmedH vm₁ ∧ Stand p l e R s m args below meth c B.U B.locs B.cells B.slots ∧ Post ⟨T.setVm vm₁, locs, cells, slots⟩ (Value.ref b :: argsL).toArray v B ∧
      ∀ target, Steps p.tables e below (B.U.setTop { g with pc := g.pc + 5, stack := v.toList ++ rest }) target → Steps p.tables e below (T.setTop g) target) ∨
    (∃ (q : Addr) (vm₁ : Vm) (B : Pt), s.WarmedH vm₁ ∧ Stand p l e R s m args below meth c B.U B.locs B.cells B.slots ∧ PostX ⟨T.setVm vm₁, locs, cells, slots⟩ (Value.ref b :: argsL).toArray q B ∧
      Steps p.tables e below (T.setTop g) ((B.U.setTop { g with stack := rest }).pushFrame (.throwing q))) := by
  obtain ⟨r0, r, hn, hrm, hstR, hsigR⟩ := Cond.declares_spec hdecl
  obtain ⟨cL, kL, r1, hcL, hkL, hiL, hfoundL, hn1⟩ := Cond.interfaceMethod_spec hface
  cases hn.symm.trans hn1
  have hr0cls : r0.cls = cL := Option.some.inj ((findClass_of_methodNamed hn).symm.trans hcL)
  obtain ⟨hnameR, hdescR⟩ := name_of_methodNamed hn hrm
  obtain ⟨mk, methM, hnamed, hmethM, -, habM⟩ := Cond.instanceMethod_spec hinst
  obtain ⟨c2, r2, m2, rm9, q1, q2, q3, q5, q4, -, q6, -⟩ := Cond.landsInDefault_spec hsel
  cases hcls.symm.trans q1
  cases hfoundL.symm.trans q2
  cases hnamed.symm.trans q3
  cases hrm.symm.trans q5
  have hselP : selectMethod e.platform s.vm cellB.cls r0 = .method mk := by rw [Launch.admits_selectMethod X.admits]; exact q4
  have hpubM : hasFlag methM.accessFlags Acc.public_ = true := Cond.publicMethod_spec hnamed hmethM hpub
  have hway : ((cellB.cls :: s.vm.superclasses cellB.cls).any fun k => (declaredIn s.vm r.name r.desc k).any fun (_, z) => z.isPrivate || z.isStatic) = false := by
    exact q6
  obtain ⟨c3, t3, w1, w2, w3⟩ := Cond.castable_spec hcast
  cases hcls.symm.trans w1
  cases hcL.symm.trans w2
  obtain ⟨vm₁, X₁, hstep₁⟩ := X.invokeinterface hexec hown hlink hn hrm hstR (by rw [hr0cls]; exact hkL) hiL hx (a := b) (cell := cellB) (kcell := kB) hcell
    (fun z h => by rw [h] at hobj; cases hobj) hkB (by rw [hr0cls]; exact w3) hselP hmethM hway hpubM habM (g := g) hg (argsL := argsL) (rest := rest) (hlen _ hsigR) hstack hdg
  rcases hK m meth c ⟨T.setVm vm₁, locs, cells, slots⟩ { g with stack := rest } (.invokeinterface index count) mk (Value.ref b :: argsL).toArray X₁ hg hsize hdg hW (X₁.named hnamed) (hpre vm₁ X₁.warmed) with ⟨v, B, X', hpost, hsteps⟩ | ⟨q, B, X', hpost, hsteps⟩
  · exact Or.inl ⟨v, vm₁, B, X₁.warmed, X', hpost, fun target h => hstep₁ _ fun acts => by rw [doInvoke_state]; exact hsteps.trans h⟩
  · exact Or.inr ⟨q, vm₁, B, X₁.warmed, X', hpost, hstep₁ _ fun acts => by rw [doInvoke_state]; exact hsteps⟩
theorem x_runFD {x y : MethodName} {bytes cc : ByteArray} {maxL nL mc ms n index count : Nat} {ret : Option FieldType} {ws : List Cond} {rm : Room} {Pc : Array Value → State → Prop} {Qc : Array Value → State → Outcome → State → Prop} {XC : String → State → State → Prop} {free : Addr → Prop} {Ts : List Cond} {own C : String} {cC : ClassId} {b : Addr} {As rest : List Value} {g : JFrame}
    (hat : ClassAt s C cC) (S : CallFix p m c cc nL s args Ts own) (hM : vx_Met l y ws rm Pc Qc XC mc ms free) (cw : (rm.cells = mc ∧ rm.slots = ms ∧ rm.frames + 1 ≤ R.frames ∧ 8 + (maxL + 11) + rm.locals ≤ R.locals ∧ (∀ w ∈ ws, ∀ (a' : Array Value) (U : State), s.WarmedH U.vm → w.before a' U = true) ∧ Cond.code y bytes maxL ret ∈ ws) ∧ (Cond.methodLink own index x).before args s = true ∧ (Cond.instanceMethod y).before args s = true ∧ (Cond.initialized y.cls).before args s = true ∧ (Cond.code y bytes maxL ret).before args s = true ∧ (x.cls ≠ "java/lang/invoke/MethodHandle" ∧ x.cls ≠ "java/lang/invoke/VarHandle") ∧ (∀ sig, parseMethodDescriptor x.desc = some sig → n = sig.parameters.length) ∧ vFd C x y s) (hp : PreV s H C b Pc As)
    (hg : g.method = m) (hn : As.length = n) (hsize : g.locals.size = nL) (hstack : g.stack = As.reverse ++ .ref b :: rest) (hW : 2 * g.monitorRoom + (rest.map fun v => v.category).sum ≤ 8) (hdg : decode cc g.pc = .ok (.invokeinterface index count, 5)) (hf : cells + mc ≤ R.cells ∧ slots + ms ≤ R.slots) :
    vx_Run5 p l e R s m args below meth c H locs cells slots mc ms g rest (Qc (Value.ref b :: As).toArray) XC free := by
  obtain ⟨⟨hrc, hrs, hfr, hlo, hws, hcw⟩, clink, cinst, hini, ccode, cnot, clen, cf1, cf2, cf3, cf4, cf5⟩ := cw
  have hK : vx_Back l R p e below s args y 5 8 (PreOf R mc ms Pc) (PostOf Qc mc ms free) (vx_Post XC mc ms free) := vx_back (bytes := bytes) (maxL := maxL) (ret := ret) hM hp.1 hrc hrs hfr hlo hws hcw (fun a' U hW => word_at hW (Or.inl (by first | rfl | simp [Cond.onTables, Cond.keeps, Cond.steady])) hini)
  obtain ⟨hx, hb, hml, ho, -⟩ := S
  obtain ⟨-, ⟨cellB, hcB, hoB, hclB⟩, hPc⟩ := hp
  obtain ⟨hfc, kB, hkB, -⟩ := hat
  cases hfc.symm.trans hclB
  intro T hT X
  rcases x_callIFD X hx (C := C) (bytes := bytes) (maxL := maxL) (ret := ret) ho clink (va_any rfl cf1) (va_any rfl cf2) cf4 cinst (va_any rfl cf3) (va_any rfl cf5) ccode cnot hK (by rw [hT]; exact hcB) hoB hclB hkB hg (hsize.trans hml.symm) (argsL := As) (rest := rest) (fun sig h => hn.trans (clen sig h)) hstack hW (by rw [hb]; exact hdg)
    (fun vm₁ hW₁ => ⟨hf.1, hf.2, hPc (T.setVm vm₁) hT hW₁⟩) with ⟨v, vm₁, ⟨U', l2, c2, s2⟩, hW₁, X', ⟨g', mk, t, L, e1, e2, hq, h1, hL, h2, h3⟩, st⟩ | ⟨q, vm₁, ⟨U', l2, c2, s2⟩, hW₁, X', ⟨g', mk, t, L, E, ce, e1, e2, hq, hce, hcv, hcl, h1, hL, h2, h3⟩, st⟩
  · dsimp only [Pt.U, Pt.locs, Pt.cells, Pt.slots] at X' e1 e2 h1 h2 h3 st
    subst h1; subst h2; subst h3
    exact Or.inl ⟨v, (T.setVm vm₁).calling g' mk (Value.ref b :: As).toArray, t, U', L, hT, X', hL, e1, e2, hq, st⟩
  · dsimp only [Pt.U, Pt.locs, Pt.cells, Pt.slots] at X' e1 e2 h1 h2 h3 st hcl
    subst h1; subst h2; subst h3
    exact Or.inr ⟨q, (T.setVm vm₁).calling g' mk (Value.ref b :: As).toArray, t, U', L, E, ce, hT, X', hL, e1, e2, hq, hce, hcv, vx_cls hW₁ hcl, st⟩
end
section
variable {p : Program} {l : Launch} {e : Env} {R : Room} {s : State} {m : MethodId} {args : Array Value} {below : List Frame} {meth : Method} {c : Code} {H : Heap} {locs : List Loc} {cells slots : Nat} {Q : State → Prop}
variable {cc : ByteArray} {pc : Nat} {ls : Array Slot} {rest : List Value} {z : Nat} {E : EE} {M : MM} {a nL : Nat} {own : String}
theorem r_get {ref C : String} {T : u_T} {N ci index : Nat} (hF : CallFix p m c cc nL s args lw_all own) (hin : ∀ w ∈ u_ws C T N, w ∈ lw_all) (hG : Gl z E s) (hM : Mod z E M H) {fs : List Value} (he : M a = some (.inr (ci, fs))) (hc : vwCl[ci]? = some (C, T, N)) (k : Nat) (hk : k < N) (hlink : Cond.fieldLink own index ref (T k).2.1 (T k).2.2.1 ∈ lw_all) (hsame : ∀ x, s.fieldFound? (T k).1 (T k).2.1 (T k).2.2.1 = some x → s.fieldFound? ref (T k).2.1 (T k).2.2.1 = some x) (v : Value) (hv : fs[k]? = some v) (hdg : decode cc pc = .ok (.getfield index, 3))
    (kk : W p l e R s m args below meth c H locs cells slots Q (F0 m (pc + 3) ls (v :: rest))) : W p l e R s m args below meth c H locs cells slots Q (F0 m pc ls (.ref a :: rest)) :=
  va_get hF.1 hF.2.1 hF.2.2.2.2 hin hF.2.2.2.1 hG.K (hM.one he) 0 rfl hc k hk (hF.2.2.2.2 _ hlink) hsame hv hdg kk
theorem r_getN {ref C host : String} {T : u_T} {N ci index : Nat} (hF : CallFix p m c cc nL s args lw_all own) (hin : ∀ w ∈ u_ws C T N, w ∈ lw_all) (hG : Gl z E s) (hM : Mod z E M H) {fs : List Value} (he : M a = some (.inr (ci, fs))) (hc : vwCl[ci]? = some (C, T, N)) (k : Nat) (hk : k < N) (hlink : Cond.fieldLinkNest own index ref (T k).2.1 (T k).2.2.1 host ∈ lw_tbl) (hsame : ∀ x, s.fieldFound? (T k).1 (T k).2.1 (T k).2.2.1 = some x → s.fieldFound? ref (T k).2.1 (T k).2.2.1 = some x) (v : Value) (hv : fs[k]? = some v) (hdg : decode cc pc = .ok (.getfield index, 3))
    (kk : W p l e R s m args below meth c H locs cells slots Q (F0 m (pc + 3) ls (v :: rest))) : W p l e R s m args below meth c H locs cells slots Q (F0 m pc ls (.ref a :: rest)) :=
  va_getN hF.1 hF.2.1 hF.2.2.2.2 hin hF.2.2.2.1 hG.K (hM.one he) 0 rfl hc k hk (va_Nw.use rfl (hG.nw hlink rfl)) hsame hv hdg kk
theorem r_put {ref C : String} {T : u_T} {N ci index : Nat} (hF : CallFix p m c cc nL s args lw_all own) (hin : ∀ w ∈ u_ws C T N, w ∈ lw_all) (ty0 : Nat → FieldType) (hty : ∀ k, k < N → parseFieldDescriptor (T k).2.2.1 = some (ty0 k)) (hnm : ∀ a, a < N → ∀ b, b < N → a ≠ b → (T a).2.1 ≠ (T b).2.1) (hG : Gl z E s) (hM : Mod z E M H) (hS0 : va_S (zA z) s.heap H locs) {fs : List Value} (he : M a = some (.inr (ci, fs))) (hc : vwCl[ci]? = some (C, T, N)) (k : Nat) (hk : k < N) (hlink : Cond.fieldLink own index ref (T k).2.1 (T k).2.2.1 ∈ lw_all) (hsame : ∀ x, s.fieldFound? (T k).1 (T k).2.1 (T k).2.2.1 = some x → s.fieldFound? ref (T k).2.1 (T k).2.2.1 = some x) (hfin : (T k).2.2.2 = false) {ty : FieldType} {v : Value} (hd : parseFieldDescriptor (T k).2.2.1 = some ty) (hn : narrow ty v = v) (hfit : fits ty v = true) (hl : k < fs.length)
    (hdg : decode cc pc = .ok (.putfield index, 3)) (kk : ∀ (H : Heap) (locs : List Loc), Mod z E (mput M a (.inr (ci, fs.set k v))) H → va_S (zA z) s.heap H locs → W p l e R s m args below meth c H locs cells slots Q (F0 m (pc + 3) ls rest)) : W p l e R s m args below meth c H locs cells slots Q (F0 m pc ls (v :: .ref a :: rest)) := by
  have hap := va_apart (own := own) hF.2.2.2.2 hin ty0 hty hnm hG.K hc
  obtain ⟨hza, r, h1, cell, q1, q2, q3, q4⟩ := hM a _ he
  have hr : r = (C, T, N) := Option.some.inj (h1.symm.trans hc)
  subst hr
  obtain ⟨hS, hfc, kC, hkC, hkind⟩ := hG.K.1 ci _ hc
  obtain ⟨cf, kf, fi, f, hi, hsl⟩ := hS k hk
  have hlay := hF.2.2.2.2 _ (hin _ (u_in_lay hk))
  unfold u_lay at hlay
  rw [if_neg (by rw [hfin]; decide)] at hlay
  have hst := (u_facts hfc hkC (u_lays hF.2.2.2.2 hin hk) hi).1
  have h6 := u_store hfc hkC hkind hlay hi hd hn hfit
  refine W.putK hF.1 hF.2.1 (f := f) ⟨hF.2.2.2.1, hF.2.2.2.2 _ hlink, ⟨_, _, _, hsame _ hi⟩, hst⟩ (by rw [q2]; exact h6) q1 q3 (by rw [hsl]; exact k2_hasslot (q4 k hk)) rfl rfl hdg fun H' e1 e2 e3 => ?_
  rw [hsl] at e1 ⊢
  exact kk H' _ (hM.put hza ⟨_, hc, t_OB.to (V := updV (vp_V fs) k v) ⟨_, e1, q2, q3, t_set q4 hap hk v⟩ (fun j _ => vp_updV_set hl v j)⟩ (fun q _ hq => e3 q hq)) (hS0.put e2 e3 hza)
theorem r_putN {ref C host : String} {T : u_T} {N ci index : Nat} (hF : CallFix p m c cc nL s args lw_all own) (hin : ∀ w ∈ u_ws C T N, w ∈ lw_all) (ty0 : Nat → FieldType) (hty : ∀ k, k < N → parseFieldDescriptor (T k).2.2.1 = some (ty0 k)) (hnm : ∀ a, a < N → ∀ b, b < N → a ≠ b → (T a).2.1 ≠ (T b).2.1) (hG : Gl z E s) (hM : Mod z E M H) (hS0 : va_S (zA z) s.heap H locs) {fs : List Value} (he : M a = some (.inr (ci, fs))) (hc : vwCl[ci]? = some (C, T, N)) (k : Nat) (hk : k < N) (hlink : Cond.fieldLinkNest own index ref (T k).2.1 (T k).2.2.1 host ∈ lw_tbl) (hsame : ∀ x, s.fieldFound? (T k).1 (T k).2.1 (T k).2.2.1 = some x → s.fieldFound? ref (T k).2.1 (T k).2.2.1 = some x) (hfin : (T k).2.2.2 = false) {ty : FieldType} {v : Value} (hd : parseFieldDescriptor (T k).2.2.1 = some ty) (hn : narrow ty v = v) (hfit : fits ty v = true) (hl : k < fs.length)
    (hdg : decode cc pc = .ok (.putfield index, 3)) (kk : ∀ (H : Heap) (locs : List Loc), Mod z E (mput M a (.inr (ci, fs.set k v))) H → va_S (zA z) s.heap H locs → W p l e R s m args below meth c H locs cells slots Q (F0 m (pc + 3) ls rest)) : W p l e R s m args below meth c H locs cells slots Q (F0 m pc ls (v :: .ref a :: rest)) := by
  have hap := va_apart (own := own) hF.2.2.2.2 hin ty0 hty hnm hG.K hc
  obtain ⟨hza, r, h1, cell, q1, q2, q3, q4⟩ := hM a _ he
  have hr : r = (C, T, N) := Option.some.inj (h1.symm.trans hc)
  subst hr
  obtain ⟨hS, hfc, kC, hkC, hkind⟩ := hG.K.1 ci _ hc
  obtain ⟨cf, kf, fi, f, hi, hsl⟩ := hS k hk
  have hlay := hF.2.2.2.2 _ (hin _ (u_in_lay hk))
  unfold u_lay at hlay
  rw [if_neg (by rw [hfin]; decide)] at hlay
  have hst := (u_facts hfc hkC (u_lays hF.2.2.2.2 hin hk) hi).1
  have h6 := u_store hfc hkC hkind hlay hi hd hn hfit
  refine va_WputK hF.1 hF.2.1 (f := f) hF.2.2.2.1 (va_Nw.use rfl (hG.nw hlink rfl)) (hsame _ hi) hst (by rw [q2]; exact h6) q1 q3 (by rw [hsl]; exact k2_hasslot (q4 k hk)) rfl rfl hdg fun H' e1 e2 e3 => ?_
  rw [hsl] at e1 ⊢
  exact kk H' _ (hM.put hza ⟨_, hc, t_OB.to (V := updV (vp_V fs) k v) ⟨_, e1, q2, q3, t_set q4 hap hk v⟩ (fun j _ => vp_updV_set hl v j)⟩ (fun q _ hq => e3 q hq)) (hS0.put e2 e3 hza)
theorem r_putF {ref C : String} {T : u_T} {N ci index : Nat} (hF : CallFix p m c cc nL s args lw_all own) (hin : ∀ w ∈ u_ws C T N, w ∈ lw_all) (ty0 : Nat → FieldType) (hty : ∀ k, k < N → parseFieldDescriptor (T k).2.2.1 = some (ty0 k)) (hnm : ∀ a, a < N → ∀ b, b < N → a ≠ b → (T a).2.1 ≠ (T b).2.1) (hG : Gl z E s) (hM : Mod z E M H) (hS0 : va_S (zA z) s.heap H locs) {fs : List Value} (he : M a = some (.inr (ci, fs))) (hc : vwCl[ci]? = some (C, T, N)) (k : Nat) (hk : k < N) (hlink : Cond.fieldLink own index ref (T k).2.1 (T k).2.2.1 ∈ lw_all) (hsame : ∀ x, s.fieldFound? (T k).1 (T k).2.1 (T k).2.2.1 = some x → s.fieldFound? ref (T k).2.1 (T k).2.2.1 = some x) (hfin : (T k).2.2.2 = true) (hin2 : meth.name = "<init>") (hdecl : (T k).1 = own) {ty : FieldType} {v : Value} (hd : parseFieldDescriptor (T k).2.2.1 = some ty) (hn : narrow ty v = v) (hfit : fits ty v = true) (hl : k < fs.length)
    (hdg : decode cc pc = .ok (.putfield index, 3)) (kk : ∀ (H : Heap) (locs : List Loc), Mod z E (mput M a (.inr (ci, fs.set k v))) H → va_S (zA z) s.heap H locs → W p l e R s m args below meth c H locs cells slots Q (F0 m (pc + 3) ls rest)) : W p l e R s m args below meth c H locs cells slots Q (F0 m pc ls (v :: .ref a :: rest)) := by
  have hap := va_apart (own := own) hF.2.2.2.2 hin ty0 hty hnm hG.K hc
  obtain ⟨hza, r, h1, cell, q1, q2, q3, q4⟩ := hM a _ he
  have hr : r = (C, T, N) := Option.some.inj (h1.symm.trans hc)
  subst hr
  obtain ⟨hS, hfc, kC, hkC, hkind⟩ := hG.K.1 ci _ hc
  obtain ⟨cf, kf, fi, f, hi, hsl⟩ := hS k hk
  have hlay := hF.2.2.2.2 _ (hin _ (u_in_lay hk))
  unfold u_lay at hlay
  rw [if_pos hfin] at hlay
  have hst := (u_facts hfc hkC (u_lays hF.2.2.2.2 hin hk) hi).1
  have hcf : m.cls = cf := by
    obtain ⟨_, _, c', _, _, _, -, -, hf', -, -, -, hown2, -⟩ := Cond.laysFinal_spec hlay
    have e1 : c' = cf := by have := hi.symm.trans hf'; simp at this; exact this.1.symm
    rw [hdecl] at hown2
    rw [← e1]; exact Option.some.inj (hF.2.2.2.1.symm.trans hown2)
  have h6 := u_fits hfc hkC hkind (Or.inr hlay) hi hd hn hfit
  refine W.putFinK hF.1 hF.2.1 hF.2.2.2.1 (hF.2.2.2.2 _ hlink) (hsame _ hi) hst hcf hin2 (by rw [q2]; exact h6) q1 q3 (by rw [hsl]; exact k2_hasslot (q4 k hk)) rfl rfl hdg fun H' e1 e2 e3 => ?_
  rw [hsl] at e1 ⊢
  exact kk H' _ (hM.put hza ⟨_, hc, t_OB.to (V := updV (vp_V fs) k v) ⟨_, e1, q2, q3, t_set q4 hap hk v⟩ (fun j _ => vp_updV_set hl v j)⟩ (fun q _ hq => e3 q hq)) (hS0.put e2 e3 hza)
theorem r_iald {n : Nat} {f : Nat → Int32} (hF : CallFix p m c cc nL s args lw_all own) (hG : Gl z E s) (hM : Mod z E M H) (ha : M a = some (.inl (eI E, n, .inl f))) {i : Int32} (hin : vp_in i n) (hdg : decode cc pc = .ok (.iaload, 1))
    (kk : W p l e R s m args below meth c H locs cells slots Q (F0 m (pc + 1) ls (.int (f i.toNatClampNeg) :: rest))) : W p l e R s m args below meth c H locs cells slots Q (F0 m pc ls (.int i :: .ref a :: rest)) :=
  va_iald hF.1 hF.2.1 hG.K (hM.one ha) 0 0 rfl rfl hin hdg kk
/-- .. at a place j known as a number -/
theorem r_ialdN {n : Nat} {f : Nat → Int32} (j : Nat) (hF : CallFix p m c cc nL s args lw_all own) (hG : Gl z E s) (hM : Mod z E M H) (ha : M a = some (.inl (eI E, n, .inl f))) (hj : j < n) (hn : n < 2 ^ 31) {i : Int32} (hi : i = nI j) (hdg : decode cc pc = .ok (.iaload, 1))
    (kk : W p l e R s m args below meth c H locs cells slots Q (F0 m (pc + 1) ls (.int (f j) :: rest))) : W p l e R s m args below meth c H locs cells slots Q (F0 m pc ls (.int i :: .ref a :: rest)) := by
  subst hi
  refine r_iald hF hG hM ha (vp_in_nI hj hn) hdg ?_
  rw [nI_clamp (by omega)]
  exact kk
theorem r_iast {n : Nat} {f : Nat → Int32} (j : Nat) (hF : CallFix p m c cc nL s args lw_all own) (hG : Gl z E s) (hM : Mod z E M H) (hS : va_S (zA z) s.heap H locs) (ha : M a = some (.inl (eI E, n, .inl f))) (hj : j < n) (hn : n < 2 ^ 31) {i x : Int32} (hi : i = nI j) (hdg : decode cc pc = .ok (.iastore, 1))
    (kk : ∀ (H : Heap) (locs : List Loc), Mod z E (mput M a (.inl (eI E, n, .inl (upd f j x)))) H → va_S (zA z) s.heap H locs → W p l e R s m args below meth c H locs cells slots Q (F0 m (pc + 1) ls rest)) : W p l e R s m args below meth c H locs cells slots Q (F0 m pc ls (.int x :: .int i :: .ref a :: rest)) := by
  subst hi
  obtain ⟨hza, hat0⟩ := hM a _ ha
  have hat : H[a]? = some (vp_cell (eI E) (n, .inl f)) := hat0
  have hK := hG.K
  have hin := vp_in_nI hj hn
  refine W.iast hF.1 hF.2.1 hat ((hK.2 0 _ rfl).1 n (fun j => .int (f j))) (fun q => by cases q) (by show ¬ (nI j < 0 ∨ (arrV _ _ _).slots.size ≤ _); rw [arrV_size]; exact hin) rfl rfl hdg fun H1 e z1 oq => ?_
  refine kk H1 _ (hM.put hza ?_ (fun q _ hq => oq q hq)) (hS.put z1 oq hza)
  show H1[a]? = some (vp_cell (eI E) (n, .inl (upd f j x)))
  rw [e, vp_cell_i, vp_cell_i, arrV_store, nI_clamp (by omega)]
  congr 2
  funext q
  by_cases hq : q = j
  · subst hq
    simp [updV, upd]
  · simp [updV, upd, hq]
theorem r_last {n : Nat} {f : Nat → Int64} (j : Nat) (hF : CallFix p m c cc nL s args lw_all own) (hG : Gl z E s) (hM : Mod z E M H) (hS : va_S (zA z) s.heap H locs) (ha : M a = some (.inl (eJ E, n, .inr (.inl f)))) (hj : j < n) (hn : n < 2 ^ 31) {i : Int32} {x : Int64} (hi : i = nI j) (hdg : decode cc pc = .ok (.lastore, 1))
    (kk : ∀ (H : Heap) (locs : List Loc), Mod z E (mput M a (.inl (eJ E, n, .inr (.inl (vp_updL f j x))))) H → va_S (zA z) s.heap H locs → W p l e R s m args below meth c H locs cells slots Q (F0 m (pc + 1) ls rest)) : W p l e R s m args below meth c H locs cells slots Q (F0 m pc ls (.long x :: .int i :: .ref a :: rest)) := by
  subst hi
  obtain ⟨hza, hat0⟩ := hM a _ ha
  have hat : H[a]? = some (vp_cell (eJ E) (n, .inr (.inl f))) := hat0
  have hK := hG.K
  have hin := vp_in_nI hj hn
  refine W.last hF.1 hF.2.1 hat ((hK.2 1 _ rfl).1 n (fun j => .long (f j))) (fun q => by cases q) (by show ¬ (nI j < 0 ∨ (arrV _ _ _).slots.size ≤ _); rw [arrV_size]; exact hin) rfl rfl hdg fun H1 e z1 oq => ?_
  refine kk H1 _ (hM.put hza ?_ (fun q _ hq => oq q hq)) (hS.put z1 oq hza)
  show H1[a]? = some (vp_cell (eJ E) (n, .inr (.inl (vp_updL f j x))))
  rw [e, vp_cell_l, vp_cell_l, arrV_store, nI_clamp (by omega)]
  congr 2
  funext q
  by_cases hq : q = j
  · subst hq
    simp [updV, vp_updL]
  · simp [updV, vp_updL, hq]
theorem r_laldN {n : Nat} {f : Nat → Int64} (j : Nat) (hF : CallFix p m c cc nL s args lw_all own) (hG : Gl z E s) (hM : Mod z E M H) (ha : M a = some (.inl (eJ E, n, .inr (.inl f)))) (hj : j < n) (hn : n < 2 ^ 31) {i : Int32} (hi : i = nI j) (hdg : decode cc pc = .ok (.laload, 1))
    (kk : W p l e R s m args below meth c H locs cells slots Q (F0 m (pc + 1) ls (.long (f j) :: rest))) : W p l e R s m args below meth c H locs cells slots Q (F0 m pc ls (.int i :: .ref a :: rest)) := by
  subst hi
  refine va_lald hF.1 hF.2.1 hG.K (hM.one ha) 0 1 rfl rfl (vp_in_nI hj hn) hdg ?_
  rw [nI_clamp (by omega)]
  exact kk
theorem r_aald {n : Nat} {f : Nat → Option Nat} (j : Nat) (hF : CallFix p m c cc nL s args lw_all own) (hG : Gl z E s) (hM : Mod z E M H) (ha : M a = some (.inl (eO E, n, .inr (.inr (.inr (.inr f)))))) (hj : j < n) (hn : n < 2 ^ 31) {i : Int32} (hi : i = nI j) {y : Nat} (hy : f j = some y) (hdg : decode cc pc = .ok (.aaload, 1))
    (kk : W p l e R s m args below meth c H locs cells slots Q (F0 m (pc + 1) ls (.ref y :: rest))) : W p l e R s m args below meth c H locs cells slots Q (F0 m pc ls (.int i :: .ref a :: rest)) := by
  subst hi
  refine va_aldq hF.1 hF.2.1 hG.K (hM.one ha) 0 2 rfl rfl (vp_in_nI hj hn) hdg ?_
  rw [nI_clamp (by omega), hy]
  exact kk
theorem r_alenI {n : Nat} {f : Nat → Int32} (hF : CallFix p m c cc nL s args lw_all own) (hG : Gl z E s) (hM : Mod z E M H) (ha : M a = some (.inl (eI E, n, .inl f))) (hdg : decode cc pc = .ok (.arraylength, 1))
    (kk : W p l e R s m args below meth c H locs cells slots Q (F0 m (pc + 1) ls (.int (nI n) :: rest))) : W p l e R s m args below meth c H locs cells slots Q (F0 m pc ls (.ref a :: rest)) :=
  va_alen hF.1 hF.2.1 hG.K (hM.one ha) 0 0 rfl rfl rfl hdg kk
theorem r_alenO {n : Nat} {f : Nat → Option Nat} (hF : CallFix p m c cc nL s args lw_all own) (hG : Gl z E s) (hM : Mod z E M H) (ha : M a = some (.inl (eO E, n, .inr (.inr (.inr (.inr f)))))) (hdg : decode cc pc = .ok (.arraylength, 1))
    (kk : W p l e R s m args below meth c H locs cells slots Q (F0 m (pc + 1) ls (.int (nI n) :: rest))) : W p l e R s m args below meth c H locs cells slots Q (F0 m pc ls (.ref a :: rest)) :=
  va_alen hF.1 hF.2.1 hG.K (hM.one ha) 0 2 rfl rfl rfl hdg kk
/-- the length of the empty array that the lists begin with -/
theorem r_alen0 (hF : CallFix p m c cc nL s args lw_all own) (hG : Gl z E s) (hS : va_S (zA z) s.heap H locs) (hdg : decode cc pc = .ok (.arraylength, 1))
    (kk : W p l e R s m args below meth c H locs cells slots Q (F0 m (pc + 1) ls (.int 0 :: rest))) : W p l e R s m args below meth c H locs cells slots Q (F0 m pc ls (.ref (eN E) :: rest)) := by
  obtain ⟨cell, h1, h2, h3, h4, h5, h6, h7⟩ := (hG.2.1.2.1).kept hS.2.1
  exact W.alen (n := 0) hF.1 hF.2.1 h1 h2 (h5.trans rfl) rfl rfl hdg kk
theorem r_new {C : String} {T : u_T} {N ci index : Nat} (fs : List Value) (hF : CallFix p m c cc nL s args lw_all own) (hin : ∀ w ∈ u_ws C T N, w ∈ lw_all) (ty : Nat → FieldType) (hty : ∀ k, k < N → parseFieldDescriptor (T k).2.2.1 = some (ty k)) (hz : z ≤ s.heap.size) (hcl : Cond.classLink own index C ∈ lw_all) (hinst : Cond.instantiable C N ∈ lw_all) (hini : Cond.initialized C ∈ lw_all)
    (hG : Gl z E s) (hM : Mod z E M H) (hS : va_S (zA z) s.heap H locs) (hc : vwCl[ci]? = some (C, T, N)) (hfs : ∀ j, j < N → defaultValue (ty j) = vp_V fs j) {k n : Nat} (hk : cells + 1 = k) (hn : slots + N = n) (hcells : k ≤ R.cells) (hslots : n ≤ R.slots) (hdg : decode cc pc = .ok (.new index, 3))
    (kk : ∀ (q : Nat) (H : Heap), M q = none → z ≤ q → Mod z E (mput M q (.inr (ci, fs))) H → va_S (zA z) s.heap H locs → W p l e R s m args below meth c H locs k n Q (F0 m (pc + 3) ls (.ref q :: rest))) : W p l e R s m args below meth c H locs cells slots Q (F0 m pc ls rest) := by
  subst hk; subst hn
  have hKn := hG.K.1 ci _ hc
  refine W.newcK hF.1 hF.2.1 hF.2.2.2.1 (hF.2.2.2.2 _ hcl) (hF.2.2.2.2 _ hinst) (hF.2.2.2.2 _ hini) rfl hdg hcells hslots hKn.2.1 rfl fun H1 kC hkC e1 z1 o1 => ?_
  have hz2 : z ≤ H.size := Nat.le_trans hz hS.1
  refine kk H.size H1 ?_ hz2 (hM.put hz2 ⟨_, hc, (u_born ty hF.2.2.2.2 hin hKn hkC e1 hty).to hfs⟩ (fun q hq _ => o1 q hq)) ⟨Nat.le_trans hS.1 (by omega), fun x h1 h2 => (o1 x (Nat.lt_of_lt_of_le h1 hS.1)).trans (hS.2.1 x h1 h2), hS.2.2⟩
  cases hq : M H.size with
  | none => rfl
  | some x => exact absurd (hM.lt hq) (Nat.lt_irrefl _)
theorem r_newI (N : Nat) (hF : CallFix p m c cc nL s args lw_all own) (harr : Cond.arrayClass .int ∈ lw_all) (hz : z ≤ s.heap.size) (hG : Gl z E s) (hM : Mod z E M H) (hS : va_S (zA z) s.heap H locs) {i : Int32} (hi : i = nI N) (hN : N ≤ 1000) {k n : Nat} (hk : cells + 1 = k) (hn : slots + N = n) (hcells : k ≤ R.cells) (hslots : n ≤ R.slots) (hdg : decode cc pc = .ok (.newarray .int, 2))
    (kk : ∀ (q : Nat) (H : Heap), M q = none → z ≤ q → Mod z E (mput M q (.inl (eI E, N, .inl (fun _ => 0)))) H → va_S (zA z) s.heap H locs → W p l e R s m args below meth c H locs k n Q (F0 m (pc + 2) ls (.ref q :: rest))) : W p l e R s m args below meth c H locs cells slots Q (F0 m pc ls (.int i :: rest)) := by
  subst hk; subst hn; subst hi
  refine va_newaK (atype := .int) hF.1 hF.2.1 (hF.2.2.2.2 _ harr) rfl hdg rfl (nI_pos (by omega)) (nI_clamp (by omega)) (by show N * 4 ≤ _; omega) hcells hslots rfl fun H1 cA e1 z1 o1 hAr hNm => ?_
  have hz2 : z ≤ H.size := Nat.le_trans hz hS.1
  have hcA : cA = eI E := Option.some.inj (hNm.symm.trans ((hG.K.2 0 _ rfl).2))
  subst hcA
  refine kk H.size H1 ?_ hz2 (hM.put hz2 ?_ (fun q hq _ => o1 q hq)) ⟨Nat.le_trans hS.1 (by omega), fun x h1 h2 => (o1 x (Nat.lt_of_lt_of_le h1 hS.1)).trans (hS.2.1 x h1 h2), hS.2.2⟩
  · cases hq : M H.size with
    | none => rfl
    | some x => exact absurd (hM.lt hq) (Nat.lt_irrefl _)
  · show H1[H.size]? = some (vp_cell _ _)
    exact e1
theorem r_newJ (N : Nat) (hF : CallFix p m c cc nL s args lw_all own) (harr : Cond.arrayClass .long ∈ lw_all) (hz : z ≤ s.heap.size) (hG : Gl z E s) (hM : Mod z E M H) (hS : va_S (zA z) s.heap H locs) {i : Int32} (hi : i = nI N) (hN : N ≤ 1000) {k n : Nat} (hk : cells + 1 = k) (hn : slots + N = n) (hcells : k ≤ R.cells) (hslots : n ≤ R.slots) (hdg : decode cc pc = .ok (.newarray .long, 2))
    (kk : ∀ (q : Nat) (H : Heap), M q = none → z ≤ q → Mod z E (mput M q (.inl (eJ E, N, .inr (.inl (fun _ => 0))))) H → va_S (zA z) s.heap H locs → W p l e R s m args below meth c H locs k n Q (F0 m (pc + 2) ls (.ref q :: rest))) : W p l e R s m args below meth c H locs cells slots Q (F0 m pc ls (.int i :: rest)) := by
  subst hk; subst hn; subst hi
  refine va_newaK (atype := .long) hF.1 hF.2.1 (hF.2.2.2.2 _ harr) rfl hdg rfl (nI_pos (by omega)) (nI_clamp (by omega)) (by show N * 8 ≤ _; omega) hcells hslots rfl fun H1 cA e1 z1 o1 hAr hNm => ?_
  have hz2 : z ≤ H.size := Nat.le_trans hz hS.1
  have hcA : cA = eJ E := Option.some.inj (hNm.symm.trans ((hG.K.2 1 _ rfl).2))
  subst hcA
  refine kk H.size H1 ?_ hz2 (hM.put hz2 ?_ (fun q hq _ => o1 q hq)) ⟨Nat.le_trans hS.1 (by omega), fun x h1 h2 => (o1 x (Nat.lt_of_lt_of_le h1 hS.1)).trans (hS.2.1 x h1 h2), hS.2.2⟩
  · cases hq : M H.size with
    | none => rfl
    | some x => exact absurd (hM.lt hq) (Nat.lt_irrefl _)
  · show H1[H.size]? = some (vp_cell _ _)
    exact e1
theorem r_newO (N : Nat) {index : Nat} (hF : CallFix p m c cc nL s args lw_all own) (hcl : Cond.classLink own index "java/lang/Object" ∈ lw_all) (hz : z ≤ s.heap.size) (hG : Gl z E s) (hM : Mod z E M H) (hS : va_S (zA z) s.heap H locs) {i : Int32} (hi : i = nI N) (hN : N ≤ 1000) {k n : Nat} (hk : cells + 1 = k) (hn : slots + N = n) (hcells : k ≤ R.cells) (hslots : n ≤ R.slots) (hdg : decode cc pc = .ok (.anewarray index, 3))
    (kk : ∀ (q : Nat) (H : Heap), M q = none → z ≤ q → Mod z E (mput M q (.inl (eO E, N, .inr (.inr (.inr (.inr (fun _ => none))))))) H → va_S (zA z) s.heap H locs → W p l e R s m args below meth c H locs k n Q (F0 m (pc + 3) ls (.ref q :: rest))) : W p l e R s m args below meth c H locs cells slots Q (F0 m pc ls (.int i :: rest)) := by
  subst hk; subst hn; subst hi
  have e9 : (nI N).toNatClampNeg = N := nI_clamp (by omega)
  refine W.anew hF.1 hF.2.1 hF.2.2.2.1 (hF.2.2.2.2 _ hcl) (va_AO.use hG.ao) rfl hdg rfl (nI_pos (by omega)) (by rw [e9]; omega) hcells (by rw [e9]; exact hslots) fun cA kA comp f1 f2 f3 f4 => ?_
  rw [e9]
  generalize hH1 : H.push ({ cls := cA, slots := Array.replicate N .null, vm := .none } : Cell) = H1
  have z1 : H1.size = H.size + 1 := by rw [← hH1, Array.size_push]
  have e1 : H1[H.size]? = some (arrV cA N (fun _ => .null)) := by rw [← hH1, Array.getElem?_push_size, ← arrV_new]
  have o1 : ∀ q : Nat, q < H.size → H1[q]? = H[q]? := fun q hq => by rw [← hH1, Array.getElem?_push, if_neg (Nat.ne_of_lt hq)]
  have hz2 : z ≤ H.size := Nat.le_trans hz hS.1
  have hcA : cA = eO E := by
    obtain ⟨-, -, -, -, -, h4⟩ := (hG.K.2 2 _ rfl).2
    exact Option.some.inj (f1.symm.trans h4)
  subst hcA
  refine kk H.size H1 ?_ hz2 (hM.put hz2 ?_ (fun q hq _ => o1 q hq)) ⟨Nat.le_trans hS.1 (by omega), fun x h1 h2 => (o1 x (Nat.lt_of_lt_of_le h1 hS.1)).trans (hS.2.1 x h1 h2), hS.2.2⟩
  · cases hq : M H.size with
    | none => rfl
    | some x => exact absurd (hM.lt hq) (Nat.lt_irrefl _)
  · show H1[H.size]? = some (vp_cell _ _)
    exact e1
end
