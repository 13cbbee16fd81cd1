/-! LISTS: what ArrayList's methods do to a world -/
abbrev cO (E : EE) (n : Nat) (f : Nat → Option Nat) : va_E := .inl (eO E, n, .inr (.inr (.inr (.inr f))))
/-- all but b stay; all stay -/
def Own (b : Nat) (M M' : MM) : Prop := ∀ (a : Nat) (e : va_E), a ≠ b → M a = some e → M' a = some e
def Ext (M M' : MM) : Prop := ∀ (a : Nat) (e : va_E), M a = some e → M' a = some e
theorem Own.rf {b : Nat} {M : MM} : Own b M M := fun _ _ _ h => h
theorem Own.tr {b : Nat} {M M1 M2 : MM} (h : Own b M M1) (h2 : Own b M1 M2) : Own b M M2 := fun a e hn ha => h2 a e hn (h a e hn ha)
theorem Own.put {b : Nat} {M M1 : MM} (h : Own b M M1) {e : va_E} : Own b M (mput M1 b e) := fun a f hn ha => by rw [mput_n hn]; exact h a f hn ha
theorem Ext.rf {M : MM} : Ext M M := fun _ _ h => h
theorem Ext.tr {M M1 M2 : MM} (h : Ext M M1) (h2 : Ext M1 M2) : Ext M M2 := fun a e ha => h2 a e (h a e ha)
theorem Ext.new {M M1 : MM} (h : Ext M M1) {q : Nat} {e : va_E} (hq : M1 q = none) : Ext M (mput M1 q e) := by
  intro a f ha
  have h1 := h a f ha
  have hn : a ≠ q := by
    intro e9
    subst e9
    rw [hq] at h1
    cases h1
  rw [mput_n hn]
  exact h1
theorem Ext.own {M0 M M' : MM} {b : Nat} (h : Ext M0 M) (h0 : M0 b = none) (ho : Own b M M') : Ext M0 M' := by
  intro a e ha
  refine ho a e ?_ (h a e ha)
  intro e9
  subst e9
  rw [h0] at ha
  cases ha
theorem Own.new {b : Nat} {M M1 : MM} (h : Own b M M1) {q : Nat} {e : va_E} (hq : M1 q = none) : Own b M (mput M1 q e) := fun a f hn ha => Ext.new Ext.rf hq a f (h a f hn ha)
theorem Ext.Own {b : Nat} {M M1 : MM} (h : Ext M M1) : Own b M M1 := fun a f _ ha => h a f ha
theorem ne_il {M : MM} {a b : Nat} {x : Nat × List Value} {y : ClassId × vp_A} (h : M a = some (.inr x)) (h2 : M b = some (.inl y)) : a ≠ b := by
  intro e
  subst e
  rw [h] at h2
  cases h2
theorem ne_new {M : MM} {a b : Nat} {x : va_E} (h : M a = some x) (h2 : M b = none) : a ≠ b := by
  intro e
  subst e
  rw [h] at h2
  cases h2
/-- an object of the classes that the lists hold -/
def Ob (M : MM) (y : Nat) : Prop := ∃ (ci : Nat) (fs : List Value), M y = some (.inr (ci, fs)) ∧ 1 ≤ ci ∧ ci ≤ 5
theorem ob_any {z : Nat} {E : EE} {M : MM} {s : State} {H : Heap} {y : Nat} (hG : Gl z E s) (hM : Mod z E M H) (h : Ob M y) : va_Any "java/lang/Object" s H y := by
  obtain ⟨ci, fs, h1, h2, h3⟩ := h
  have h4 : ci = 1 ∨ ci = 2 ∨ ci = 3 ∨ ci = 4 ∨ ci = 5 := by omega
  rcases h4 with rfl | rfl | rfl | rfl | rfl
  · exact r_any hG hM h1 rfl q972
  · exact r_any hG hM h1 rfl q978
  · exact r_any hG hM h1 rfl q979
  · exact r_any hG hM h1 rfl q980
  · exact r_any hG hM h1 rfl q984
theorem Ob.own {M M' : MM} {q y : Nat} (h : Ob M y) (ho : Own q M M') (hq : ∀ x, M q = some (.inr (6, x)) → True) (hne : y ≠ q) : Ob M' y := by
  obtain ⟨ci, fs, h1, h2, h3⟩ := h
  exact ⟨ci, fs, ho y _ hne h1, h2, h3⟩
theorem Ob.ext {M M' : MM} {y : Nat} (h : Ob M y) (ho : Ext M M') : Ob M' y := by
  obtain ⟨ci, fs, h1, h2, h3⟩ := h
  exact ⟨ci, fs, ho y _ h1, h2, h3⟩
theorem Ob.ne6 {M : MM} {q y : Nat} {fs : List Value} (h : Ob M y) (hq : M q = some (.inr (6, fs))) : y ≠ q := by
  intro e
  subst e
  obtain ⟨ci, gs, h1, h2, h3⟩ := h
  rw [hq] at h1
  cases h1
  omega
theorem Ob.neA {M : MM} {q y : Nat} {x : ClassId × vp_A} (h : Ob M y) (hq : M q = some (.inl x)) : y ≠ q := by
  intro e
  subst e
  obtain ⟨ci, gs, h1, h2, h3⟩ := h
  rw [hq] at h1
  cases h1
/-- growing: the list q of n elements (its array full, or none yet) has a greater array r -/
def GrowI (E : EE) (M : MM) (n d : Nat) (g : Nat → Option Nat) : Prop := (d = eN E ∧ n = 0) ∨ (M d = some (cO E n g) ∧ 10 ≤ n ∧ n ≤ 120 ∧ ∀ k, k < n → ∃ y, g k = some y ∧ Ob M y)
def GrowP (E : EE) (M : MM) (q n : Nat) (md : Int32) (g : Nat → Option Nat) (r : Nat) (M' : MM) : Prop := ∃ (cap' : Nat) (g' : Nat → Option Nat), M r = none ∧ M' r = some (cO E cap' g') ∧ M' q = some (.inr (6, [.int md, .ref r, .int (nI n)])) ∧ n + 1 ≤ cap' ∧ 10 ≤ cap' ∧ cap' ≤ 400 ∧ (∀ k, k < n → g' k = g k) ∧ Own q M M'
/-- what add(x) does to the list q of n elements -/
def LAdd (E : EE) (M : MM) (q n d : Nat) (fl : Bool) (g : Nat → Option Nat) (x : Nat) (M' : MM) : Prop := ∃ (md' : Int32) (d' cap' : Nat) (g' : Nat → Option Nat), M' q = some (.inr (6, [.int md', .ref d', .int (nI (n + 1))])) ∧ M' d' = some (cO E cap' g') ∧ n + 1 ≤ cap' ∧ 10 ≤ cap' ∧ cap' ≤ 400 ∧ (∀ k, k < n → g' k = g k) ∧ g' n = some x ∧ ((fl = true ∧ d' = d) ∨ M d' = none) ∧ (∀ a e, a ≠ q → a ≠ d' → M a = some e → M' a = some e)
/-- a list of n elements ahead of it -/
def LIn (E : EE) (M : MM) (q n d cap : Nat) (fl : Bool) (md : Int32) (g : Nat → Option Nat) : Prop := M q = some (.inr (6, [.int md, .ref d, .int (nI n)])) ∧ ((fl = false ∧ d = eN E ∧ n = 0) ∨ (fl = true ∧ M d = some (cO E cap g) ∧ n ≤ cap ∧ 10 ≤ cap ∧ cap ≤ 400)) ∧ n ≤ 119 ∧ ∀ k, k < n → ∃ y, g k = some y ∧ Ob M y
theorem LIn.mod {E : EE} {M : MM} {q n d cap : Nat} {fl : Bool} {md md1 : Int32} {g : Nat → Option Nat} (h : LIn E M q n d cap fl md g) : LIn E (mput M q (.inr (6, [.int md1, .ref d, .int (nI n)]))) q n d cap fl md1 g := by
  refine ⟨mput_s, ?_, h.2.2.1, fun k hk => ?_⟩
  · rcases h.2.1 with h1 | ⟨h1, h2, h3⟩
    · exact Or.inl h1
    · exact Or.inr ⟨h1, by rw [mput_n (Ne.symm (ne_il h.1 h2))]; exact h2, h3⟩
  · obtain ⟨y, h1, h2⟩ := h.2.2.2 k hk
    exact ⟨y, h1, h2.own (Own.put Own.rf) (fun _ _ => trivial) (h2.ne6 h.1)⟩
theorem LAdd.mod {E : EE} {M : MM} {q n d x : Nat} {fl : Bool} {fs fs1 : List Value} {g : Nat → Option Nat} {M' : MM} (h : LAdd E (mput M q (.inr (6, fs1))) q n d fl g x M') (hq : M q = some (.inr (6, fs))) : LAdd E M q n d fl g x M' := by
  obtain ⟨md', d', cap', g', h1, h2, h3, h4, h5, h6, h7, h8, h9⟩ := h
  refine ⟨md', d', cap', g', h1, h2, h3, h4, h5, h6, h7, ?_, fun a e ha hb he => h9 a e ha hb (by rw [mput_n ha]; exact he)⟩
  rcases h8 with h8 | h8
  · exact Or.inl h8
  · refine Or.inr ?_
    by_cases e : d' = q
    · subst e
      rw [mput_s] at h8
      cases h8
    · rw [mput_n e] at h8
      exact h8
theorem nadd {a b : Nat} : nI a + nI b = nI (a + b) := (Int32.ofNat_add a b).symm
theorem nmax {a b : Nat} (ha : a < 2 ^ 31) (hb : b < 2 ^ 31) : (if nI a < nI b then nI b else nI a) = nI (max a b) := by
  by_cases h : a < b
  · rw [if_pos (nI_lt h hb), Nat.max_eq_right (Nat.le_of_lt h)]
  · rw [if_neg (nI_nlt (Nat.not_lt.mp h) ha), Nat.max_eq_left (Nat.not_lt.mp h)]
theorem nmin {a b : Nat} (ha : a < 2 ^ 31) (hb : b < 2 ^ 31) : (if nI b < nI a then nI b else nI a) = nI (min a b) := by
  by_cases h : b < a
  · rw [if_pos (nI_lt h ha), Nat.min_eq_right (Nat.le_of_lt h)]
  · rw [if_neg (nI_nlt (Nat.not_lt.mp h) hb), Nat.min_eq_left (Nat.not_lt.mp h)]
theorem nhalf {a : Nat} (h : a < 1000) : nI a >>> (1 &&& 31 : Int32) = nI (a / 2) := by
  have hall : ∀ k, k < 1000 → nI k >>> (1 &&& 31 : Int32) = nI (k / 2) := by decide +kernel
  exact hall a h
theorem nsub {a b : Nat} (h : b ≤ a) : nI a - nI b = nI (a - b) := by
  obtain ⟨d, rfl⟩ := Nat.exists_eq_add_of_le h
  rw [Nat.add_sub_cancel_left, ← nadd, Int32.add_comm, Int32.add_sub_cancel]
theorem cpy_lo {f g : Nat → Option Nat} {N k : Nat} (h : k < N) : va_cpy f g 0 0 N k = f k := by
  unfold va_cpy
  simp [h]
section
variable {p : Program} {l : Launch} {e : Env} {R : Room} {s : State} {m : MethodId} {args : Array Value} {below : List Frame} {meth : Method} {c : Code} {H : Heap} {locs : List Loc} {cells slots : Nat} {Q : State → Prop}
variable {cc : ByteArray} {pc : Nat} {ls : Array Slot} {rest : List Value} {z : Nat} {E : EE} {M : MM} {a nL : Nat} {own : String}
theorem r_getClass {index n : Nat} {f : Nat → Option Nat} (hF : CallFix p m c cc nL s args lw_all own) (hG : Gl z E s) (hM : Mod z E M H) (hsz : ls.size = nL) (hd : M a = some (cO E n f)) (hlink : Cond.methodLink own index ⟨"java/lang/Object", "getClass", "()Ljava/lang/Class;"⟩ ∈ lw_all) (hframes : 1 ≤ R.frames) (hlocals : (rest.map fun v => v.category).sum + 14 ≤ R.locals) (hdg : decode cc pc = .ok (.invokevirtual index, 3))
    (kk : W p l e R s m args below meth c H locs cells slots Q (F0 m (pc + 3) ls (.ref (eC E) :: rest))) : W p l e R s m args below meth c H locs cells slots Q (F0 m pc ls (.ref a :: rest)) := by
  obtain ⟨-, -, -, -, -, h4⟩ := (hG.K.2 2 _ rfl).2
  have hat : H[a]? = some (vp_cell (eO E) (n, .inr (.inr (.inr (.inr f))))) := (hM a _ hd).2
  exact va_getC hF.1 hF.2.1 (hF.2.2.1.trans hsz.symm) hF.2.2.2.1 (hF.2.2.2.2 _ hlink) (va_Nw.use (A := args) rfl (hG.nw q989 rfl)) (hF.2.2.2.2 _ q988) (hF.2.2.2.2 _ q142) (hF.2.2.2.2 _ q159) hG.mi ⟨_, hat, rfl, h4⟩ hframes hlocals hdg kk
theorem r_cast {C : String} {T : u_T} {N ci index : Nat} {fs : List Value} (hF : CallFix p m c cc nL s args lw_all own) (hG : Gl z E s) (hM : Mod z E M H) (hb : M a = some (.inr (ci, fs))) (hc : vwCl[ci]? = some (C, T, N)) (hlink : Cond.classLink own index C ∈ lw_all) (hdg : decode cc pc = .ok (.checkcast index, 3))
    (kk : W p l e R s m args below meth c H locs cells slots Q (F0 m (pc + 3) ls (.ref a :: rest))) : W p l e R s m args below meth c H locs cells slots Q (F0 m pc ls (.ref a :: rest)) :=
  va_castS hF.1 hF.2.1 hF.2.2.2.1 (hF.2.2.2.2 _ hlink) (hG.K.1 ci _ hc).2 (k_recv hG hM hb hc) hdg kk
theorem r_castF {C nm : String} {T : u_T} {N ci index : Nat} {fs : List Value} (hF : CallFix p m c cc nL s args lw_all own) (hG : Gl z E s) (hM : Mod z E M H) (hb : M a = some (.inr (ci, fs))) (hc : vwCl[ci]? = some (C, T, N)) (hlink : Cond.classLink own index nm ∈ lw_all) (hw : Cond.castable C nm ∈ lw_tbl) (hdg : decode cc pc = .ok (.checkcast index, 3))
    (kk : W p l e R s m args below meth c H locs cells slots Q (F0 m (pc + 3) ls (.ref a :: rest))) : W p l e R s m args below meth c H locs cells slots Q (F0 m pc ls (.ref a :: rest)) :=
  va_castY hF.1 hF.2.1 hF.2.2.2.1 (hF.2.2.2.2 _ hlink) (hG.nw hw rfl) (k_recv hG hM hb hc) hdg kk
end
