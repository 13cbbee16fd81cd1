/-! THROWING: the words of 'throw new E()' in the purse -/
def upN : List String := ["java/lang/RuntimeException", "java/lang/Exception"]
def wOk (w : Cond) : Bool := vx_ot w && ((goodWord w && lw_tbl.contains w) || (isMov w && lw_tbl.contains w))
theorem wOk_io : (vx_at0 RX1 40 xIO upN).all wOk = true := by decide +kernel
theorem wOk_ia : (vx_at0 RX1 43 xIA upN).all wOk = true := by decide +kernel
theorem wOk_is : (vx_at0 RX1 46 xIS upN).all wOk = true := by decide +kernel
theorem wOk_use {z : Nat} {E : EE} {s : State} {args : Array Value} {ws : List Cond} (h : ws.all wOk = true) (hG : Gl z E s) (hts : ∀ w ∈ lw_all, w.before args s = true) : ∀ w ∈ ws, w.before args s = true := by
  intro w hw
  have h1 := List.all_eq_true.mp h w hw
  simp only [wOk, Bool.and_eq_true, Bool.or_eq_true, List.contains_iff_mem] at h1
  rcases h1.2 with ⟨a, b⟩ | ⟨a, b⟩
  · exact hts w (List.mem_filter.mpr ⟨b, a⟩)
  · have h2 := hG.nw b a
    cases w <;> first | exact va_Nw.use (A := args) rfl h2 | (exact absurd a (by simp [isMov]))
theorem wOk_ot {ws : List Cond} (h : ws.all wOk = true) : ∀ w ∈ ws, vx_ot w = true := by
  intro w hw
  have h1 := List.all_eq_true.mp h w hw
  simp only [wOk, Bool.and_eq_true] at h1
  exact h1.1
/-! UNDER: the reference's loop with fuel, and the purse's recursion -/
theorem undF_more {n : Nat} {ab : Nat → Int32} {top : Int32} (hab : ∀ i, i < n → ab i = -1 ∨ ∃ j : Nat, j < i ∧ ab i = nI j) (hn : n ≤ 14) : ∀ (d k f : Nat), k ≤ d → k < n → d + 2 ≤ f → undF ab top f (nI k) = undF ab top (f + 1) (nI k) := by
  intro d
  induction d with
  | zero =>
    intro k f hk hkn hf
    obtain ⟨g, rfl⟩ : ∃ g, f = g + 2 := ⟨f - 2, by omega⟩
    by_cases e : nI k = top
    · rw [undF_eq (by omega) e, undF_eq (by omega) e]
    · rw [undF_up (by omega) e, undF_up (by omega) e]
      rcases hab k hkn with h | ⟨j, hj, h⟩
      · rw [h, undF_m1, undF_m1]
      · omega
  | succ d ih =>
    intro k f hk hkn hf
    obtain ⟨g, rfl⟩ : ∃ g, f = g + 2 := ⟨f - 2, by omega⟩
    by_cases e : nI k = top
    · rw [undF_eq (by omega) e, undF_eq (by omega) e]
    · rw [undF_up (by omega) e, undF_up (by omega) e]
      rcases hab k hkn with h | ⟨j, hj, h⟩
      · rw [h, undF_m1, undF_m1]
      · rw [h]
        exact ih j (g + 1) (by omega) (by omega) (by omega)
theorem und_self {ab : Nat → Int32} {k : Nat} (hk : k < 2 ^ 31) : und ab (nI k) (nI k) = true := undF_eq hk rfl
theorem und_up {n : Nat} {ab : Nat → Int32} (hab : ∀ i, i < n → ab i = -1 ∨ ∃ j : Nat, j < i ∧ ab i = nI j) (hn : n ≤ 14) {k j : Nat} {top : Int32} (hk : k < n) (hj : j < k) (hne : ¬ nI k = top) (h : ab k = nI j) : und ab (nI k) top = und ab (nI j) top := by
  show undF ab top 15 (nI k) = undF ab top 15 (nI j)
  rw [undF_up (by omega) hne, h]
  exact undF_more hab hn 12 j 14 (by omega) (by omega) (by omega)
theorem und_top {ab : Nat → Int32} {k : Nat} {top : Int32} (hk : k < 2 ^ 31) (hne : ¬ nI k = top) (h : ab k = -1) : und ab (nI k) top = false := by
  show undF ab top 15 (nI k) = false
  rw [undF_up hk hne, h]
  exact undF_m1
theorem und_upW {cn : Nat → Nat} {lim : Int32} {ar : Nat → Nat → Int32} (hW : WF cn lim ar) {k j : Nat} {top : Int32} (hk : k < cn 0) (hj : j < k) (hne : ¬ nI k = top) (h : ar 0 k = nI j) : und (ar 0) (nI k) top = und (ar 0) (nI j) top := und_up (n := cn 0) (fun i hi => hW.ab hi) hW.b.2.1 hk hj hne h
/-- account i gains v in period t when something is added at account k -/
def gain (ar : Nat → Nat → Int32) (k i : Nat) (t t0 : Nat) (v : Int32) : Int32 := if und (ar 0) (nI k) (nI i) = true ∧ t = t0 then v else 0
section
variable {z : Nat} {E : EE} {M M0 M' : MM} {H : Heap} {p : Nat} {la : Nat → Nat} {el : Nat → Nat → Nat} {K : Kp} {cn : Nat → Nat} {lim : Int32} {ar : Nat → Nat → Int32}
theorem PicP.acN {k : Nat} (h : PicP E M p la el K cn lim ar) (hk : k < cn 0) (h0 : ar 0 k = -1) : M (el 0 k) = some (.inr (1, [.null, .ref (ksm K k), .int (ar 6 k), .int (ar 7 k), .int (ar 8 k), .int (ar 9 k), .int (ar 10 k)])) := by
  rw [h.ac hk]
  unfold acF abv
  rw [if_pos h0]
theorem PicP.acR {k j : Nat} (h : PicP E M p la el K cn lim ar) (hk : k < cn 0) (h0 : ar 0 k = nI j) (hj : j < k) (hn : cn 0 ≤ 14) : M (el 0 k) = some (.inr (1, [.ref (el 0 j), .ref (ksm K k), .int (ar 6 k), .int (ar 7 k), .int (ar 8 k), .int (ar 9 k), .int (ar 10 k)])) := by
  rw [h.ac hk]
  unfold acF abv
  rw [if_neg (by rw [h0]; exact nI_nm1 (by omega)), h0]
  show some (Sum.inr (1, [Value.ref (el 0 (nI j).toNatClampNeg), _, _, _, _, _, _])) = _
  rw [nI_clamp (by omega)]
theorem PicP.inj (h : PicP E M p la el K cn lim ar) (i : Nat) {k k' : Nat} (hi : i < 4) (hk : k < cn i) (hk' : k' < cn i) (e : el i k = el i k') : k = k' := h.2.2.2.1 i k k' hi hk hk' e
theorem PicP.enA {k a b : Nat} (h : PicP E M p la el K cn lim ar) (hk : k < cn 1) (ha : ar 2 k = nI a) (hb : ar 3 k = nI b) (ha2 : a < 2 ^ 31) (hb2 : b < 2 ^ 31) (h5 : ar 5 k = 1) : M (el 1 k) = some (.inr (2, [.int (ar 1 k), .ref (el 0 a), .ref (el 0 b), .int (ar 4 k)])) := by
  rw [h.en hk]
  unfold enC enF
  rw [if_pos h5, ha, hb]
  show some (Sum.inr (2, [_, Value.ref (el 0 (nI a).toNatClampNeg), Value.ref (el 0 (nI b).toNatClampNeg), _])) = _
  rw [nI_clamp ha2, nI_clamp hb2]
theorem PicP.enB {k a b : Nat} (h : PicP E M p la el K cn lim ar) (hk : k < cn 1) (ha : ar 2 k = nI a) (hb : ar 3 k = nI b) (ha2 : a < 2 ^ 31) (hb2 : b < 2 ^ 31) (h5 : ¬ ar 5 k = 1) : M (el 1 k) = some (.inr (3, [.int (ar 1 k), .ref (el 0 a), .ref (el 0 b), .int (ar 4 k)])) := by
  rw [h.en hk]
  unfold enC enF
  rw [if_neg h5, ha, hb]
  show some (Sum.inr (3, [_, Value.ref (el 0 (nI a).toNatClampNeg), Value.ref (el 0 (nI b).toNatClampNeg), _])) = _
  rw [nI_clamp ha2, nI_clamp hb2]
theorem PicP.paA {k a w : Nat} (h : PicP E M p la el K cn lim ar) (hk : k < cn 2) (ha : ar 11 k = nI a) (hw : ar 16 k = nI w) (ha2 : a < 2 ^ 31) (hw2 : w < 2 ^ 31) : M (el 2 k) = some (.inr (4, [.ref (el 0 a), .int (ar 12 k), .int (ar 13 k), .int (ar 14 k), .int (ar 15 k), .ref (eR E w), .int (ar 17 k)])) := by
  rw [h.pa hk]
  unfold paF
  rw [ha, hw]
  show some (Sum.inr (4, [Value.ref (el 0 (nI a).toNatClampNeg), _, _, _, _, Value.ref (eR E (nI w).toNatClampNeg), _])) = _
  rw [nI_clamp ha2, nI_clamp hw2]
end
/-- nothing lies under an account that is younger -/
theorem und_low {cn : Nat → Nat} {lim : Int32} {ar : Nat → Nat → Int32} (hW : WF cn lim ar) : ∀ {j i : Nat}, j < cn 0 → j < i → i < cn 0 → und (ar 0) (nI j) (nI i) = false := by
  have hwb := hW.b
  have H : ∀ (d j i : Nat), j ≤ d → j < cn 0 → j < i → i < 2 ^ 31 → und (ar 0) (nI j) (nI i) = false := by
    intro d
    induction d with
    | zero =>
      intro j i h1 h2 h3 h4
      rcases hW.ab h2 with h | ⟨q, hq, h⟩
      · exact und_top (by omega) (fun e => by have := (nI_eq (by omega) (by omega)).mp e; omega) h
      · omega
    | succ d ih =>
      intro j i h1 h2 h3 h4
      rcases hW.ab h2 with h | ⟨q, hq, h⟩
      · exact und_top (by omega) (fun e => by have := (nI_eq (by omega) (by omega)).mp e; omega) h
      · rw [und_upW hW h2 hq (fun e => by have := (nI_eq (by omega) (by omega)).mp e; omega) h]
        exact ih q i (by omega) (by omega) (by omega) h4
  intro j i h1 h2 h4
  exact H j j i (Nat.le_refl _) h1 h2 (by omega)
theorem und_over {cn : Nat → Nat} {lim : Int32} {ar : Nat → Nat → Int32} (hW : WF cn lim ar) {x : Nat} (hx : x < cn 0) : und (ar 0) (nI x) (nI (cn 0)) = false := by
  have hwb := hW.b
  have H : ∀ (d j : Nat), j ≤ d → j < cn 0 → und (ar 0) (nI j) (nI (cn 0)) = false := by
    intro d
    induction d with
    | zero =>
      intro j h1 h2
      rcases hW.ab h2 with h | ⟨q, hq, h⟩
      · exact und_top (by omega) (fun e => by have := (nI_eq (by omega) (by omega)).mp e; omega) h
      · omega
    | succ d ih =>
      intro j h1 h2
      rcases hW.ab h2 with h | ⟨q, hq, h⟩
      · exact und_top (by omega) (fun e => by have := (nI_eq (by omega) (by omega)).mp e; omega) h
      · rw [und_upW hW h2 hq (fun e => by have := (nI_eq (by omega) (by omega)).mp e; omega) h]
        exact ih q (by omega) (by omega)
  exact H x x (Nat.le_refl _) hx
theorem gain_top {cn : Nat → Nat} {lim : Int32} {ar : Nat → Nat → Int32} {K : Kp} {k i t t0 : Nat} {v : Int32} (hW : WF cn lim ar) (hk : k < cn 0) (h9 : ar 0 k = -1) (hi : i < cn 0) : va_up (ksc K) k (upd (ksc K k) t0 (ksc K k t0 + v)) i t = ksc K i t + gain ar k i t t0 v := by
  have hwb := hW.b
  unfold gain
  by_cases e : i = k
  · subst e
    rw [va_up_self, und_self (by omega)]
    by_cases e2 : t = t0
    · subst e2
      rw [pk_us]
      simp
    · rw [pk_un e2]
      simp [e2]
  · rw [va_up_ne _ _ e, und_top (by omega) (fun h8 => e ((nI_eq (by omega) (by omega)).mp h8).symm) h9]
    simp
theorem gain_rec {cn : Nat → Nat} {lim : Int32} {ar : Nat → Nat → Int32} {K : Kp} {k i j t t0 : Nat} {v : Int32} (hW : WF cn lim ar) (hk : k < cn 0) (hj : j < k) (h9 : ar 0 k = nI j) (hi : i < cn 0) : ksc (kSc K (va_up (ksc K) k (upd (ksc K k) t0 (ksc K k t0 + v)))) i t + gain ar j i t t0 v = ksc K i t + gain ar k i t t0 v := by
  have hwb := hW.b
  show va_up (ksc K) k (upd (ksc K k) t0 (ksc K k t0 + v)) i t + gain ar j i t t0 v = ksc K i t + gain ar k i t t0 v
  unfold gain
  by_cases e : i = k
  · subst e
    have hlow : und (ar 0) (nI j) (nI i) = false := und_low hW (by omega) hj hi
    rw [va_up_self, und_self (by omega), hlow]
    by_cases e2 : t = t0
    · subst e2
      rw [pk_us]
      simp
    · rw [pk_un e2]
      simp [e2]
  · rw [va_up_ne _ _ e, und_upW hW hk hj (fun h8 => e ((nI_eq (by omega) (by omega)).mp h8).symm) h9]
theorem like_a {E : EE} {M : MM} {p : Nat} {la : Nat → Nat} {el : Nat → Nat → Nat} {K : Kp} {cn : Nat → Nat} {lim : Int32} {ar : Nat → Nat → Int32} (hPp : PicP E M p la el K cn lim ar) (hW : WF cn lim ar) {k j : Nat} (hk : k < cn 2) (hj : j < cn 2) (h : el 0 (nx (ar 11 k)) = el 0 (nx (ar 11 j))) : ar 11 k = ar 11 j := by
  have hwb := hW.b
  obtain ⟨a, ha, ea⟩ := (hW.pa hk).1
  obtain ⟨b, hb, eb⟩ := (hW.pa hj).1
  have e1 : nx (ar 11 k) = a := by rw [ea]; exact nI_clamp (by omega)
  have e2 : nx (ar 11 j) = b := by rw [eb]; exact nI_clamp (by omega)
  rw [e1, e2] at h
  rw [ea, eb, hPp.inj 0 (by decide) ha hb h]
section
variable {p : Program} {l : Launch} {e : Env} {R : Room} {s : State} {m : MethodId} {args : Array Value} {below : List Frame} {meth : Method} {c : Code} {H : Heap} {locs : List Loc} {cells slots : Nat}
variable {cc : ByteArray} {pc : Nat} {ls : Array Slot} {rest : List Value} {z : Nat} {E : EE} {M : MM} {a nL : Nat} {own : String} {post : Option Value → MM → Prop} {xp : String → Prop}
/-- throw new E() out of the method, the world M unchanged -/
theorem r_throw {cls : String} {ik ic : Nat} (hl0 : l.stackTraces = false) (hF : CallFix p m c cc nL s args lw_all own) (hG : Gl z E s) (hz : z ≤ s.heap.size) (hM : Mod z E M H) (hS : va_S (zA z) s.heap H locs) (hsz : ls.size = nL) (hcls : Bundle.fit cls = true) (hk : Cond.classLink own ik cls ∈ lw_all) (hini : Cond.initialized cls ∈ lw_all) (hat : (vx_at0 own ic cls upN).all wOk = true) (hok : vx_ot (.classLink own ik cls) = true ∧ vx_ot (.initialized cls) = true)
    (d0 : decode cc pc = .ok (.new ik, 3)) (d3 : decode cc (pc + 3) = .ok (.dup, 1)) (d4 : decode cc (pc + 4) = .ok (.invokespecial ic, 3)) (d7 : decode cc (pc + 7) = .ok (.athrow, 1)) (hno : ∀ x ∈ c.exceptionTable.toList, False)
    (hRframes : 5 < R.frames) (hRlocals : (rest.map fun v => v.category).sum + 81 ≤ R.locals) (hRcells : cells + 1 ≤ R.cells) (hRslots : slots + 6 ≤ R.slots) (hlocks : meth.locks = false) {mc ms : Nat} (hx : xp cls) (hc : cells + 1 ≤ mc) (hs : slots + 6 ≤ ms) :
    W p l e R s m args below meth c H locs cells slots (vx_MQ below (Qg z E post) (XCm z E M xp) args s mc ms (zA z)) (F0 m pc ls rest) := by
  refine k_throw0 (names := upN) (A := zA z) hF.1 hF.2.1 hl0 hF.2.2.2.1 hcls (by decide +kernel) (hF.2.2.2.2 _ hk) (hF.2.2.2.2 _ hini) (wOk_use hat hG hF.2.2.2.2) (fun w hw => ?_) hG.2.1.2.2.2.1 hG.2.1.2.2.2.2 hS (hsz.trans hF.2.2.1.symm) d0 d3 d4 d7 (fun x h => (hno x h).elim) hRframes hRlocals hRcells hRslots hlocks (fun t hW hz1 hq1 => ?_) hS.2.2 hc hs
  · rcases List.mem_cons.mp hw with rfl | hw
    · exact hok.1
    · rcases List.mem_cons.mp hw with rfl | hw
      · exact hok.2
      · exact wOk_ot hat w hw
  · have hq2 : ∀ q : Nat, q < s.heap.size → ¬ zA z q → t.heap[q]? = s.heap[q]? := fun q h1 h2 => (hq1 q (Nat.lt_of_lt_of_le h1 hS.1)).trans (hS.2.1 q h1 h2)
    exact ⟨⟨hx, Nat.le_trans hz (Nat.le_trans hS.1 hz1), fun a e ha => ⟨(hM a e ha).1, (hM a e ha).2.kept (hq1 a (hM.lt ha))⟩, hG.moved hW hq2⟩, Nat.le_trans hS.1 hz1, hq2⟩
end
