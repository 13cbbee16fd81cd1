/-! THE PURE SIDE: one abstract state for both (the reference's own numbers): cn: counters (0 accounts, 1 entries, 2 payments, 3 advances, 4 the open period), lim, ar k: the reference's k-th array. Each operation: t.. what is thrown (0: nothing), a.. the answer, r.. the arrays after it -/
def inB (n : Nat) (v : Int32) : Bool := decide (0 ≤ v.toInt) && decide (v.toInt < (n : Int))
def inR (v lo hi : Int32) : Bool := decide (lo ≤ v) && decide (v ≤ hi)
theorem inB_of {n j : Nat} (h : j < n) (hn : n < 2 ^ 31) : inB n (nI j) = true := by
  unfold inB
  rw [nI_toInt (by omega)]
  simp only [Bool.and_eq_true, decide_eq_true_eq]
  omega
theorem inB_ex {n : Nat} {v : Int32} (h : inB n v = true) (hn : n < 2 ^ 31) : ∃ j : Nat, j < n ∧ v = nI j := by
  unfold inB at h
  simp only [Bool.and_eq_true, decide_eq_true_eq] at h
  exact vp_in_of (vp_in_iff.mpr h) hn
theorem inB_neg {n : Nat} {v : Int32} (h : inB n v = false) : v < 0 ∨ ∀ (hn : n < 2 ^ 31), nI n ≤ v := by
  unfold inB at h
  simp only [Bool.and_eq_false_iff, decide_eq_false_iff_not] at h
  rcases h with h | h
  · exact Or.inl (by rw [Int32.lt_iff_toInt_lt, Int32.toInt_zero]; omega)
  · exact Or.inr (fun hn => by rw [Int32.le_iff_toInt_le, nI_toInt hn]; omega)
theorem inB_iff {n : Nat} {v : Int32} (hn : n < 2 ^ 31) : inB n v = true ↔ (0 ≤ v ∧ v < nI n) := by
  unfold inB
  simp only [Bool.and_eq_true, decide_eq_true_eq]
  rw [Int32.le_iff_toInt_le, Int32.lt_iff_toInt_lt, Int32.toInt_zero, nI_toInt hn]
theorem inB_inR {n : Nat} {v : Int32} (hn : n < 2 ^ 30) : inR v 0 (nI n - 1) = inB n v := by
  have e : (nI n - 1).toInt = (n : Int) - 1 := pk_sub_toInt (a := n) (b := 1) hn (by omega)
  unfold inB inR
  rw [Bool.eq_iff_iff]
  simp only [Bool.and_eq_true, decide_eq_true_eq]
  rw [Int32.le_iff_toInt_le, Int32.le_iff_toInt_le, Int32.toInt_zero, e]
  omega
abbrev cMost : Int32 := 1000000
/-- account 'at' lies under 'top' (the reference's loop, with fuel) -/
def undF (ab : Nat → Int32) (top : Int32) : Nat → Int32 → Bool
  | 0, _ => false
  | f + 1, x => if x = -1 then false else if x = top then true else undF ab top f (ab x.toNatClampNeg)
def und (ab : Nat → Int32) (x top : Int32) : Bool := undF ab top 15 x
def lef (ar : Nat → Nat → Int32) (j : Nat) : Int32 := ar 7 j + ar 8 j - ar 10 j
def nx (v : Int32) : Nat := v.toNatClampNeg
-- accounts
def tAddAccount (cn : Nat → Nat) (p : Int32) : Int32 := if (!decide (p = -1) && !inB (cn 0) p) = true then 1 else if cn 0 = 14 then 2 else 0
def cUp (cn : Nat → Nat) (k : Nat) : Nat → Nat := va_up cn k (cn k + 1)
def rAddAccount (cn : Nat → Nat) (ar : Nat → Nat → Int32) (p : Int32) : Nat → Nat → Int32 := va_up ar 0 (upd (ar 0) (cn 0) p)
-- entries
def rEnters (cn : Nat → Nat) (ar : Nat → Nat → Int32) (late to fr am : Int32) : Nat → Nat → Int32 :=
  va_up (va_up (va_up (va_up (va_up ar 1 (upd (ar 1) (cn 1) (nI (cn 4)))) 5 (upd (ar 5) (cn 1) late)) 2 (upd (ar 2) (cn 1) to)) 3 (upd (ar 3) (cn 1) fr)) 4 (upd (ar 4) (cn 1) am)
def tEnter (cn : Nat → Nat) (pe to fr am : Int32) : Int32 :=
  if (!inB (cn 0) to || !inB (cn 0) fr) = true then 1 else if (!inR pe 0 12 || decide (nI (cn 4) < pe) || !inR am 1 cMost || decide (to = fr)) = true then 2 else if cn 1 = 120 ∨ 12 < cn 4 then 3 else 0
def lateOf (cn : Nat → Nat) (pe : Int32) : Int32 := if pe < nI (cn 4) then 1 else 0
def tClose (cn : Nat → Nat) : Int32 := if 12 < cn 4 then 1 else 0
def tEntry (cn : Nat → Nat) (x : Int32) : Int32 := if inB (cn 1) x = true then 0 else 1
-- balances
def tBalance (cn : Nat → Nat) (x pe : Int32) : Int32 := if inB (cn 0) x = false then 1 else if inR pe 0 12 = false then 2 else 0
def balF (ar : Nat → Nat → Int32) (x pe : Int32) : Nat → Int32
  | 0 => 0
  | k + 1 => if ar 1 k ≤ pe then (balF ar x pe k + (if und (ar 0) (ar 2 k) x = true then ar 4 k else 0)) - (if und (ar 0) (ar 3 k) x = true then ar 4 k else 0) else balF ar x pe k
-- budgets
def tGrant (cn : Nat → Nat) (ar : Nat → Nat → Int32) (x am : Int32) : Int32 := if inB (cn 0) x = false then 1 else if (decide (x < 2) || !inR am 0 cMost) = true then 2 else if ar 6 (nx x) = 1 then 3 else 0
def rGrant (ar : Nat → Nat → Int32) (x am : Int32) : Nat → Nat → Int32 := va_up (va_up ar 6 (upd (ar 6) (nx x) 1)) 7 (upd (ar 7) (nx x) am)
def mayAm (ar : Nat → Nat → Int32) (f : Nat) (am by_ : Int32) : Bool := !decide (by_ = 0) || decide (ar 9 f + am ≤ ar 7 f / 10)
def tAmend (cn : Nat → Nat) (ar : Nat → Nat → Int32) (f t am by_ : Int32) : Int32 :=
  if (!inB (cn 0) f || !inB (cn 0) t) = true then 1 else if (!inR am 1 cMost || decide (f = t)) = true then 2 else if (decide (ar 6 (nx f) = 0) || decide (ar 6 (nx t) = 0) || decide (lef ar (nx f) < am) || !mayAm ar (nx f) am by_) = true then 3 else 0
def rAmend (ar : Nat → Nat → Int32) (f t : Nat) (am by_ : Int32) : Nat → Nat → Int32 :=
  va_up (va_up ar 8 (upd (upd (ar 8) f (ar 8 f - am)) t (upd (ar 8) f (ar 8 f - am) t + am))) 9 (upd (ar 9) f (ar 9 f + (if by_ = 0 then am else 0)))
def tLeft (cn : Nat → Nat) (x : Int32) : Int32 := if inB (cn 0) x = true then 0 else 1
def aLeft (ar : Nat → Nat → Int32) (x : Int32) : Int32 := if ar 6 (nx x) = 1 then lef ar (nx x) else -1
def tSetLimit (v : Int32) : Int32 := if inR v 1 cMost = true then 0 else 1
-- payments
def tPrepare (cn : Nat → Nat) (ar : Nat → Nat → Int32) (x pe am ps : Int32) : Int32 :=
  if (!inB (cn 0) x || !inR pe 0 9 || !inR ps 0 4) = true then 1 else if inR am 1 cMost = false then 2 else if ar 6 (nx x) = 0 ∨ 12 < cn 4 ∨ cn 2 = 40 then 3 else 0
def rPrepare (cn : Nat → Nat) (ar : Nat → Nat → Int32) (x pe am ps : Int32) : Nat → Nat → Int32 :=
  va_up (va_up (va_up (va_up (va_up ar 11 (upd (ar 11) (cn 2) x)) 12 (upd (ar 12) (cn 2) pe)) 13 (upd (ar 13) (cn 2) am)) 14 (upd (ar 14) (cn 2) ps)) 15 (upd (ar 15) (cn 2) (nI (cn 4)))
def alike (ar : Nat → Nat → Int32) (k j : Nat) : Bool := decide (ar 11 k = ar 11 j) && decide (ar 12 k = ar 12 j) && decide (ar 15 k = ar 15 j)
def belowB (lim : Int32) (ar : Nat → Nat → Int32) (k : Nat) : Bool := !decide (ar 16 k = 2) && decide (ar 13 k < lim)
def splF (lim : Int32) (ar : Nat → Nat → Int32) (j : Nat) : Nat → Int32
  | 0 => 0
  | k + 1 => splF lim ar j k + (if (alike ar k j && belowB lim ar k) = true then ar 13 k else 0)
def spl (n : Nat) (lim : Int32) (ar : Nat → Nat → Int32) (j : Nat) : Bool := belowB lim ar j && decide (lim ≤ splF lim ar j n)
/-- c and the first k bits of m, counted -/
def popF (m c : Int32) : Nat → Int32
  | 0 => c
  | k + 1 => popF m c k + ((m >>> (nI k &&& 31)) &&& 1)
def needOf (n : Nat) (lim : Int32) (ar : Nat → Nat → Int32) (j : Nat) : Int32 := if (decide (lim ≤ ar 13 j) || spl n lim ar j) = true then 2 else 1
def manyOf (ar : Nat → Nat → Int32) (j : Nat) : Int32 := popF (ar 17 j) 1 5
def tRelease (cn : Nat → Nat) (lim : Int32) (ar : Nat → Nat → Int32) (x ps : Int32) : Int32 :=
  if (!inB (cn 2) x || !inR ps 0 4) = true then 1 else if (!decide (ar 16 (nx x) = 0) || decide (ar 14 (nx x) = ps) || decide ((ar 17 (nx x) >>> (ps &&& 31)) &&& 1 = 1)) = true then 2
  else if needOf (cn 2) lim ar (nx x) ≤ manyOf ar (nx x) then (if 12 < cn 4 ∨ cn 1 = 120 ∨ lef ar (nx (ar 11 (nx x))) < ar 13 (nx x) then 2 else 0) else 0
def aRelease (cn : Nat → Nat) (lim : Int32) (ar : Nat → Nat → Int32) (x : Int32) : Int32 := if needOf (cn 2) lim ar (nx x) ≤ manyOf ar (nx x) then 0 else needOf (cn 2) lim ar (nx x) - manyOf ar (nx x)
def rUse (ar : Nat → Nat → Int32) (j : Nat) (am : Int32) : Nat → Nat → Int32 := va_up ar 10 (upd (ar 10) j (ar 10 j + am))
def rRelease (cn : Nat → Nat) (lim : Int32) (ar : Nat → Nat → Int32) (x ps : Int32) : Nat → Nat → Int32 :=
  let j := nx x
  let ar1 := if needOf (cn 2) lim ar j ≤ manyOf ar j then rEnters cn (rUse (va_up ar 16 (upd (ar 16) j 1)) (nx (ar 11 j)) (ar 13 j)) 0 (ar 11 j) 0 (ar 13 j) else ar
  va_up ar1 17 (upd (ar 17) j (ar 17 j ||| ((1 : Int32) <<< (ps &&& 31))))
def cRelease (cn : Nat → Nat) (lim : Int32) (ar : Nat → Nat → Int32) (x : Int32) : Nat → Nat := if needOf (cn 2) lim ar (nx x) ≤ manyOf ar (nx x) then cUp cn 1 else cn
def tRefuse (cn : Nat → Nat) (ar : Nat → Nat → Int32) (x : Int32) : Int32 := if inB (cn 2) x = false then 1 else if ar 16 (nx x) = 0 then 0 else 2
def rRefuse (ar : Nat → Nat → Int32) (x : Int32) : Nat → Nat → Int32 := va_up ar 16 (upd (ar 16) (nx x) 2)
/-- how many of the first k payments but j were split and are no longer -/
def refF (n : Nat) (lim : Int32) (ar ar2 : Nat → Nat → Int32) (j : Nat) : Nat → Nat
  | 0 => 0
  | k + 1 => refF n lim ar ar2 j k + (if (!decide (k = j) && spl n lim ar k && !spl n lim ar2 k) = true then 1 else 0)
def tPay (cn : Nat → Nat) (x : Int32) : Int32 := if inB (cn 2) x = true then 0 else 1
-- advances
def hasF (ar : Nat → Nat → Int32) (ps : Int32) : Nat → Bool
  | 0 => false
  | k + 1 => hasF ar ps k || (decide (ar 19 k = ps) && decide (ar 21 k = 0))
def tAdvance (cn : Nat → Nat) (ar : Nat → Nat → Int32) (ps am : Int32) : Int32 :=
  if inR ps 0 4 = false then 1 else if inR am 1 cMost = false then 2 else if 12 < cn 4 ∨ cn 1 = 120 then 3 else if hasF ar ps (cn 3) = true then 3 else 0
def rAdvance (cn : Nat → Nat) (ar : Nat → Nat → Int32) (ps am : Int32) : Nat → Nat → Int32 :=
  rEnters cn (va_up (va_up ar 19 (upd (ar 19) (cn 3) ps)) 20 (upd (ar 20) (cn 3) am)) 0 1 0 am
def tSettle (cn : Nat → Nat) (ar : Nat → Nat → Int32) (x y sp : Int32) : Int32 :=
  if (!inB (cn 3) x || !inB (cn 0) y) = true then 1 else if inR sp 0 (ar 20 (nx x)) = false then 2 else if ar 21 (nx x) = 1 ∨ ar 6 (nx y) = 0 ∨ lef ar (nx y) < sp ∨ 12 < cn 4 ∨ 118 < cn 1 then 3 else 0
/-- the state after the settling: counters and arrays -/
def sSettle (cn : Nat → Nat) (ar : Nat → Nat → Int32) (x y sp : Int32) : (Nat → Nat) × (Nat → Nat → Int32) :=
  let ar1 := rUse (va_up ar 21 (upd (ar 21) (nx x) 1)) (nx y) sp
  let s2 := if 0 < sp then (cUp cn 1, rEnters cn ar1 0 y 1 sp) else (cn, ar1)
  if 0 < ar 20 (nx x) - sp then (cUp s2.1 1, rEnters s2.1 s2.2 0 0 1 (ar 20 (nx x) - sp)) else s2
/-! THE REFERENCE's PICTURE: its object at m, its arrays at aa 0 .. aa 21 -/
def mfl (aa : Nat → Nat) (cn : Nat → Nat) (lim th : Int32) : List Value := [.int (nI (cn 0)), .ref (aa 0), .int (nI (cn 4)), .int (nI (cn 1)), .ref (aa 1), .ref (aa 2), .ref (aa 3), .ref (aa 4), .ref (aa 5), .ref (aa 6), .ref (aa 7), .ref (aa 8), .ref (aa 9), .ref (aa 10), .int lim, .int (nI (cn 2)), .ref (aa 11), .ref (aa 12), .ref (aa 13), .ref (aa 14), .ref (aa 15), .ref (aa 16), .ref (aa 17), .ref (aa 18), .int (nI (cn 3)), .ref (aa 19), .ref (aa 20), .ref (aa 21), .int th]
def mlen (k : Nat) : Nat := if k = 0 then 14 else if k ≤ 5 then 120 else if k ≤ 10 then 14 else if k ≤ 18 then 40 else 120
def PicM (E : EE) (M : MM) (m : Nat) (aa : Nat → Nat) (cn : Nat → Nat) (lim th : Int32) (ar : Nat → Nat → Int32) : Prop :=
  M m = some (.inr (7, mfl aa cn lim th)) ∧ (∀ k, k < 22 → M (aa k) = some (.inl (eI E, mlen k, .inl (ar k)))) ∧ ∀ i j, i < 22 → j < 22 → aa i = aa j → i = j
/-- the cells of the reference: its object and int arrays of 14, 40, 120 places -/
def kM : va_E → Bool
  | .inr (ci, _) => decide (ci = 7)
  | .inl (_, n, .inl _) => decide (n = 14) || decide (n = 40) || decide (n = 120)
  | _ => false
/-- all cells but those of a kind stay -/
def Fr (K : va_E → Bool) (M M' : MM) : Prop := ∀ (q : Nat) (e : va_E), M q = some e → K e = false → M' q = some e
theorem Fr.rf {K : va_E → Bool} {M : MM} : Fr K M M := fun _ _ h _ => h
theorem Fr.tr {K : va_E → Bool} {M M1 M2 : MM} (h : Fr K M M1) (h2 : Fr K M1 M2) : Fr K M M2 := fun q e hq hk => h2 q e (h q e hq hk) hk
theorem Fr.put {K : va_E → Bool} {M M1 : MM} (h : Fr K M M1) {a : Nat} {e e' : va_E} (ha : M1 a = some e) (hk : K e = true) : Fr K M (mput M1 a e') := by
  intro q f hq hf
  have h1 := h q f hq hf
  have hne : q ≠ a := by
    intro e1
    subst e1
    rw [ha] at h1
    cases h1
    rw [hk] at hf
    cases hf
  rw [mput_n hne]
  exact h1
theorem Fr.new {K : va_E → Bool} {M M1 : MM} (h : Fr K M M1) {a : Nat} {e' : va_E} (ha : M1 a = none) : Fr K M (mput M1 a e') := by
  intro q f hq hf
  have h1 := h q f hq hf
  have hne : q ≠ a := by
    intro e1
    subst e1
    rw [ha] at h1
    cases h1
  rw [mput_n hne]
  exact h1
theorem Fr.mono {K K' : va_E → Bool} {M M1 : MM} (h : Fr K M M1) (hk : ∀ e, K' e = false → K e = false) : Fr K' M M1 := fun q e hq hf => h q e hq (hk e hf)
theorem mlen_k {k : Nat} : (decide (mlen k = 14) || decide (mlen k = 40) || decide (mlen k = 120)) = true := by
  unfold mlen
  by_cases h1 : k = 0
  · rw [if_pos h1]; rfl
  · rw [if_neg h1]
    by_cases h2 : k ≤ 5
    · rw [if_pos h2]; rfl
    · rw [if_neg h2]
      by_cases h3 : k ≤ 10
      · rw [if_pos h3]; rfl
      · rw [if_neg h3]
        by_cases h4 : k ≤ 18
        · rw [if_pos h4]; rfl
        · rw [if_neg h4]; rfl
theorem PicM.stepF {z : Nat} {E : EE} {M0 M : MM} {H : Heap} {m : Nat} {aa : Nat → Nat} {cn cn' : Nat → Nat} {lim th lim' th' : Int32} {ar : Nat → Nat → Int32} (h : PicM E M m aa cn lim th ar) (hf : Fr kM M0 M) (hM : Mod z E (mput M m (.inr (7, mfl aa cn' lim' th'))) H) :
    ∃ M1 : MM, Mod z E M1 H ∧ PicM E M1 m aa cn' lim' th' ar ∧ Fr kM M0 M1 := by
  refine ⟨_, hM, ⟨mput_s, fun k hk => ?_, h.2.2⟩, hf.put h.1 rfl⟩
  have h1 := h.2.1 k hk
  have hne : aa k ≠ m := by
    intro e
    rw [e, h.1] at h1
    cases h1
  rw [mput_n hne]
  exact h1
theorem PicM.stepA {z : Nat} {E : EE} {M0 M : MM} {H : Heap} {m : Nat} {aa : Nat → Nat} {cn : Nat → Nat} {lim th : Int32} {ar : Nat → Nat → Int32} (k : Nat) (hk : k < 22) {f : Nat → Int32} (h : PicM E M m aa cn lim th ar) (hf : Fr kM M0 M) (hM : Mod z E (mput M (aa k) (.inl (eI E, mlen k, .inl f))) H) :
    ∃ M1 : MM, Mod z E M1 H ∧ PicM E M1 m aa cn lim th (va_up ar k f) ∧ Fr kM M0 M1 := by
  refine ⟨_, hM, ⟨?_, fun i hi => ?_, h.2.2⟩, hf.put (h.2.1 k hk) mlen_k⟩
  · have hne : m ≠ aa k := by
      intro e
      have h1 := h.2.1 k hk
      rw [← e, h.1] at h1
      cases h1
    rw [mput_n hne]
    exact h.1
  · by_cases e : i = k
    · subst e
      rw [mput_s]
      simp [va_up]
    · have hne : aa i ≠ aa k := fun q => e (h.2.2 i k hi hk q)
      rw [mput_n hne, h.2.1 i hi]
      simp [va_up, e]
theorem PicM.a0 {E : EE} {M : MM} {m : Nat} {aa : Nat → Nat} {cn : Nat → Nat} {lim th : Int32} {ar : Nat → Nat → Int32} (h : PicM E M m aa cn lim th ar) : M (aa 0) = some (.inl (eI E, 14, .inl (ar 0))) := h.2.1 0 (by decide)
theorem PicM.a1 {E : EE} {M : MM} {m : Nat} {aa : Nat → Nat} {cn : Nat → Nat} {lim th : Int32} {ar : Nat → Nat → Int32} (h : PicM E M m aa cn lim th ar) : M (aa 1) = some (.inl (eI E, 120, .inl (ar 1))) := h.2.1 1 (by decide)
theorem PicM.a2 {E : EE} {M : MM} {m : Nat} {aa : Nat → Nat} {cn : Nat → Nat} {lim th : Int32} {ar : Nat → Nat → Int32} (h : PicM E M m aa cn lim th ar) : M (aa 2) = some (.inl (eI E, 120, .inl (ar 2))) := h.2.1 2 (by decide)
theorem PicM.a3 {E : EE} {M : MM} {m : Nat} {aa : Nat → Nat} {cn : Nat → Nat} {lim th : Int32} {ar : Nat → Nat → Int32} (h : PicM E M m aa cn lim th ar) : M (aa 3) = some (.inl (eI E, 120, .inl (ar 3))) := h.2.1 3 (by decide)
theorem PicM.a4 {E : EE} {M : MM} {m : Nat} {aa : Nat → Nat} {cn : Nat → Nat} {lim th : Int32} {ar : Nat → Nat → Int32} (h : PicM E M m aa cn lim th ar) : M (aa 4) = some (.inl (eI E, 120, .inl (ar 4))) := h.2.1 4 (by decide)
theorem PicM.a5 {E : EE} {M : MM} {m : Nat} {aa : Nat → Nat} {cn : Nat → Nat} {lim th : Int32} {ar : Nat → Nat → Int32} (h : PicM E M m aa cn lim th ar) : M (aa 5) = some (.inl (eI E, 120, .inl (ar 5))) := h.2.1 5 (by decide)
theorem PicM.a6 {E : EE} {M : MM} {m : Nat} {aa : Nat → Nat} {cn : Nat → Nat} {lim th : Int32} {ar : Nat → Nat → Int32} (h : PicM E M m aa cn lim th ar) : M (aa 6) = some (.inl (eI E, 14, .inl (ar 6))) := h.2.1 6 (by decide)
theorem PicM.a7 {E : EE} {M : MM} {m : Nat} {aa : Nat → Nat} {cn : Nat → Nat} {lim th : Int32} {ar : Nat → Nat → Int32} (h : PicM E M m aa cn lim th ar) : M (aa 7) = some (.inl (eI E, 14, .inl (ar 7))) := h.2.1 7 (by decide)
theorem PicM.a8 {E : EE} {M : MM} {m : Nat} {aa : Nat → Nat} {cn : Nat → Nat} {lim th : Int32} {ar : Nat → Nat → Int32} (h : PicM E M m aa cn lim th ar) : M (aa 8) = some (.inl (eI E, 14, .inl (ar 8))) := h.2.1 8 (by decide)
theorem PicM.a9 {E : EE} {M : MM} {m : Nat} {aa : Nat → Nat} {cn : Nat → Nat} {lim th : Int32} {ar : Nat → Nat → Int32} (h : PicM E M m aa cn lim th ar) : M (aa 9) = some (.inl (eI E, 14, .inl (ar 9))) := h.2.1 9 (by decide)
theorem PicM.a10 {E : EE} {M : MM} {m : Nat} {aa : Nat → Nat} {cn : Nat → Nat} {lim th : Int32} {ar : Nat → Nat → Int32} (h : PicM E M m aa cn lim th ar) : M (aa 10) = some (.inl (eI E, 14, .inl (ar 10))) := h.2.1 10 (by decide)
theorem PicM.a11 {E : EE} {M : MM} {m : Nat} {aa : Nat → Nat} {cn : Nat → Nat} {lim th : Int32} {ar : Nat → Nat → Int32} (h : PicM E M m aa cn lim th ar) : M (aa 11) = some (.inl (eI E, 40, .inl (ar 11))) := h.2.1 11 (by decide)
theorem PicM.a12 {E : EE} {M : MM} {m : Nat} {aa : Nat → Nat} {cn : Nat → Nat} {lim th : Int32} {ar : Nat → Nat → Int32} (h : PicM E M m aa cn lim th ar) : M (aa 12) = some (.inl (eI E, 40, .inl (ar 12))) := h.2.1 12 (by decide)
theorem PicM.a13 {E : EE} {M : MM} {m : Nat} {aa : Nat → Nat} {cn : Nat → Nat} {lim th : Int32} {ar : Nat → Nat → Int32} (h : PicM E M m aa cn lim th ar) : M (aa 13) = some (.inl (eI E, 40, .inl (ar 13))) := h.2.1 13 (by decide)
theorem PicM.a14 {E : EE} {M : MM} {m : Nat} {aa : Nat → Nat} {cn : Nat → Nat} {lim th : Int32} {ar : Nat → Nat → Int32} (h : PicM E M m aa cn lim th ar) : M (aa 14) = some (.inl (eI E, 40, .inl (ar 14))) := h.2.1 14 (by decide)
theorem PicM.a15 {E : EE} {M : MM} {m : Nat} {aa : Nat → Nat} {cn : Nat → Nat} {lim th : Int32} {ar : Nat → Nat → Int32} (h : PicM E M m aa cn lim th ar) : M (aa 15) = some (.inl (eI E, 40, .inl (ar 15))) := h.2.1 15 (by decide)
theorem PicM.a16 {E : EE} {M : MM} {m : Nat} {aa : Nat → Nat} {cn : Nat → Nat} {lim th : Int32} {ar : Nat → Nat → Int32} (h : PicM E M m aa cn lim th ar) : M (aa 16) = some (.inl (eI E, 40, .inl (ar 16))) := h.2.1 16 (by decide)
theorem PicM.a17 {E : EE} {M : MM} {m : Nat} {aa : Nat → Nat} {cn : Nat → Nat} {lim th : Int32} {ar : Nat → Nat → Int32} (h : PicM E M m aa cn lim th ar) : M (aa 17) = some (.inl (eI E, 40, .inl (ar 17))) := h.2.1 17 (by decide)
theorem PicM.a18 {E : EE} {M : MM} {m : Nat} {aa : Nat → Nat} {cn : Nat → Nat} {lim th : Int32} {ar : Nat → Nat → Int32} (h : PicM E M m aa cn lim th ar) : M (aa 18) = some (.inl (eI E, 40, .inl (ar 18))) := h.2.1 18 (by decide)
theorem PicM.a19 {E : EE} {M : MM} {m : Nat} {aa : Nat → Nat} {cn : Nat → Nat} {lim th : Int32} {ar : Nat → Nat → Int32} (h : PicM E M m aa cn lim th ar) : M (aa 19) = some (.inl (eI E, 120, .inl (ar 19))) := h.2.1 19 (by decide)
theorem PicM.a20 {E : EE} {M : MM} {m : Nat} {aa : Nat → Nat} {cn : Nat → Nat} {lim th : Int32} {ar : Nat → Nat → Int32} (h : PicM E M m aa cn lim th ar) : M (aa 20) = some (.inl (eI E, 120, .inl (ar 20))) := h.2.1 20 (by decide)
theorem PicM.a21 {E : EE} {M : MM} {m : Nat} {aa : Nat → Nat} {cn : Nat → Nat} {lim th : Int32} {ar : Nat → Nat → Int32} (h : PicM E M m aa cn lim th ar) : M (aa 21) = some (.inl (eI E, 120, .inl (ar 21))) := h.2.1 21 (by decide)
/-- what holds of the numbers all through a run -/
def WF (cn : Nat → Nat) (lim : Int32) (ar : Nat → Nat → Int32) : Prop :=
  (2 ≤ cn 0 ∧ cn 0 ≤ 14 ∧ cn 1 ≤ 120 ∧ cn 2 ≤ 40 ∧ cn 3 ≤ cn 1 ∧ cn 4 ≤ 13) ∧
  (∃ v : Nat, 1 ≤ v ∧ v ≤ 1000000 ∧ lim = nI v) ∧
  (∀ i, i < cn 0 → ar 0 i = -1 ∨ ∃ j : Nat, j < i ∧ ar 0 i = nI j) ∧
  (∀ i, i < cn 1 → (∃ j : Nat, j < cn 0 ∧ ar 2 i = nI j) ∧ (∃ j : Nat, j < cn 0 ∧ ar 3 i = nI j) ∧ (∃ t : Nat, t < 13 ∧ ar 1 i = nI t) ∧ (ar 5 i = 0 ∨ ar 5 i = 1)) ∧
  (∀ i, (ar 6 i = 0 ∨ ar 6 i = 1) ∧ (cn 0 ≤ i → ar 6 i = 0 ∧ ar 7 i = 0 ∧ ar 8 i = 0 ∧ ar 9 i = 0 ∧ ar 10 i = 0)) ∧
  (∀ i, i < cn 2 → (∃ j : Nat, j < cn 0 ∧ ar 11 i = nI j) ∧ (∃ v : Nat, 1 ≤ v ∧ v ≤ 1000000 ∧ ar 13 i = nI v) ∧ ∃ k : Nat, k < 3 ∧ ar 16 i = nI k) ∧
  (∀ i, cn 2 ≤ i → ar 16 i = 0 ∧ ar 17 i = 0) ∧
  (∀ i, (ar 21 i = 0 ∨ ar 21 i = 1) ∧ (cn 3 ≤ i → ar 21 i = 0))
theorem WF.b {cn : Nat → Nat} {lim : Int32} {ar : Nat → Nat → Int32} (h : WF cn lim ar) : 2 ≤ cn 0 ∧ cn 0 ≤ 14 ∧ cn 1 ≤ 120 ∧ cn 2 ≤ 40 ∧ cn 3 ≤ cn 1 ∧ cn 4 ≤ 13 := h.1
theorem WF.ab {cn : Nat → Nat} {lim : Int32} {ar : Nat → Nat → Int32} (h : WF cn lim ar) {i : Nat} (hi : i < cn 0) : ar 0 i = -1 ∨ ∃ j : Nat, j < i ∧ ar 0 i = nI j := h.2.2.1 i hi
theorem WF.en {cn : Nat → Nat} {lim : Int32} {ar : Nat → Nat → Int32} (h : WF cn lim ar) {i : Nat} (hi : i < cn 1) : (∃ j : Nat, j < cn 0 ∧ ar 2 i = nI j) ∧ (∃ j : Nat, j < cn 0 ∧ ar 3 i = nI j) ∧ (∃ t : Nat, t < 13 ∧ ar 1 i = nI t) ∧ (ar 5 i = 0 ∨ ar 5 i = 1) := h.2.2.2.1 i hi
theorem WF.bu {cn : Nat → Nat} {lim : Int32} {ar : Nat → Nat → Int32} (h : WF cn lim ar) (i : Nat) : (ar 6 i = 0 ∨ ar 6 i = 1) ∧ (cn 0 ≤ i → ar 6 i = 0 ∧ ar 7 i = 0 ∧ ar 8 i = 0 ∧ ar 9 i = 0 ∧ ar 10 i = 0) := h.2.2.2.2.1 i
theorem WF.pa {cn : Nat → Nat} {lim : Int32} {ar : Nat → Nat → Int32} (h : WF cn lim ar) {i : Nat} (hi : i < cn 2) : (∃ j : Nat, j < cn 0 ∧ ar 11 i = nI j) ∧ (∃ v : Nat, 1 ≤ v ∧ v ≤ 1000000 ∧ ar 13 i = nI v) ∧ ∃ k : Nat, k < 3 ∧ ar 16 i = nI k := h.2.2.2.2.2.1 i hi
theorem WF.pz {cn : Nat → Nat} {lim : Int32} {ar : Nat → Nat → Int32} (h : WF cn lim ar) {i : Nat} (hi : cn 2 ≤ i) : ar 16 i = 0 ∧ ar 17 i = 0 := h.2.2.2.2.2.2.1 i hi
theorem WF.ad {cn : Nat → Nat} {lim : Int32} {ar : Nat → Nat → Int32} (h : WF cn lim ar) (i : Nat) : (ar 21 i = 0 ∨ ar 21 i = 1) ∧ (cn 3 ≤ i → ar 21 i = 0) := h.2.2.2.2.2.2.2 i
theorem inR_t {a b c : Int32} (h : ¬ a < b) (h2 : ¬ c < a) : inR a b c = true := by
  unfold inR
  simp only [Bool.and_eq_true, decide_eq_true_eq]
  exact ⟨Int32.not_lt.mp h, Int32.not_lt.mp h2⟩
theorem inR_f1 {a b c : Int32} (h : a < b) : inR a b c = false := by
  unfold inR
  simp only [Bool.and_eq_false_iff, decide_eq_false_iff_not]
  exact Or.inl (Int32.not_le.mpr h)
theorem inR_f2 {a b c : Int32} (_ : ¬ a < b) (h : c < a) : inR a b c = false := by
  unfold inR
  simp only [Bool.and_eq_false_iff, decide_eq_false_iff_not]
  exact Or.inr (Int32.not_le.mpr h)
/-- a boolean answer -/
def bRes (b : Bool) (r : Int32) : Prop := (b = true ∧ r = 1) ∨ (b = false ∧ r = 0)
/-- what a call of the reference does: its answer, its new numbers; or what it says is thrown -/
def mPost (E : EE) (M : MM) (m0 : Nat) (aa : Nat → Nat) (t a : Int32) (cn : Nat → Nat) (lim : Int32) (ar : Nat → Nat → Int32) (cn' : Nat → Nat) (lim' : Int32) (ar' : Nat → Nat → Int32) (r : Int32) (M' : MM) : Prop :=
  ((t = 0 ∧ r = a ∧ PicM E M' m0 aa cn' lim' 0 ar') ∨ (t ≠ 0 ∧ PicM E M' m0 aa cn lim t ar)) ∧ Fr kM M M'
theorem mPost.bad {E : EE} {M : MM} {m0 : Nat} {aa : Nat → Nat} {t a : Int32} {cn : Nat → Nat} {lim : Int32} {ar : Nat → Nat → Int32} {cn' : Nat → Nat} {lim' : Int32} {ar' : Nat → Nat → Int32} {r : Int32} {M' : MM} {k : Int32} (ht : t = k) (hk : k ≠ 0) (hPm : PicM E M' m0 aa cn lim k ar) (hf : Fr kM M M') : mPost E M m0 aa t a cn lim ar cn' lim' ar' r M' :=
  ⟨Or.inr ⟨by rw [ht]; exact hk, by rw [ht]; exact hPm⟩, hf⟩
theorem mPost.ok {E : EE} {M : MM} {m0 : Nat} {aa : Nat → Nat} {t a : Int32} {cn : Nat → Nat} {lim : Int32} {ar : Nat → Nat → Int32} {cn' : Nat → Nat} {lim' : Int32} {ar' : Nat → Nat → Int32} {r : Int32} {M' : MM} (ht : t = 0) (ha : r = a) (hPm : PicM E M' m0 aa cn' lim' 0 ar') (hf : Fr kM M M') : mPost E M m0 aa t a cn lim ar cn' lim' ar' r M' :=
  ⟨Or.inl ⟨ht, ha, hPm⟩, hf⟩
theorem lateOf_1 {cn : Nat → Nat} {pe : Int32} (h : ¬ nI (cn 4) ≤ pe) : lateOf cn pe = 1 := if_pos (Int32.not_le.mp h)
theorem lateOf_0 {cn : Nat → Nat} {pe : Int32} (h : nI (cn 4) ≤ pe) : lateOf cn pe = 0 := if_neg (Int32.not_lt.mpr h)
theorem nI_nm1 {j : Nat} (h : j < 2 ^ 31) : ¬ nI j = -1 := by
  intro e
  have h1 := nI_toInt h
  rw [e] at h1
  have h2 : (-1 : Int32).toInt = -1 := by decide
  omega
theorem undF_m1 {ab : Nat → Int32} {top : Int32} {f : Nat} : undF ab top (f + 1) (-1) = false := if_pos rfl
theorem undF_eq {ab : Nat → Int32} {top : Int32} {f j : Nat} (hj : j < 2 ^ 31) (h : nI j = top) : undF ab top (f + 1) (nI j) = true := by
  show (if nI j = -1 then false else if nI j = top then true else undF ab top f (ab (nI j).toNatClampNeg)) = true
  rw [if_neg (nI_nm1 hj), if_pos h]
theorem undF_up {ab : Nat → Int32} {top : Int32} {f j : Nat} (hj : j < 2 ^ 31) (h : ¬ nI j = top) : undF ab top (f + 1) (nI j) = undF ab top f (ab j) := by
  show (if nI j = -1 then false else if nI j = top then true else undF ab top f (ab (nI j).toNatClampNeg)) = undF ab top f (ab j)
  rw [if_neg (nI_nm1 hj), if_neg h, nI_clamp hj]
/-- the runs of splits speak of five arrays alone -/
theorem splF_congr {lim : Int32} {ar ar' : Nat → Nat → Int32} (h1 : ar 11 = ar' 11) (h2 : ar 12 = ar' 12) (h3 : ar 13 = ar' 13) (h4 : ar 15 = ar' 15) (h5 : ar 16 = ar' 16) (j : Nat) : ∀ k, splF lim ar j k = splF lim ar' j k
  | 0 => rfl
  | k + 1 => by
    show splF lim ar j k + _ = splF lim ar' j k + _
    have ha : alike ar k j = alike ar' k j := by unfold alike; rw [h1, h2, h4]
    have hb : belowB lim ar k = belowB lim ar' k := by unfold belowB; rw [h3, h5]
    rw [splF_congr h1 h2 h3 h4 h5 j k, ha, hb, h3]
theorem spl_congr {n : Nat} {lim : Int32} {ar ar' : Nat → Nat → Int32} (h1 : ar 11 = ar' 11) (h2 : ar 12 = ar' 12) (h3 : ar 13 = ar' 13) (h4 : ar 15 = ar' 15) (h5 : ar 16 = ar' 16) (j : Nat) : spl n lim ar j = spl n lim ar' j := by
  have hb : belowB lim ar j = belowB lim ar' j := by unfold belowB; rw [h3, h5]
  unfold spl
  rw [splF_congr h1 h2 h3 h4 h5 j n, hb]
theorem bfl1 {x : Int32} {b : Bool} (h : x = if b = true then 1 else 0) (c : x = 1) : b = true := by
  cases b with
  | true => rfl
  | false => rw [c] at h; exact absurd h (by decide)
theorem bfl0 {x : Int32} {b : Bool} (h : x = if b = true then 1 else 0) (c : ¬ x = 1) : b = false := by
  cases b with
  | true => exact absurd h c
  | false => rfl
theorem va_up_comm {α : Type} {f : Nat → α} {i j : Nat} {x y : α} (h : i ≠ j) : va_up (va_up f i x) j y = va_up (va_up f j y) i x := by
  funext k
  unfold va_up
  by_cases e1 : k = j
  · by_cases e2 : k = i
    · exact absurd (e2.symm.trans e1) h
    · simp [e1, e2]
      intro h3
      exact absurd h3.symm h
  · simp [e1]
theorem hasF_up {ar : Nat → Nat → Int32} {ps : Int32} {k : Nat} (h : hasF ar ps k = true) : ∀ n, k ≤ n → hasF ar ps n = true := by
  intro n hn
  obtain ⟨d, rfl⟩ := Nat.exists_eq_add_of_le hn
  clear hn
  induction d with
  | zero => exact h
  | succ d ih =>
    show (hasF ar ps (k + d) || (decide (ar 19 (k + d) = ps) && decide (ar 21 (k + d) = 0))) = true
    rw [ih]
    rfl
theorem hasF_t {ar : Nat → Nat → Int32} {ps : Int32} {k n : Nat} (hk : k < n) (h1 : ar 19 k = ps) (h2 : ar 21 k = 0) : hasF ar ps n = true := by
  refine hasF_up (k := k + 1) ?_ n hk
  show (hasF ar ps k || (decide (ar 19 k = ps) && decide (ar 21 k = 0))) = true
  simp [h1, h2]
