/-! THE PURSE's OPERATIONS: what they do, in the reference's numbers -/
def xP (e1 e2 e3 : String) (t : Int32) : String → Prop := fun cn => (cn = e1 ∧ t = 1) ∨ (cn = e2 ∧ t = 2) ∨ (cn = e3 ∧ t = 3)
def pPost (E : EE) (M : MM) (p : Nat) (la : Nat → Nat) (t a : Int32) (cn' : Nat → Nat) (lim' : Int32) (ar' : Nat → Nat → Int32) (r : Int32) (M' : MM) : Prop :=
  t = 0 ∧ r = a ∧ (∃ (el' : Nat → Nat → Nat) (K' : Kp), PicP E M' p la el' K' cn' lim' ar' ∧ Sm K' cn' ar') ∧ Fr kP M M'
theorem pPost.ok {E : EE} {M M' : MM} {p : Nat} {la : Nat → Nat} {t a : Int32} {cn' cn9 : Nat → Nat} {lim' : Int32} {ar' ar9 : Nat → Nat → Int32} {r : Int32} {el' : Nat → Nat → Nat} {K' : Kp} (ht : t = 0) (ha : r = a) (hp : PicP E M' p la el' K' cn9 lim' ar9) (hs : Sm K' cn9 ar9) (hc : cn' = cn9) (hr : ar' = ar9) (hf : Fr kP M M') : pPost E M p la t a cn' lim' ar' r M' := by
  subst hc hr
  exact ⟨ht, ha, ⟨el', K', hp, hs⟩, hf⟩
theorem st_recv {z : Nat} {E : EE} {s : State} {H : Heap} {locs : List Loc} (hG : Gl z E s) (hS : va_S (zA z) s.heap H locs) {w : Nat} (hw : w < 3) : ∃ cell : Cell, H[eR E w]? = some cell ∧ cell.vm.isStatics = false ∧ s.vm.findClass (stC w) = some cell.cls := by
  obtain ⟨cell, h1, h2, h3, -⟩ := ((hG.st hw).2.1).kept hS.2.1
  exact ⟨cell, h1, h2, h3⟩
theorem inB_n {n : Nat} {v : Int32} (hn : n < 2 ^ 31) (h : v < 0) : inB n v = false := by
  cases e : inB n v with
  | false => rfl
  | true => exact absurd ((inB_iff hn).mp e).1 (Int32.not_le.mpr h)
theorem inB_b {n : Nat} {v : Int32} (hn : n < 2 ^ 31) (h : nI n ≤ v) : inB n v = false := by
  cases e : inB n v with
  | false => rfl
  | true => exact absurd ((inB_iff hn).mp e).2 (Int32.not_lt.mpr h)
theorem inB_y {n : Nat} {v : Int32} (hn : n < 2 ^ 31) (h1 : ¬ v < 0) (h2 : ¬ nI n ≤ v) : inB n v = true := (inB_iff hn).mpr ⟨Int32.not_lt.mp h1, Int32.not_le.mp h2⟩
theorem inR_min {v : Int32} {o : Nat} (ho : o ≤ 13) : inR v 0 (if (12 : Int32) < nI o then 12 else nI o) = (inR v 0 12 && !decide (nI o < v)) := by
  by_cases h : 12 < o
  · have h1 : (12 : Int32) < nI o := nI_lt (a := 12) h (by omega)
    rw [if_pos h1]
    cases e : inR v 0 12 with
    | false => rfl
    | true =>
      simp only [inR, Bool.and_eq_true, decide_eq_true_eq] at e
      have h2 : ¬ nI o < v := fun h3 => absurd (Int32.lt_trans h1 h3) (Int32.not_lt.mpr e.2)
      simp [h2]
  · have h1 : ¬ nI 12 < nI o := nI_nlt (Nat.not_lt.mp h) (by omega)
    rw [show (12 : Int32) = nI 12 from rfl, if_neg h1]
    unfold inR
    have h4 : nI o ≤ nI 12 := nI_le (Nat.not_lt.mp h) (by omega)
    rw [Bool.eq_iff_iff]
    simp only [Bool.and_eq_true, decide_eq_true_eq, Bool.not_eq_true', decide_eq_false_iff_not]
    constructor
    · rintro ⟨a, b⟩
      exact ⟨⟨a, Int32.le_trans b h4⟩, Int32.not_lt.mpr b⟩
    · rintro ⟨⟨a, b⟩, c⟩
      exact ⟨a, Int32.not_lt.mp c⟩
