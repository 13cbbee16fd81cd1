/-! THE PURSE's OPERATIONS: what they do, in the reference's numbers -/
def xP (e1 e2 e3 : String) (t : Int32) : String → Prop := fun cn => (cn = e1 ∧ t = 1) ∨ (cn = e2 ∧ t = 2) ∨ (cn = e3 ∧ t = 3)
def pPost (E : EE) (M : MM) (p : Nat) (la : Nat → Nat) (t a : Int32) (cn' : Nat → Nat) (lim' : Int32) (ar' : Nat → Nat → Int32) (r : Int32) (M' : MM) : Prop :=
  t = 0 ∧ r = a ∧ (∃ (el' : Nat → Nat → Nat) (K' : Kp), PicP E M' p la el' K' cn' lim' ar' ∧ Sm K' cn' ar') ∧ Fr kP M M'
theorem pPost.ok {E : EE} {M M' : MM} {p : Nat} {la : Nat → Nat} {t a : Int32} {cn' cn9 : Nat → Nat} {lim' : Int32} {ar' ar9 : Nat → Nat → Int32} {r : Int32} {el' : Nat → Nat → Nat} {K' : Kp} (ht : t = 0) (ha : r = a) (hp : PicP E M' p la el' K' cn9 lim' ar9) (hs : Sm K' cn9 ar9) (hc : cn' = cn9) (hr : ar' = ar9) (hf : Fr kP M M') : pPost E M p la t a cn' lim' ar' r M' := by
  subst hc hr
  exact ⟨ht, ha, ⟨el', K', hp, hs⟩, hf⟩
theorem st_recv {z : Nat} {E : EE} {s : State} {H : Heap} {locs : List Loc} (hG : Gl z E s) (hS : va_S (zA z) s.heap H locs) {w : Nat} (hw : w < 3) : ∃ cell : Cell, H[eR E w]? = some cell ∧ cell.vm.isStatics = false ∧ s.vm.findClass (stC w) = some cell.cls := by
  obtain ⟨cell, h1, h2, h3, -⟩ := ((hG.st hw).2.1).kept hS.2.1
  exact ⟨cell, h1, h2, h3⟩
theorem inB_n {n : Nat} {v : Int32} (hn : n < 2 ^ 31) (h : v < 0) : inB n v = false := by
  cases e : inB n v with
  | false => rfl
  | true => exact absurd ((inB_iff hn).mp e).1 (Int32.not_le.mpr h)
theorem inB_b {n : Nat} {v : Int32} (hn : n < 2 ^ 31) (h : nI n ≤ v) : inB n v = false := by
  cases e : inB n v with
  | false => rfl
  | true => exact absurd ((inB_iff hn).mp e).2 (Int32.not_lt.mpr h)
theorem inB_y {n : Nat} {v : Int32} (hn : n < 2 ^ 31) (h1 : ¬ v < 0) (h2 : ¬ nI n ≤ v) : inB n v = true := (inB_iff hn).mpr ⟨Int32.not_lt.mp h1, Int32.not_le.mp h2⟩
theorem inR_min {v : Int32} {o : Nat} (ho : o ≤ 13) : inR v 0 (if (12 : Int32) < nI o then 12 else nI o) = (inR v 0 12 && !decide (nI o < v)) := by
  by_cases h : 12 < o
  · have h1 : (12 : Int32) < nI o := nI_lt (a := 12) h (by omega)
    rw [if_pos h1]
    cases e : inR v 0 12 with
    | false => rfl
    | true =>
      simp only [inR, Bool.and_eq_true, decide_eq_true_eq] at e
      have h2 : ¬ nI o < v := fun h3 => absurd (Int32.lt_trans h1 h3) (Int32.not_lt.mpr e.2)
      simp [h2]
  · have h1 : ¬ nI 12 < nI o := nI_nlt (Nat.not_lt.mp h) (by omega)
    rw [show (12 : Int32) = nI 12 from rfl, if_neg h1]
    unfold inR
    have h4 : nI o ≤ nI 12 := nI_le (Nat.not_lt.mp h) (by omega)
    rw [Bool.eq_iff_iff]
    simp only [Bool.and_eq_true, decide_eq_true_eq, Bool.not_eq_true', decide_eq_false_iff_not]
    constructor
    · rintro ⟨a, b⟩
      exact ⟨⟨a, Int32.le_trans b h4⟩, Int32.not_lt.mpr b⟩
    · rintro ⟨⟨a, b⟩, c⟩
      exact ⟨a, Int32.not_lt.mp c⟩
theorem inR_13 {v : Int32} (h : inR v 0 12 = true) : ∃ t : Nat, t < 13 ∧ v = nI t := by
  simp only [inR, Bool.and_eq_true, decide_eq_true_eq] at h
  refine inB_ex (n := 13) ((inB_iff (by omega)).mpr ⟨h.1, ?_⟩) (by omega)
  exact Int32.lt_of_le_of_lt h.2 (show (12 : Int32) < nI 13 by decide)
/-- a sum by periods -/
def suF (f : Nat → Int32) : Nat → Int32
  | 0 => 0
  | k + 1 => suF f k + f k
theorem suF_cong {f g : Nat → Int32} (n : Nat) (h : ∀ i, i < n → f i = g i) : suF f n = suF g n := by
  induction n with
  | zero => rfl
  | succ n ih =>
    show suF f n + f n = suF g n + g n
    rw [ih (fun i hi => h i (Nat.lt_succ_of_lt hi)), h n (Nat.lt_succ_self n)]
theorem suF_one {f : Nat → Int32} {t0 : Nat} {d : Int32} (n : Nat) : suF (fun t => f t + (if t0 = t then d else 0)) n = suF f n + (if t0 < n then d else 0) := by
  induction n with
  | zero => simp [suF]
  | succ n ih =>
    show suF (fun t => f t + (if t0 = t then d else 0)) n + (f n + (if t0 = n then d else 0)) = suF f n + f n + _
    rw [ih]
    by_cases e : t0 = n
    · subst e
      simp [Int32.add_assoc]
    · by_cases e2 : t0 < n
      · have e3 : t0 < n + 1 := by omega
        simp only [e, e2, e3, if_true, if_false, Int32.add_zero]
        rw [Int32.add_assoc, Int32.add_assoc, Int32.add_comm d (f n)]
      · have e3 : ¬ t0 < n + 1 := by omega
        simp [e, e2, e3]
theorem bal_eq {cn : Nat → Nat} {lim : Int32} {ar : Nat → Nat → Int32} {K : Kp} {j t1 : Nat} (hW : WF cn lim ar) (hS : Sm K cn ar) (hj : j < cn 0) (ht : t1 < 13) : suF (ksc K j) (t1 + 1) = balF ar (nI j) (nI t1) (cn 1) := by
  rw [suF_cong (g := fun t => sE ar j t (cn 1)) (t1 + 1) (fun i hi => hS j hj i (by omega))]
  have H : ∀ n, n ≤ cn 1 → suF (fun t => sE ar j t n) (t1 + 1) = balF ar (nI j) (nI t1) n := by
    intro n
    induction n with
    | zero =>
      intro _
      show suF (fun _ => 0) (t1 + 1) = 0
      generalize t1 + 1 = q
      induction q with
      | zero => rfl
      | succ q ih => show suF (fun _ => 0) q + 0 = 0; rw [ih]; rfl
    | succ n ih =>
      intro hn
      obtain ⟨-, -, ⟨t0, ht0, et⟩, -⟩ := hW.en (i := n) (by omega)
      have e1 : ∀ t, t < t1 + 1 → sE ar j t (n + 1) = (fun t => sE ar j t n + (if t0 = t then ((if und (ar 0) (ar 2 n) (nI j) = true then ar 4 n else 0) - (if und (ar 0) (ar 3 n) (nI j) = true then ar 4 n else 0)) else 0)) t := by
        intro t htt
        show sE ar j t n + (if ar 1 n = nI t then _ else 0) = _
        rw [et]
        by_cases e : t0 = t
        · subst e
          simp
        · by_cases e9 : nI t0 = nI t
          · exact absurd ((nI_eq (by omega) (by omega)).mp e9) e
          · simp [e, e9]
      rw [suF_cong (t1 + 1) e1, suF_one, ih (by omega)]
      show _ = if ar 1 n ≤ nI t1 then (balF ar (nI j) (nI t1) n + _) - _ else balF ar (nI j) (nI t1) n
      rw [et]
      by_cases e : t0 ≤ t1
      · rw [if_pos (show t0 < t1 + 1 by omega), if_pos (nI_le e (by omega))]
        simp [Int32.sub_eq_add_neg, Int32.add_assoc]
      · rw [if_neg (show ¬ t0 < t1 + 1 by omega), if_neg (nI_ge (by omega) (by omega))]
        simp
  exact H (cn 1) (Nat.le_refl _)
theorem lw_q4 {a b c d : Cond} (ha : a ∈ lw_all) (hb : b ∈ lw_all) (hc : c ∈ lw_all) (hd : d ∈ lw_all) : ∀ w ∈ [a, b, c, d], w ∈ lw_all := List.forall_mem_cons.mpr ⟨ha, List.forall_mem_cons.mpr ⟨hb, List.forall_mem_cons.mpr ⟨hc, List.forall_mem_cons.mpr ⟨hd, fun _ h => absurd h List.not_mem_nil⟩⟩⟩⟩
theorem lw_q5 {a b c d e : Cond} (ha : a ∈ lw_all) (hb : b ∈ lw_all) (hc : c ∈ lw_all) (hd : d ∈ lw_all) (he : e ∈ lw_all) : ∀ w ∈ [a, b, c, d, e], w ∈ lw_all := List.forall_mem_cons.mpr ⟨ha, lw_q4 hb hc hd he⟩
