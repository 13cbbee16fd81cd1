/-! THE PURSE's PICTURE. K: what the lists and the sums hold within (arrays, counts of changes, capacities, whether there is an array, the arrays, the sums' arrays, the sums) -/
abbrev Kp : Type := (Nat → Nat) × (Nat → Int32) × (Nat → Nat) × (Nat → Bool) × (Nat → Nat → Option Nat) × (Nat → Nat) × (Nat → Nat → Int32)
def kda (K : Kp) : Nat → Nat := K.1
def kmd (K : Kp) : Nat → Int32 := K.2.1
def kcp (K : Kp) : Nat → Nat := K.2.2.1
def kfl (K : Kp) : Nat → Bool := K.2.2.2.1
def kg (K : Kp) : Nat → Nat → Option Nat := K.2.2.2.2.1
def ksm (K : Kp) : Nat → Nat := K.2.2.2.2.2.1
def ksc (K : Kp) : Nat → Nat → Int32 := K.2.2.2.2.2.2
def kSc (K : Kp) (sc : Nat → Nat → Int32) : Kp := (K.1, K.2.1, K.2.2.1, K.2.2.2.1, K.2.2.2.2.1, K.2.2.2.2.2.1, sc)
def abv (el : Nat → Nat → Nat) (ar : Nat → Nat → Int32) (k : Nat) : Value := if ar 0 k = -1 then .null else .ref (el 0 (nx (ar 0 k)))
def acF (el : Nat → Nat → Nat) (sm : Nat → Nat) (ar : Nat → Nat → Int32) (k : Nat) : List Value := [abv el ar k, .ref (sm k), .int (ar 6 k), .int (ar 7 k), .int (ar 8 k), .int (ar 9 k), .int (ar 10 k)]
def enF (el : Nat → Nat → Nat) (ar : Nat → Nat → Int32) (k : Nat) : List Value := [.int (ar 1 k), .ref (el 0 (nx (ar 2 k))), .ref (el 0 (nx (ar 3 k))), .int (ar 4 k)]
def enC (ar : Nat → Nat → Int32) (k : Nat) : Nat := if ar 5 k = 1 then 2 else 3
def paF (E : EE) (el : Nat → Nat → Nat) (ar : Nat → Nat → Int32) (k : Nat) : List Value := [.ref (el 0 (nx (ar 11 k))), .int (ar 12 k), .int (ar 13 k), .int (ar 14 k), .int (ar 15 k), .ref (eR E (nx (ar 16 k))), .int (ar 17 k)]
def adF (ar : Nat → Nat → Int32) (k : Nat) : List Value := [.int (ar 19 k), .int (ar 20 k), .int (ar 21 k)]
def puF (la : Nat → Nat) (lim : Int32) (cn : Nat → Nat) : List Value := [.ref (la 0), .ref (la 1), .ref (la 2), .ref (la 3), .int lim, .int (nI (cn 4))]
def elC (E : EE) (el : Nat → Nat → Nat) (sm : Nat → Nat) (ar : Nat → Nat → Int32) (i k : Nat) : Nat × List Value := match i with
  | 0 => (1, acF el sm ar k)
  | 1 => (enC ar k, enF el ar k)
  | 2 => (4, paF E el ar k)
  | _ => (5, adF ar k)
def PicP (E : EE) (M : MM) (p : Nat) (la : Nat → Nat) (el : Nat → Nat → Nat) (K : Kp) (cn : Nat → Nat) (lim : Int32) (ar : Nat → Nat → Int32) : Prop :=
  (M p = some (.inr (0, puF la lim cn)) ∧
  (∀ i, i < 4 → M (la i) = some (.inr (6, [.int (kmd K i), .ref (kda K i), .int (nI (cn i))]))) ∧
  (∀ i, i < 4 → (kfl K i = false ∧ kda K i = eN E ∧ cn i = 0) ∨ (kfl K i = true ∧ M (kda K i) = some (cO E (kcp K i) (kg K i)) ∧ cn i ≤ kcp K i ∧ 10 ≤ kcp K i ∧ kcp K i ≤ 400)) ∧
  (∀ i k, i < 4 → k < cn i → kg K i k = some (el i k) ∧ M (el i k) = some (.inr (elC E el (ksm K) ar i k))) ∧
  (∀ k, k < cn 0 → M (ksm K k) = some (.inl (eI E, 13, .inl (ksc K k))))) ∧
  ((∀ i j, i < 4 → j < 4 → la i = la j → i = j) ∧
  (∀ i j, i < 4 → j < 4 → kfl K i = true → kfl K j = true → kda K i = kda K j → i = j) ∧
  (∀ i k k', i < 4 → k < cn i → k' < cn i → el i k = el i k' → k = k') ∧
  (∀ k k', k < cn 0 → k' < cn 0 → ksm K k = ksm K k' → k = k'))
/-- the cells of the purse -/
def kP : va_E → Bool
  | .inr (ci, _) => decide (ci ≤ 6)
  | .inl (_, n, .inl _) => decide (n = 13)
  | .inl (_, _, .inr (.inr (.inr (.inr _)))) => true
  | _ => false
section
variable {z : Nat} {E : EE} {M M0 M' : MM} {H : Heap} {p : Nat} {la : Nat → Nat} {el : Nat → Nat → Nat} {K : Kp} {cn : Nat → Nat} {lim : Int32} {ar : Nat → Nat → Int32}
theorem elC_cls (E : EE) (el : Nat → Nat → Nat) (sm : Nat → Nat) (ar : Nat → Nat → Int32) (i k : Nat) : 1 ≤ (elC E el sm ar i k).1 ∧ (elC E el sm ar i k).1 ≤ 5 := by
  unfold elC
  split
  · exact ⟨Nat.le_of_ble_eq_true rfl, Nat.le_of_ble_eq_true rfl⟩
  · show 1 ≤ enC ar k ∧ enC ar k ≤ 5
    unfold enC
    split
    · exact ⟨Nat.le_of_ble_eq_true rfl, Nat.le_of_ble_eq_true rfl⟩
    · exact ⟨Nat.le_of_ble_eq_true rfl, Nat.le_of_ble_eq_true rfl⟩
  · exact ⟨Nat.le_of_ble_eq_true rfl, Nat.le_of_ble_eq_true rfl⟩
  · exact ⟨Nat.le_of_ble_eq_true rfl, Nat.le_of_ble_eq_true rfl⟩
theorem PicP.mono (h : PicP E M p la el K cn lim ar) (hf : ∀ a e, M a = some e → (∀ ci fs, e = .inr (ci, fs) → ci ≤ 6) → (∀ c n f, e = .inl (c, n, .inl f) → n = 13) → (∀ c n f, e = .inl (c, n, .inr f) → ∃ g, f = .inr (.inr (.inr g))) → M' a = some e) : PicP E M' p la el K cn lim ar := by
  obtain ⟨⟨h1, h2, h3, h4, h5⟩, h6⟩ := h
  refine ⟨⟨hf _ _ h1 (fun ci fs e => by cases e; decide) (fun _ _ _ e => by cases e) (fun _ _ _ e => by cases e), fun i hi => hf _ _ (h2 i hi) (fun ci fs e => by cases e; decide) (fun _ _ _ e => by cases e) (fun _ _ _ e => by cases e), fun i hi => ?_, fun i k hi hk => ⟨(h4 i k hi hk).1, hf _ _ (h4 i k hi hk).2 (fun ci fs e => ?_) (fun _ _ _ e => by cases e) (fun _ _ _ e => by cases e)⟩, fun k hk => hf _ _ (h5 k hk) (fun _ _ e => by cases e) (fun _ _ _ e => by cases e; rfl) (fun _ _ _ e => by cases e)⟩, h6⟩
  · rcases h3 i hi with h9 | ⟨a1, a2, a3⟩
    · exact Or.inl h9
    · exact Or.inr ⟨a1, hf _ _ a2 (fun _ _ e => by cases e) (fun _ _ _ e => by cases e) (fun _ _ _ e => by cases e; exact ⟨_, rfl⟩), a3⟩
  · have h9 := (elC_cls E el (ksm K) ar i k).2
    rw [Sum.inr.inj e] at h9
    exact Nat.le_succ_of_le h9
theorem PicP.ext (h : PicP E M p la el K cn lim ar) (hf : Ext M M') : PicP E M' p la el K cn lim ar := h.mono fun a e ha _ _ _ => hf a e ha
theorem PicP.frM (h : PicP E M p la el K cn lim ar) (hf : Fr kM M M') : PicP E M' p la el K cn lim ar := h.mono fun a e ha h1 h2 h3 => hf a e ha (by
  rcases e with ⟨c, n, f | f⟩ | ⟨ci, fs⟩
  · have h9 := h2 c n f rfl
    subst h9
    rfl
  · rfl
  · have h9 := h1 ci fs rfl
    show decide (ci = 7) = false
    exact decide_eq_false (by omega))
theorem PicM.frP {m : Nat} {aa : Nat → Nat} {th : Int32} (h : PicM E M m aa cn lim th ar) (hf : Fr kP M M') : PicM E M' m aa cn lim th ar := by
  refine ⟨hf _ _ h.1 rfl, fun k hk => hf _ _ (h.2.1 k hk) ?_, h.2.2⟩
  show decide (mlen k = 13) = false
  refine decide_eq_false ?_
  unfold mlen
  repeat' split
  all_goals omega
theorem PicP.pu (h : PicP E M p la el K cn lim ar) : M p = some (.inr (0, puF la lim cn)) := h.1.1
theorem PicP.li (h : PicP E M p la el K cn lim ar) (i : Nat) (hi : i < 4) : M (la i) = some (.inr (6, [.int (kmd K i), .ref (kda K i), .int (nI (cn i))])) := h.1.2.1 i hi
theorem PicP.elm (h : PicP E M p la el K cn lim ar) (i k : Nat) (hi : i < 4) (hk : k < cn i) : M (el i k) = some (.inr (elC E el (ksm K) ar i k)) := (h.1.2.2.2.1 i k hi hk).2
theorem PicP.ac (h : PicP E M p la el K cn lim ar) {k : Nat} (hk : k < cn 0) : M (el 0 k) = some (.inr (1, acF el (ksm K) ar k)) := h.elm 0 k (by decide) hk
theorem PicP.pa (h : PicP E M p la el K cn lim ar) {k : Nat} (hk : k < cn 2) : M (el 2 k) = some (.inr (4, paF E el ar k)) := h.elm 2 k (by decide) hk
theorem PicP.av (h : PicP E M p la el K cn lim ar) {k : Nat} (hk : k < cn 3) : M (el 3 k) = some (.inr (5, adF ar k)) := h.elm 3 k (by decide) hk
theorem PicP.en (h : PicP E M p la el K cn lim ar) {k : Nat} (hk : k < cn 1) : M (el 1 k) = some (.inr (enC ar k, enF el ar k)) := h.elm 1 k (by decide) hk
theorem PicP.sm (h : PicP E M p la el K cn lim ar) {k : Nat} (hk : k < cn 0) : M (ksm K k) = some (.inl (eI E, 13, .inl (ksc K k))) := h.1.2.2.2.2 k hk
theorem PicP.ob (h : PicP E M p la el K cn lim ar) (i k : Nat) (hi : i < 4) (hk : k < cn i) : ∃ y, kg K i k = some y ∧ Ob M y :=
  ⟨el i k, (h.1.2.2.2.1 i k hi hk).1, _, _, h.elm i k hi hk, (elC_cls E el (ksm K) ar i k).1, (elC_cls E el (ksm K) ar i k).2⟩
theorem PicP.dat (h : PicP E M p la el K cn lim ar) (i : Nat) {k : Nat} (hi : i < 4) (hk : k < cn i) : M (kda K i) = some (cO E (kcp K i) (kg K i)) ∧ cn i ≤ kcp K i ∧ kcp K i ≤ 400 := by
  rcases h.1.2.2.1 i hi with ⟨-, -, h9⟩ | ⟨-, a, b, -, c⟩
  · omega
  · exact ⟨a, b, c⟩
theorem PicP.gel (h : PicP E M p la el K cn lim ar) (i : Nat) {k : Nat} (hi : i < 4) (hk : k < cn i) : kg K i k = some (el i k) := (h.1.2.2.2.1 i k hi hk).1
theorem PicP.lin (h : PicP E M p la el K cn lim ar) (i : Nat) (hi : i < 4) (hn : cn i ≤ 119) (hx : Ext M M') : LIn E M' (la i) (cn i) (kda K i) (kcp K i) (kfl K i) (kmd K i) (kg K i) := by
  have h' := h.ext hx
  refine ⟨h'.li i hi, ?_, hn, fun k hk => h'.ob i k hi hk⟩
  rcases h'.1.2.2.1 i hi with h9 | h9
  · exact Or.inl h9
  · exact Or.inr ⟨h9.1, h9.2.1, h9.2.2.1, h9.2.2.2.1, h9.2.2.2.2⟩
/-- other cells of the picture than element (i, k) -/
theorem PicP.stepE (i k : Nat) (hi : i < 4) (hk : k < cn i) {ar' : Nat → Nat → Int32} (h : PicP E M p la el K cn lim ar) (hf : Fr kP M0 M)
    (hs : ∀ i' k', i' < 4 → k' < cn i' → ¬ (i' = i ∧ k' = k) → elC E el (ksm K) ar' i' k' = elC E el (ksm K) ar i' k') (hM : Mod z E (mput M (el i k) (.inr (elC E el (ksm K) ar' i k))) H) :
    ∃ M1 : MM, Mod z E M1 H ∧ PicP E M1 p la el K cn lim ar' ∧ Fr kP M0 M1 := by
  have hc := elC_cls E el (ksm K) ar i k
  have hel := h.elm i k hi hk
  have ne6 : ∀ (q ci : Nat) (fs : List Value), M q = some (.inr (ci, fs)) → (ci = 0 ∨ ci = 6) → q ≠ el i k := by
    intro q ci fs hq h9 e
    rw [e, hel] at hq
    have h8 := Sum.inr.inj (Option.some.inj hq)
    rw [h8] at hc
    simp only at hc
    omega
  refine ⟨_, hM, ⟨⟨?_, fun j hj => ?_, fun j hj => ?_, fun j q hj hq => ⟨h.gel j hj hq, ?_⟩, fun q hq => ?_⟩, h.2⟩, hf.put hel ?_⟩
  · rw [mput_n (ne6 _ _ _ h.pu (Or.inl rfl))]; exact h.pu
  · rw [mput_n (ne6 _ _ _ (h.li j hj) (Or.inr rfl))]; exact h.li j hj
  · rcases h.1.2.2.1 j hj with h9 | ⟨a1, a2, a3⟩
    · exact Or.inl h9
    · exact Or.inr ⟨a1, by rw [mput_n (Ne.symm (ne_il hel a2))]; exact a2, a3⟩
  · by_cases e : j = i ∧ q = k
    · obtain ⟨rfl, rfl⟩ := e
      exact mput_s
    · have hne : el j q ≠ el i k := by
        intro e9
        by_cases e1 : j = i
        · subst e1
          exact e ⟨rfl, h.2.2.2.1 j q k hj hq hk e9⟩
        · have h1 := h.elm j q hj hq
          rw [e9, hel] at h1
          have h8 := Sum.inr.inj (Option.some.inj h1)
          have h7 : (elC E el (ksm K) ar i k).1 = (elC E el (ksm K) ar j q).1 := by rw [h8]
          revert h7 e1 hi hj
          clear h8 h1 e9
          have he1 : enC ar k = 2 ∨ enC ar k = 3 := by unfold enC; split <;> simp
          have he2 : enC ar q = 2 ∨ enC ar q = 3 := by unfold enC; split <;> simp
          intro hi hj e1 h7
          have hi4 : i = 0 ∨ i = 1 ∨ i = 2 ∨ i = 3 := by omega
          have hj4 : j = 0 ∨ j = 1 ∨ j = 2 ∨ j = 3 := by omega
          rcases hi4 with rfl | rfl | rfl | rfl <;> rcases hj4 with rfl | rfl | rfl | rfl <;> simp only [elC] at h7 <;> omega
      rw [mput_n hne, hs j q hj hq e]
      exact h.elm j q hj hq
  · rw [mput_n (Ne.symm (ne_il hel (h.sm hq)))]; exact h.sm hq
  · show decide ((elC E el (ksm K) ar i k).1 ≤ 6) = true
    exact decide_eq_true (by omega)
theorem PicP.stepAc (c k : Nat) (hc : 6 ≤ c ∧ c ≤ 10) (hk : k < cn 0) {v : Int32} (h : PicP E M p la el K cn lim ar) (hf : Fr kP M0 M) (hM : Mod z E (mput M (el 0 k) (.inr (1, acF el (ksm K) (va_up ar c (upd (ar c) k v)) k))) H) :
    ∃ M1 : MM, Mod z E M1 H ∧ PicP E M1 p la el K cn lim (va_up ar c (upd (ar c) k v)) ∧ Fr kP M0 M1 := by
  refine PicP.stepE 0 k (by decide) hk h hf (fun i' k' hi' hk' hn => ?_) hM
  have hi4 : i' = 0 ∨ i' = 1 ∨ i' = 2 ∨ i' = 3 := by omega
  have hc4 : c = 6 ∨ c = 7 ∨ c = 8 ∨ c = 9 ∨ c = 10 := by omega
  rcases hi4 with rfl | rfl | rfl | rfl
  · have hne : k' ≠ k := fun e => hn ⟨rfl, e⟩
    rcases hc4 with rfl | rfl | rfl | rfl | rfl <;> simp [elC, acF, abv, va_up, upd, hne]
  · rcases hc4 with rfl | rfl | rfl | rfl | rfl <;> simp [elC, enF, enC, va_up]
  · rcases hc4 with rfl | rfl | rfl | rfl | rfl <;> simp [elC, paF, va_up]
  · rcases hc4 with rfl | rfl | rfl | rfl | rfl <;> simp [elC, adF, va_up]
theorem PicP.stepPa (c k : Nat) (hc : 16 ≤ c ∧ c ≤ 17) (hk : k < cn 2) {v : Int32} (h : PicP E M p la el K cn lim ar) (hf : Fr kP M0 M) (hM : Mod z E (mput M (el 2 k) (.inr (4, paF E el (va_up ar c (upd (ar c) k v)) k))) H) :
    ∃ M1 : MM, Mod z E M1 H ∧ PicP E M1 p la el K cn lim (va_up ar c (upd (ar c) k v)) ∧ Fr kP M0 M1 := by
  refine PicP.stepE 2 k (by decide) hk h hf (fun i' k' hi' hk' hn => ?_) hM
  have hi4 : i' = 0 ∨ i' = 1 ∨ i' = 2 ∨ i' = 3 := by omega
  have hc4 : c = 16 ∨ c = 17 := by omega
  rcases hi4 with rfl | rfl | rfl | rfl
  · rcases hc4 with rfl | rfl <;> simp [elC, acF, abv, va_up]
  · rcases hc4 with rfl | rfl <;> simp [elC, enF, enC, va_up]
  · have hne : k' ≠ k := fun e => hn ⟨rfl, e⟩
    rcases hc4 with rfl | rfl <;> simp [elC, paF, va_up, upd, hne]
  · rcases hc4 with rfl | rfl <;> simp [elC, adF, va_up]
theorem PicP.stepAv (k : Nat) (hk : k < cn 3) {v : Int32} (h : PicP E M p la el K cn lim ar) (hf : Fr kP M0 M) (hM : Mod z E (mput M (el 3 k) (.inr (5, adF (va_up ar 21 (upd (ar 21) k v)) k))) H) :
    ∃ M1 : MM, Mod z E M1 H ∧ PicP E M1 p la el K cn lim (va_up ar 21 (upd (ar 21) k v)) ∧ Fr kP M0 M1 := by
  refine PicP.stepE 3 k (by decide) hk h hf (fun i' k' hi' hk' hn => ?_) hM
  have hi4 : i' = 0 ∨ i' = 1 ∨ i' = 2 ∨ i' = 3 := by omega
  rcases hi4 with rfl | rfl | rfl | rfl
  · simp [elC, acF, abv, va_up]
  · simp [elC, enF, enC, va_up]
  · simp [elC, paF, va_up]
  · have hne : k' ≠ k := fun e => hn ⟨rfl, e⟩
    simp [elC, adF, va_up, upd, hne]
/-- a write to the purse's own limit or open period -/
theorem PicP.stepPu {cn' : Nat → Nat} {lim' : Int32} (hc : ∀ i, i < 4 → cn' i = cn i) (h : PicP E M p la el K cn lim ar) (hf : Fr kP M0 M) (hM : Mod z E (mput M p (.inr (0, puF la lim' cn'))) H) :
    ∃ M1 : MM, Mod z E M1 H ∧ PicP E M1 p la el K cn' lim' ar ∧ Fr kP M0 M1 := by
  have hp := h.pu
  have hne : ∀ (q ci : Nat) (fs : List Value), M q = some (.inr (ci, fs)) → ci ≠ 0 → q ≠ p := by
    intro q ci fs hq h9 e
    rw [e, hp] at hq
    have h8 := Sum.inr.inj (Option.some.inj hq)
    exact h9 (congrArg Prod.fst h8).symm
  have e0 := hc 0 (by decide)
  refine ⟨_, hM, ⟨⟨mput_s, fun j hj => ?_, fun j hj => ?_, fun j q hj hq => ?_, fun q hq => ?_⟩, h.2.1, h.2.2.1, fun i k k' hi hk hk' => h.2.2.2.1 i k k' hi (by rw [← hc i hi]; exact hk) (by rw [← hc i hi]; exact hk'), fun k k' hk hk' => h.2.2.2.2 k k' (by rw [← e0]; exact hk) (by rw [← e0]; exact hk')⟩, hf.put hp rfl⟩
  · rw [mput_n (hne _ _ _ (h.li j hj) (by decide)), hc j hj]; exact h.li j hj
  · rw [hc j hj]
    rcases h.1.2.2.1 j hj with h9 | ⟨a1, a2, a3⟩
    · exact Or.inl h9
    · exact Or.inr ⟨a1, by rw [mput_n (Ne.symm (ne_il hp a2))]; exact a2, a3⟩
  · rw [hc j hj] at hq
    refine ⟨h.gel j hj hq, ?_⟩
    have h9 := elC_cls E el (ksm K) ar j q
    have hz : el j q ≠ p := hne _ (elC E el (ksm K) ar j q).1 (elC E el (ksm K) ar j q).2 (h.elm j q hj hq) (by omega)
    rw [mput_n hz]
    exact h.elm j q hj hq
  · rw [e0] at hq
    rw [mput_n (Ne.symm (ne_il hp (h.sm hq)))]; exact h.sm hq
/-- a write to the sums of account k -/
theorem PicP.stepSm (k : Nat) (hk : k < cn 0) {f : Nat → Int32} (h : PicP E M p la el K cn lim ar) (hf : Fr kP M0 M) (hM : Mod z E (mput M (ksm K k) (.inl (eI E, 13, .inl f))) H) :
    ∃ M1 : MM, Mod z E M1 H ∧ PicP E M1 p la el (kSc K (va_up (ksc K) k f)) cn lim ar ∧ Fr kP M0 M1 := by
  have hs := h.sm hk
  refine ⟨_, hM, ⟨⟨?_, fun j hj => ?_, fun j hj => ?_, fun j q hj hq => ⟨h.gel j hj hq, ?_⟩, fun q hq => ?_⟩, h.2⟩, hf.put hs rfl⟩
  · rw [mput_n (ne_il h.pu hs)]; exact h.pu
  · rw [mput_n (ne_il (h.li j hj) hs)]; exact h.li j hj
  · rcases h.1.2.2.1 j hj with h9 | ⟨a1, a2, a3⟩
    · exact Or.inl h9
    · have hne : kda K j ≠ ksm K k := by
        intro e
        rw [e, hs] at a2
        have h9 := congrArg (fun x : ClassId × vp_A => x.2.2) (Sum.inl.inj (Option.some.inj a2))
        cases h9
      exact Or.inr ⟨a1, (mput_n hne).trans a2, a3⟩
  · rw [mput_n (ne_il (h.elm j q hj hq) hs)]; exact h.elm j q hj hq
  · show mput M (ksm K k) _ (ksm K q) = some (.inl (eI E, 13, .inl (va_up (ksc K) k f q)))
    by_cases e : q = k
    · subst e
      rw [mput_s, va_up_self]
    · rw [mput_n (fun e9 => e (h.2.2.2.2 q k hq hk e9)), va_up_ne _ _ e]
      exact h.sm hq
/-- a new element b at the end of list i -/
theorem PicP.stepL (i b : Nat) (hi : i < 4) {M1 M2 : MM} {el' : Nat → Nat → Nat} {sm' : Nat → Nat} {sc' : Nat → Nat → Int32} {ar' : Nat → Nat → Int32} (h : PicP E M p la el K cn lim ar) (hx : Ext M M1) (hb0 : M b = none)
    (hel : el' = va_up el i (va_up (el i) (cn i) b)) (hb : M1 b = some (.inr (elC E el' sm' ar' i (cn i))))
    (hs : ∀ i' k', i' < 4 → k' < cn i' → elC E el' sm' ar' i' k' = elC E el (ksm K) ar i' k')
    (hsm : ∀ k, k < cUp cn i 0 → M1 (sm' k) = some (.inl (eI E, 13, .inl (sc' k)))) (hsi : ∀ k k', k < cUp cn i 0 → k' < cUp cn i 0 → sm' k = sm' k' → k = k')
    (hL : LAdd E M1 (la i) (cn i) (kda K i) (kfl K i) (kg K i) b M2) : ∃ K' : Kp, PicP E M2 p la el' K' (cUp cn i) lim ar' ∧ ksm K' = sm' ∧ ksc K' = sc' ∧ Fr kP M M2 := by
  obtain ⟨md', d', cap', g', l1, l2, l3, l4, l5, l6, l7, l8, l9⟩ := hL
  have h1 := h.ext hx
  have hd' : ∀ q e, M1 q = some e → q ≠ la i → (kfl K i = true → q ≠ kda K i) → M2 q = some e := by
    intro q e hq hn1 hn2
    refine l9 q e hn1 ?_ hq
    intro e9
    subst e9
    rcases l8 with ⟨c1, c2⟩ | c2
    · exact hn2 c1 c2
    · rw [hq] at c2; cases c2
  have hdi : kfl K i = true → M1 (kda K i) = some (cO E (kcp K i) (kg K i)) := by
    intro h9
    rcases h1.1.2.2.1 i hi with ⟨c1, -⟩ | ⟨-, c2, -⟩
    · rw [h9] at c1; cases c1
    · exact c2
  have keepO : ∀ (q : Nat) (x : Nat × List Value), M1 q = some (.inr x) → q ≠ la i → M2 q = some (.inr x) := fun q x hq hn => hd' q _ hq hn (fun hf => ne_il hq (hdi hf))
  have hob : ∀ (q : Nat) (x : Nat × List Value), M1 q = some (.inr x) → x.1 ≠ 6 → q ≠ la i := by
    intro q x hq hc e
    rw [e, h1.li i hi] at hq
    have h8 := Sum.inr.inj (Option.some.inj hq)
    exact hc (congrArg Prod.fst h8).symm
  have hcu : ∀ j, j ≠ i → cUp cn i j = cn j := fun j hj => va_up_ne _ _ hj
  have hci : cUp cn i i = cn i + 1 := va_up_self _ _ _
  have hci4 : cUp cn i 4 = cn 4 := hcu 4 (by omega)
  have hele : ∀ j k, j < 4 → k < cn j → el' j k = el j k := by
    intro j k hj hk
    rw [hel]
    by_cases e : j = i
    · subst e
      rw [va_up_self, va_up_ne _ _ (by omega)]
    · rw [va_up_ne _ _ e]
  have helb : el' i (cn i) = b := by rw [hel, va_up_self, va_up_self]
  have hcls := elC_cls E el' sm' ar' i (cn i)
  have hdne : ∀ j, j < 4 → j ≠ i → kfl K j = true → kda K j ≠ d' := by
    intro j hj hne hfj e
    have c3 : M1 (kda K j) = some (cO E (kcp K j) (kg K j)) := by
      rcases h1.1.2.2.1 j hj with ⟨c1, -⟩ | ⟨-, c2, -⟩
      · rw [hfj] at c1; cases c1
      · exact c2
    rcases l8 with ⟨c1, c2⟩ | c2
    · exact hne (h.2.2.1 j i hj hi hfj c1 (e.trans c2))
    · rw [← e, c3] at c2; cases c2
  refine ⟨(va_up (kda K) i d', va_up (kmd K) i md', va_up (kcp K) i cap', va_up (kfl K) i true, va_up (kg K) i g', sm', sc'), ⟨⟨?_, fun j hj => ?_, fun j hj => ?_, fun j k hj hk => ?_, fun k hk => ?_⟩, h.2.1, fun j j' hj hj' => ?_, fun j k k' hj hk hk' => ?_, hsi⟩, rfl, rfl, fun q e hq hk => ?_⟩
  · rw [keepO _ _ h1.pu (hob _ _ h1.pu (fun h9 : (0 : Nat) = 6 => absurd h9 (by decide)))]
    show (some (Sum.inr (0, [.ref (la 0), .ref (la 1), .ref (la 2), .ref (la 3), .int lim, .int (nI (cn 4))])) : Option va_E) = some (Sum.inr (0, [.ref (la 0), .ref (la 1), .ref (la 2), .ref (la 3), .int lim, .int (nI (cUp cn i 4))]))
    rw [hci4]
  · show M2 (la j) = some (.inr (6, [.int (va_up (kmd K) i md' j), .ref (va_up (kda K) i d' j), .int (nI (cUp cn i j))]))
    by_cases e : j = i
    · subst e
      rw [va_up_self, va_up_self, hci]
      exact l1
    · rw [va_up_ne _ _ e, va_up_ne _ _ e, hcu j e]
      exact keepO _ _ (h1.li j hj) (fun e9 => e (h.2.1 j i hj hi e9))
  · show (va_up (kfl K) i true j = false ∧ va_up (kda K) i d' j = eN E ∧ cUp cn i j = 0) ∨ (va_up (kfl K) i true j = true ∧ M2 (va_up (kda K) i d' j) = some (cO E (va_up (kcp K) i cap' j) (va_up (kg K) i g' j)) ∧ cUp cn i j ≤ va_up (kcp K) i cap' j ∧ 10 ≤ va_up (kcp K) i cap' j ∧ va_up (kcp K) i cap' j ≤ 400)
    by_cases e : j = i
    · subst e
      rw [va_up_self, va_up_self, va_up_self, va_up_self, hci]
      exact Or.inr ⟨rfl, l2, l3, l4, l5⟩
    · rw [va_up_ne _ _ e, va_up_ne _ _ e, va_up_ne _ _ e, va_up_ne _ _ e, hcu j e]
      rcases h1.1.2.2.1 j hj with h9 | ⟨a1, a2, a3⟩
      · exact Or.inl h9
      · exact Or.inr ⟨a1, l9 _ _ (fun e9 => ne_il (h1.li i hi) a2 e9.symm) (hdne j hj e a1) a2, a3⟩
  · show va_up (kg K) i g' j k = some (el' j k) ∧ M2 (el' j k) = some (.inr (elC E el' sm' ar' j k))
    by_cases e : j = i
    · subst e
      rw [hci] at hk
      rw [va_up_self]
      by_cases e2 : k = cn j
      · subst e2
        rw [helb]
        exact ⟨l7, keepO _ _ hb (hob _ _ hb (by omega))⟩
      · have hk2 : k < cn j := by omega
        rw [hele j k hj hk2, hs j k hj hk2]
        have h8 := elC_cls E el (ksm K) ar j k
        exact ⟨(l6 k hk2).trans (h.gel j hj hk2), keepO _ _ (h1.elm j k hj hk2) (hob _ _ (h1.elm j k hj hk2) (by omega))⟩
    · rw [hcu j e] at hk
      rw [va_up_ne _ _ e, hele j k hj hk, hs j k hj hk]
      have h8 := elC_cls E el (ksm K) ar j k
      exact ⟨h.gel j hj hk, keepO _ _ (h1.elm j k hj hk) (hob _ _ (h1.elm j k hj hk) (by omega))⟩
  · have h8 := hsm k hk
    refine hd' _ _ h8 (fun e9 => ne_il (h1.li i hi) h8 e9.symm) (fun hf e9 => ?_)
    have h7 := hdi hf
    rw [← e9] at h7
    have h6 := congrArg (fun x : ClassId × vp_A => x.2.2) (Sum.inl.inj (Option.some.inj (h7.symm.trans h8)))
    cases h6
  · show va_up (kfl K) i true j = true → va_up (kfl K) i true j' = true → va_up (kda K) i d' j = va_up (kda K) i d' j' → j = j'
    by_cases e : j = i
    · by_cases e' : j' = i
      · intro _ _ _
        rw [e, e']
      · subst e
        rw [va_up_ne _ _ e', va_up_self, va_up_ne _ _ e', va_up_self]
        intro _ hf he
        exact absurd he.symm (hdne j' hj' e' hf)
    · by_cases e' : j' = i
      · subst e'
        rw [va_up_ne _ _ e, va_up_self, va_up_ne _ _ e, va_up_self]
        intro hf _ he
        exact absurd he (hdne j hj e hf)
      · rw [va_up_ne _ _ e, va_up_ne _ _ e, va_up_ne _ _ e', va_up_ne _ _ e']
        exact h.2.2.1 j j' hj hj'
  · intro he
    by_cases e : j = i
    · subst e
      rw [hci] at hk hk'
      have nb : ∀ k9, k9 < cn j → el j k9 ≠ b := by
        intro k9 h9 e9
        have h8 := h.elm j k9 hj h9
        rw [e9, hb0] at h8
        cases h8
      by_cases e1 : k = cn j
      · by_cases e2 : k' = cn j
        · rw [e1, e2]
        · subst e1
          rw [helb, hele j k' hj (by omega)] at he
          exact absurd he.symm (nb k' (by omega))
      · by_cases e2 : k' = cn j
        · subst e2
          rw [helb, hele j k hj (by omega)] at he
          exact absurd he (nb k (by omega))
        · rw [hele j k hj (by omega), hele j k' hj (by omega)] at he
          exact h.2.2.2.1 j k k' hj (by omega) (by omega) he
    · rw [hcu j e] at hk hk'
      rw [hele j k hj hk, hele j k' hj hk'] at he
      exact h.2.2.2.1 j k k' hj hk hk' he
  · have hq1 := hx q e hq
    refine hd' q e hq1 (fun e9 => ?_) (fun hf e9 => ?_)
    · rw [e9, h1.li i hi] at hq1
      cases hq1
      cases hk
    · rw [e9, hdi hf] at hq1
      cases hq1
      cases hk
end
