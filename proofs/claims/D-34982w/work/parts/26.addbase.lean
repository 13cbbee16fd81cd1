/-! NEW ELEMENTS of the purse's lists, in the reference's numbers; the sums -/
/-- what the entries so far make of account k in period t -/
def sE (ar : Nat → Nat → Int32) (k t : Nat) : Nat → Int32
  | 0 => 0
  | n + 1 => sE ar k t n + (if ar 1 n = nI t then (if und (ar 0) (ar 2 n) (nI k) = true then ar 4 n else 0) - (if und (ar 0) (ar 3 n) (nI k) = true then ar 4 n else 0) else 0)
def Sm (K : Kp) (cn : Nat → Nat) (ar : Nat → Nat → Int32) : Prop := ∀ k, k < cn 0 → ∀ t, t < 13 → ksc K k t = sE ar k t (cn 1)
section
variable {z : Nat} {E : EE} {M M0 M1 M2 : MM} {H : Heap} {p : Nat} {la : Nat → Nat} {el : Nat → Nat → Nat} {K : Kp} {cn : Nat → Nat} {lim : Int32} {ar : Nat → Nat → Int32}
theorem PicP.addAv {b : Nat} {ps am : Int32} (hW : WF cn lim ar) (h : PicP E M p la el K cn lim ar) (hx : Ext M M1) (hb0 : M b = none) (hb : M1 b = some (.inr (5, [.int ps, .int am, .int 0]))) (hL : LAdd E M1 (la 3) (cn 3) (kda K 3) (kfl K 3) (kg K 3) b M2) :
    ∃ K' : Kp, PicP E M2 p la (va_up el 3 (va_up (el 3) (cn 3) b)) K' (cUp cn 3) lim (va_up (va_up ar 19 (upd (ar 19) (cn 3) ps)) 20 (upd (ar 20) (cn 3) am)) ∧ ksc K' = ksc K ∧ Fr kP M M2 := by
  have h21 : ar 21 (cn 3) = 0 := (hW.ad (cn 3)).2 (Nat.le_refl _)
  obtain ⟨K', a1, a2, a3, a4⟩ := PicP.stepL (sm' := ksm K) (sc' := ksc K) (ar' := va_up (va_up ar 19 (upd (ar 19) (cn 3) ps)) 20 (upd (ar 20) (cn 3) am)) 3 b (by decide) h hx hb0 rfl (by
      rw [hb]
      simp [elC, adF, va_up, pk_us, h21]) (fun i' k' hi' hk' => by
      have hi4 : i' = 0 ∨ i' = 1 ∨ i' = 2 ∨ i' = 3 := by omega
      rcases hi4 with rfl | rfl | rfl | rfl
      · simp [elC, acF, abv, va_up]
      · simp [elC, enF, enC, va_up]
      · simp [elC, paF, va_up]
      · have hne : k' ≠ cn 3 := by omega
        simp [elC, adF, va_up, upd, hne]) (fun k hk => hx _ _ (h.sm hk)) (fun k k' hk hk' => h.2.2.2.2 k k' hk hk') hL
  exact ⟨K', a1, a3, a4⟩
theorem PicP.addPa {b j : Nat} {py am ps : Int32} (hW : WF cn lim ar) (h : PicP E M p la el K cn lim ar) (hj : j < cn 0) (hx : Ext M M1) (hb0 : M b = none) (hb : M1 b = some (.inr (4, [.ref (el 0 j), .int py, .int am, .int ps, .int (nI (cn 4)), .ref (eR E 0), .int 0]))) (hL : LAdd E M1 (la 2) (cn 2) (kda K 2) (kfl K 2) (kg K 2) b M2) :
    ∃ K' : Kp, PicP E M2 p la (va_up el 2 (va_up (el 2) (cn 2) b)) K' (cUp cn 2) lim (rPrepare cn ar (nI j) py am ps) ∧ ksc K' = ksc K ∧ Fr kP M M2 := by
  have hwb := hW.b
  obtain ⟨h16, h17⟩ := hW.pz (i := cn 2) (Nat.le_refl _)
  have hnj : nx (nI j) = j := nI_clamp (by omega)
  have hn0 : nx 0 = 0 := by decide
  obtain ⟨K', a1, a2, a3, a4⟩ := PicP.stepL (sm' := ksm K) (sc' := ksc K) (ar' := rPrepare cn ar (nI j) py am ps) 2 b (by decide) h hx hb0 rfl (by
      rw [hb]
      simp [elC, paF, rPrepare, va_up, pk_us, h16, h17, hnj, hn0]) (fun i' k' hi' hk' => by
      have hi4 : i' = 0 ∨ i' = 1 ∨ i' = 2 ∨ i' = 3 := by omega
      rcases hi4 with rfl | rfl | rfl | rfl
      · simp [elC, acF, abv, rPrepare, va_up]
      · simp [elC, enF, enC, rPrepare, va_up]
      · have hne : k' ≠ cn 2 := by omega
        simp [elC, paF, rPrepare, va_up, upd, hne]
      · simp [elC, adF, rPrepare, va_up]) (fun k hk => hx _ _ (h.sm hk)) (fun k k' hk hk' => h.2.2.2.2 k k' hk hk') hL
  exact ⟨K', a1, a3, a4⟩
theorem PicP.addEn {b ci i j : Nat} {late am : Int32} (hW : WF cn lim ar) (h : PicP E M p la el K cn lim ar) (hi : i < cn 0) (hj : j < cn 0) (hx : Ext M M1) (hb0 : M b = none) (hc : ci = if late = 1 then 2 else 3) (hb : M1 b = some (.inr (ci, [.int (nI (cn 4)), .ref (el 0 i), .ref (el 0 j), .int am]))) (hL : LAdd E M1 (la 1) (cn 1) (kda K 1) (kfl K 1) (kg K 1) b M2) :
    ∃ K' : Kp, PicP E M2 p la (va_up el 1 (va_up (el 1) (cn 1) b)) K' (cUp cn 1) lim (rEnters cn ar late (nI i) (nI j) am) ∧ ksc K' = ksc K ∧ Fr kP M M2 := by
  have hwb := hW.b
  have hni : nx (nI i) = i := nI_clamp (by omega)
  have hnj : nx (nI j) = j := nI_clamp (by omega)
  obtain ⟨K', a1, a2, a3, a4⟩ := PicP.stepL (sm' := ksm K) (sc' := ksc K) (ar' := rEnters cn ar late (nI i) (nI j) am) 1 b (by decide) h hx hb0 rfl (by
      rw [hb]
      simp [elC, enF, enC, rEnters, va_up, pk_us, hni, hnj, hc]) (fun i' k' hi' hk' => by
      have hi4 : i' = 0 ∨ i' = 1 ∨ i' = 2 ∨ i' = 3 := by omega
      rcases hi4 with rfl | rfl | rfl | rfl
      · simp [elC, acF, abv, rEnters, va_up]
      · have hne : k' ≠ cn 1 := by omega
        simp [elC, enF, enC, rEnters, va_up, upd, hne]
      · simp [elC, paF, rEnters, va_up]
      · simp [elC, adF, rEnters, va_up]) (fun k hk => hx _ _ (h.sm hk)) (fun k k' hk hk' => h.2.2.2.2 k k' hk hk') hL
  exact ⟨K', a1, a3, a4⟩
theorem PicP.addAc {b q : Nat} {av : Value} {v : Int32} (hW : WF cn lim ar) (h : PicP E M p la el K cn lim ar) (hav : (v = -1 ∧ av = .null) ∨ ∃ j : Nat, j < cn 0 ∧ v = nI j ∧ av = .ref (el 0 j)) (hx : Ext M M1) (hb0 : M b = none) (hq0 : M q = none) (hq : M1 q = some (.inl (eI E, 13, .inl (fun _ => 0)))) (hb : M1 b = some (.inr (1, [av, .ref q, .int 0, .int 0, .int 0, .int 0, .int 0]))) (hL : LAdd E M1 (la 0) (cn 0) (kda K 0) (kfl K 0) (kg K 0) b M2) :
    ∃ K' : Kp, PicP E M2 p la (va_up el 0 (va_up (el 0) (cn 0) b)) K' (cUp cn 0) lim (rAddAccount cn ar v) ∧ ksc K' = va_up (ksc K) (cn 0) (fun _ => 0) ∧ Fr kP M M2 := by
  have hwb := hW.b
  obtain ⟨h6, h7, h8, h9, h10⟩ := (hW.bu (cn 0)).2 (Nat.le_refl _)
  have hc0 : cUp cn 0 0 = cn 0 + 1 := va_up_self _ _ _
  have hnx : ∀ j : Nat, j < 14 → nx (nI j) = j := fun j hj => nI_clamp (by omega)
  obtain ⟨K', a1, a2, a3, a4⟩ := PicP.stepL (sm' := va_up (ksm K) (cn 0) q) (sc' := va_up (ksc K) (cn 0) (fun _ => 0)) (ar' := rAddAccount cn ar v) 0 b (by decide) h hx hb0 rfl (by
      rw [hb]
      rcases hav with ⟨rfl, rfl⟩ | ⟨j, hj, rfl, rfl⟩
      · simp [elC, acF, abv, rAddAccount, va_up, pk_us, h6, h7, h8, h9, h10]
      · have hne : j ≠ cn 0 := by omega
        have hm : ¬ nI j = -1 := nI_nm1 (by omega)
        simp [elC, acF, abv, rAddAccount, va_up, pk_us, h6, h7, h8, h9, h10, hm, hnx j (by omega), hne]) (fun i' k' hi' hk' => by
      have hi4 : i' = 0 ∨ i' = 1 ∨ i' = 2 ∨ i' = 3 := by omega
      rcases hi4 with rfl | rfl | rfl | rfl
      · have hne : k' ≠ cn 0 := by omega
        rcases hW.ab hk' with h1 | ⟨j, hj, h1⟩
        · simp [elC, acF, abv, rAddAccount, va_up, upd, hne, h1]
        · have hne2 : j ≠ cn 0 := by omega
          simp [elC, acF, abv, rAddAccount, va_up, upd, hne, h1, hnx j (by omega), hne2]
      · obtain ⟨⟨x, hx1, ex⟩, ⟨y, hy1, ey⟩, -⟩ := hW.en hk'
        have hne : x ≠ cn 0 := by omega
        have hne2 : y ≠ cn 0 := by omega
        simp [elC, enF, enC, rAddAccount, va_up, ex, ey, hnx x (by omega), hnx y (by omega), hne, hne2]
      · obtain ⟨⟨x, hx1, ex⟩, -⟩ := hW.pa hk'
        have hne : x ≠ cn 0 := by omega
        simp [elC, paF, rAddAccount, va_up, ex, hnx x (by omega), hne]
      · simp [elC, adF, rAddAccount, va_up]) (fun k hk => by
      rw [hc0] at hk
      by_cases e : k = cn 0
      · subst e
        rw [va_up_self, va_up_self]
        exact hq
      · rw [va_up_ne _ _ e, va_up_ne _ _ e]
        exact hx _ _ (h.sm (by omega))) (fun k k' hk hk' => by
      rw [hc0] at hk hk'
      have nq : ∀ i, i < cn 0 → ksm K i ≠ q := fun i hi => ne_new (h.sm hi) hq0
      by_cases e : k = cn 0
      · by_cases e' : k' = cn 0
        · intro _
          rw [e, e']
        · rw [e, va_up_self, va_up_ne _ _ e']
          intro h9
          exact absurd h9.symm (nq k' (by omega))
      · by_cases e' : k' = cn 0
        · rw [e', va_up_self, va_up_ne _ _ e]
          intro h9
          exact absurd h9 (nq k (by omega))
        · rw [va_up_ne _ _ e, va_up_ne _ _ e']
          exact h.2.2.2.2 k k' (by omega) (by omega)) hL
  exact ⟨K', a1, a3, a4⟩
end
/-- under, with an account more -/
theorem undF_cong {ab ab' : Nat → Int32} {n : Nat} {top : Int32} (hn : n ≤ 14) (hab : ∀ i, i < n → ab i = -1 ∨ ∃ j : Nat, j < i ∧ ab i = nI j) (he : ∀ i, i < n → ab' i = ab i) : ∀ (f k : Nat), k < n → undF ab' top f (nI k) = undF ab top f (nI k) := by
  intro f
  induction f with
  | zero => intro k hk; rfl
  | succ f ih =>
    intro k hk
    by_cases e : nI k = top
    · rw [undF_eq (by omega) e, undF_eq (by omega) e]
    · rw [undF_up (by omega) e, undF_up (by omega) e, he k hk]
      rcases hab k hk with h | ⟨j, hj, h⟩
      · rw [h]
        cases f with
        | zero => rfl
        | succ f => rw [undF_m1, undF_m1]
      · rw [h]
        exact ih j (by omega)
theorem und_cong {cn : Nat → Nat} {lim : Int32} {ar : Nat → Nat → Int32} {ab' : Nat → Int32} (hW : WF cn lim ar) (he : ∀ i, i < cn 0 → ab' i = ar 0 i) {k : Nat} (hk : k < cn 0) (top : Int32) : und ab' (nI k) top = und (ar 0) (nI k) top :=
  undF_cong (n := cn 0) hW.b.2.1 (fun i hi => hW.ab hi) he 15 k hk
theorem sE_cong {ar ar' : Nat → Nat → Int32} {k t : Nat} (h0 : ar' 0 = ar 0) (n : Nat) (h : ∀ i, i < n → ar' 1 i = ar 1 i ∧ ar' 2 i = ar 2 i ∧ ar' 3 i = ar 3 i ∧ ar' 4 i = ar 4 i) : sE ar' k t n = sE ar k t n := by
  induction n with
  | zero => rfl
  | succ n ih =>
    obtain ⟨a1, a2, a3, a4⟩ := h n (Nat.lt_succ_self n)
    show sE ar' k t n + _ = sE ar k t n + _
    rw [ih (fun i hi => h i (Nat.lt_succ_of_lt hi)), a1, a2, a3, a4, h0]
/-- nothing of an entry or an account is touched: the sums stay right -/
theorem Sm.same {K K' : Kp} {cn cn' : Nat → Nat} {ar ar' : Nat → Nat → Int32} (h : Sm K cn ar) (hk : ksc K' = ksc K) (c0 : cn' 0 = cn 0) (c1 : cn' 1 = cn 1) (h0 : ar' 0 = ar 0) (h1 : ar' 1 = ar 1) (h2 : ar' 2 = ar 2) (h3 : ar' 3 = ar 3) (h4 : ar' 4 = ar 4) : Sm K' cn' ar' := by
  intro k hk9 t ht
  rw [c0] at hk9
  rw [hk, c1, h k hk9 t ht, sE_cong h0 (cn 1) (fun i _ => ⟨by rw [h1], by rw [h2], by rw [h3], by rw [h4]⟩)]
theorem Sm.acc {K K' : Kp} {cn : Nat → Nat} {lim v : Int32} {ar : Nat → Nat → Int32} (hW : WF cn lim ar) (h : Sm K cn ar) (hk : ksc K' = va_up (ksc K) (cn 0) (fun _ => 0)) : Sm K' (cUp cn 0) (rAddAccount cn ar v) := by
  have hwb := hW.b
  have he : ∀ i, i < cn 0 → (rAddAccount cn ar v) 0 i = ar 0 i := fun i hi => by
    show upd (ar 0) (cn 0) v i = ar 0 i
    exact pk_un (by omega)
  intro k hk9 t ht
  have hk0 : k < cn 0 + 1 := by
    have h9 : cUp cn 0 0 = cn 0 + 1 := va_up_self _ _ _
    omega
  have hc1 : cUp cn 0 1 = cn 1 := va_up_ne _ _ (by decide)
  rw [hk, hc1]
  have hstep : ∀ n, n ≤ cn 1 → sE (rAddAccount cn ar v) k t n = if k = cn 0 then 0 else sE ar k t n := by
    intro n
    induction n with
    | zero =>
      intro _
      by_cases e : k = cn 0
      · rw [if_pos e]; rfl
      · rw [if_neg e]; rfl
    | succ n ih =>
      intro hn
      obtain ⟨⟨a, ha, ea⟩, ⟨b, hb, eb⟩, -⟩ := hW.en (i := n) (by omega)
      show sE (rAddAccount cn ar v) k t n + (if ar 1 n = nI t then (if und ((rAddAccount cn ar v) 0) (ar 2 n) (nI k) = true then ar 4 n else 0) - (if und ((rAddAccount cn ar v) 0) (ar 3 n) (nI k) = true then ar 4 n else 0) else 0) = _
      rw [ih (by omega), ea, eb, und_cong hW he ha, und_cong hW he hb]
      by_cases e : k = cn 0
      · rw [if_pos e, if_pos e, e]
        have u : ∀ x, x < cn 0 → und (ar 0) (nI x) (nI (cn 0)) = false := fun x hx => und_over hW hx
        rw [u a ha, u b hb]
        simp
      · rw [if_neg e, if_neg e]
        show _ = sE ar k t n + (if ar 1 n = nI t then (if und (ar 0) (ar 2 n) (nI k) = true then ar 4 n else 0) - (if und (ar 0) (ar 3 n) (nI k) = true then ar 4 n else 0) else 0)
        rw [ea, eb]
  rw [hstep (cn 1) (Nat.le_refl _)]
  by_cases e : k = cn 0
  · rw [if_pos e, e, va_up_self]
  · rw [if_neg e, va_up_ne _ _ e]
    exact h k (by omega) t ht
theorem Sm.ent {K K' : Kp} {cn : Nat → Nat} {lim late am : Int32} {ar : Nat → Nat → Int32} {i j : Nat} (hW : WF cn lim ar) (h : Sm K cn ar) (h13 : cn 4 < 13) (hk : ∀ k, k < cn 0 → ∀ t, ksc K' k t = ksc K k t + gain ar i k t (cn 4) am + gain ar j k t (cn 4) (-am)) : Sm K' (cUp cn 1) (rEnters cn ar late (nI i) (nI j) am) := by
  intro k hk9 t ht
  have hk0 : k < cn 0 := hk9
  have hc1 : cUp cn 1 1 = cn 1 + 1 := va_up_self _ _ _
  rw [hc1]
  show _ = sE (rEnters cn ar late (nI i) (nI j) am) k t (cn 1) + (if upd (ar 1) (cn 1) (nI (cn 4)) (cn 1) = nI t then (if und (ar 0) (upd (ar 2) (cn 1) (nI i) (cn 1)) (nI k) = true then upd (ar 4) (cn 1) am (cn 1) else 0) - (if und (ar 0) (upd (ar 3) (cn 1) (nI j) (cn 1)) (nI k) = true then upd (ar 4) (cn 1) am (cn 1) else 0) else 0)
  rw [pk_us, pk_us, pk_us, pk_us, hk k hk0 t, h k hk0 t ht, sE_cong (ar := ar) (ar' := rEnters cn ar late (nI i) (nI j) am) rfl (cn 1) (fun q hq => ⟨pk_un (Nat.ne_of_lt hq), pk_un (Nat.ne_of_lt hq), pk_un (Nat.ne_of_lt hq), pk_un (Nat.ne_of_lt hq)⟩)]
  unfold gain
  by_cases e : t = cn 4
  · subst e
    cases hu : und (ar 0) (nI i) (nI k) <;> cases hv : und (ar 0) (nI j) (nI k) <;> simp [Int32.add_assoc, Int32.sub_eq_add_neg, Int32.add_right_neg]
  · have hne : ¬ nI (cn 4) = nI t := fun h9 => e ((nI_eq (by omega) (by omega)).mp h9).symm
    simp [e, hne]
