/-! 061: the tokens of the component: numbers, times, places, signs -/
theorem lN_tI {a : Nat} (h : a < 2 ^ 63) : (lN a).toInt = (a : Int) := Int64.toInt_ofNat_of_lt h
theorem lN_ltI {a b : Nat} (ha : a < 2 ^ 63) (hb : b < 2 ^ 63) : lN a < lN b ↔ a < b := by rw [Int64.lt_iff_toInt_lt, lN_tI ha, lN_tI hb]; omega
theorem lN_leI {a b : Nat} (ha : a < 2 ^ 63) (hb : b < 2 ^ 63) : lN a ≤ lN b ↔ a ≤ b := by rw [Int64.le_iff_toInt_le, lN_tI ha, lN_tI hb]; omega
theorem lN_eqI {a b : Nat} (ha : a < 2 ^ 63) (hb : b < 2 ^ 63) : lN a = lN b ↔ a = b := by rw [← Int64.toInt_inj, lN_tI ha, lN_tI hb]; omega
/-- digits from a place on: their value, and where they end -/
def dgN (tx : Nat → Int32) (n b : Nat) : Nat → Nat → Nat → Nat × Nat
  | 0, a, v => (v, a)
  | f + 1, a, v => if dgt (pk tx n a) < nI b then dgN tx n b f (a + 1) (v * b + (dgt (pk tx n a)).toNatClampNeg) else (v, a)
theorem dgt_cases (c : Int32) : dgt c = 99 ∨ ∃ k, k < 16 ∧ dgt c = nI k := by
  unfold dgt
  split
  · rename_i h
    unfold isDg at h
    right
    have h := of_decide_eq_true h
    obtain ⟨j, hj, e⟩ := nI_of (x := c - 48) (by grind)
    refine ⟨j, ?_, e⟩
    have : nI j ≤ nI 9 := by rw [← e]; show c - 48 ≤ 9; grind
    rw [nI_leI hj (by decide)] at this
    omega
  · split
    · rename_i h
      right
      obtain ⟨j, hj, e⟩ := nI_of (x := grt c - 65 + 10) (by grind)
      refine ⟨j, ?_, e⟩
      have : nI j ≤ nI 15 := by rw [← e]; show grt c - 65 + 10 ≤ 15; grind
      rw [nI_leI hj (by decide)] at this
      omega
    · exact Or.inl rfl
/-- what the component keeps of a value of digits -/
def dgL (a v e : Nat) : Int64 := if e = a then -1 else lN (min v 2147483648)
theorem dgN_ge {tx : Nat → Int32} {n b : Nat} : ∀ f a v, a ≤ (dgN tx n b f a v).2 := by
  intro f
  induction f with
  | zero => intro a v; exact Nat.le_refl _
  | succ f ih =>
    intro a v
    unfold dgN
    split
    · exact Nat.le_trans (Nat.le_succ _) (ih _ _)
    · exact Nat.le_refl _
theorem dgt_m1 : dgt (-1) = 99 := by decide
theorem dgt_lt {tx : Nat → Int32} {n b a : Nat} (hb : b ≤ 16) (h : dgt (pk tx n a) < nI b) : a < n ∧ ∃ k, k < b ∧ dgt (pk tx n a) = nI k := by
  constructor
  · unfold pk at h
    split at h
    · assumption
    · rw [dgt_m1] at h
      have : nI 99 < nI b := h
      rw [nI_ltI (by decide) (by omega)] at this
      omega
  · rcases dgt_cases (pk tx n a) with q | ⟨k, hk, q⟩
    · rw [q] at h
      have : nI 99 < nI b := h
      rw [nI_ltI (by decide) (by omega)] at this
      omega
    · rw [q, nI_ltI (by omega) (by omega)] at h
      exact ⟨k, h, q⟩
theorem tk_digits_4 {w : Wd} {d : Nat} {Q : Int64 → Sg → Prop} {tx : Nat → Int32} {n b : Nat} (hd : 3 ≤ d) (hb : b ≤ 16) (hb1 : 1 ≤ b) : ∀ (f a v : Nat) (σ : Sg) (x : Int64), n + 1 ≤ a + f → TX σ tx n → σ.1 5 4 = nI a → a ≤ n → (if (0 : Int64) < x then x else 0) = lN (min v 2147483648) →
    (∀ y, (if (dgN tx n b f a v).2 = a then y = x else y = lN (min (dgN tx n b f a v).1 2147483648)) → Q y (wI σ 5 4 (nI (dgN tx n b f a v).2))) → Bk w d 0 0 m_Tokens_digits 0 0 (ql Q) 4 [oR 5, oI (nI b), oL x, none] [] σ := by
  intro f
  induction f with
  | zero => intro a v σ x hf hT ha hal hx h; omega
  | succ f ih =>
    intro a v σ x hf hT ha hal hx h
    have hn := hT.1
    refine v_Tokens_digits_4 _ _ _ (tk_peek (by omega) hT ha (k := 0) rfl (by omega) (tk_digit (by omega) ?_))
    rw [Nat.add_zero]
    refine ⟨fun h1 => ?_, fun h1 => tk_peek (by omega) hT ha (k := 0) rfl (by omega) (tk_digit (by omega) ?_)⟩
    · have e : dgN tx n b (f + 1) a v = (v, a) := by rw [dgN, if_neg (Int32.not_lt.mpr h1)]
      rw [e] at h
      have := h x (by rw [if_pos rfl])
      rw [wI_self ha] at this
      exact this
    · rw [Nat.add_zero, hx]
      have h2 := Int32.not_le.mp h1
      obtain ⟨hlt, k, hk, ek⟩ := dgt_lt hb h2
      have e : dgN tx n b (f + 1) a v = dgN tx n b f (a + 1) (v * b + k) := by rw [dgN, if_pos h2, ek, nI_clamp (by omega)]
      rw [e] at h
      have hge := dgN_ge (tx := tx) (n := n) (b := b) f (a + 1) (v * b + k)
      rw [ek, nI_l (by omega), nI_l (by omega), lN_mul, lN_add]
      have hm : min v 2147483648 * b ≤ 2147483648 * 16 := Nat.mul_le_mul (Nat.min_le_right _ _) hb
      have e2 : (if (2147483648 : Int64) < lN (min v 2147483648 * b + k) then 2147483648 else lN (min v 2147483648 * b + k)) = lN (min (v * b + k) 2147483648) := by
        have e3 : (2147483648 : Int64) = lN 2147483648 := rfl
        simp only [e3, lN_ltI (show 2147483648 < 2 ^ 63 by decide) (show min v 2147483648 * b + k < 2 ^ 63 by omega)]
        have hv : v ≤ v * b := Nat.le_mul_of_pos_right _ hb1
        by_cases hc : v ≤ 2147483648
        · rw [Nat.min_eq_left hc]
          split
          · rw [Nat.min_eq_right (by omega)]
          · rw [Nat.min_eq_left (by omega)]
        · rw [Nat.min_eq_right (a := v) (by omega), Nat.min_eq_right (a := v * b + k) (by omega)]
          have : 2147483648 ≤ 2147483648 * b := Nat.le_mul_of_pos_right _ hb1
          split
          · rfl
          · congr 1; omega
      rw [e2]
      refine ih (a + 1) (v * b + k) _ _ (by omega) (hT.w5 (by decide)) (by rw [wI_1, if_pos ⟨rfl, rfl⟩, ha, nI_1]) (by omega) ?_ (fun y hy => ?_)
      · have e3 : (0 : Int64) = lN 0 := rfl
        simp only [e3, lN_ltI (show 0 < 2 ^ 63 by decide) (show min (v * b + k) 2147483648 < 2 ^ 63 by omega)]
        split
        · rfl
        · congr 1; omega
      · rw [wI_wI]
        refine h y ?_
        rw [if_neg (by omega)]
        split at hy
        · rename_i hq
          rw [hy]
          have : (dgN tx n b f (a + 1) (v * b + k)).1 = v * b + k := by
            cases f with
            | zero => rfl
            | succ f =>
              unfold dgN at hq ⊢
              split
              · rename_i hc
                rw [if_pos hc] at hq
                have := dgN_ge (tx := tx) (n := n) (b := b) f (a + 1 + 1) ((v * b + k) * b + (dgt (pk tx n (a + 1))).toNatClampNeg)
                omega
              · rfl
          rw [this]
        · exact hy
theorem tk_digits {w : Wd} {d : Nat} {Q : Int64 → Sg → Prop} {tx : Nat → Int32} {n b a : Nat} {σ : Sg} {x : Int32} (hx : x = nI b) (hd : 4 ≤ d) (hb : b ≤ 16) (hb1 : 1 ≤ b) (hT : TX σ tx n) (ha : σ.1 5 4 = nI a) (hal : a ≤ n)
    (h : Q (dgL a (dgN tx n b (n + 1) a 0).1 (dgN tx n b (n + 1) a 0).2) (wI σ 5 4 (nI (dgN tx n b (n + 1) a 0).2))) : OkL w d m_Tokens_digits [vR 5, vI x] σ Q := by
  subst hx
  refine v_Tokens_digits _ _ (by omega) (tk_digits_4 (by omega) hb hb1 (n + 1) a 0 σ _ (by omega) hT ha hal (by decide) (fun y hy => ?_))
  have : y = dgL a (dgN tx n b (n + 1) a 0).1 (dgN tx n b (n + 1) a 0).2 := by
    unfold dgL
    split <;> rename_i q
    · rw [if_pos q] at hy; exact hy
    · rw [if_neg q] at hy; exact hy
  rw [this]; exact h
theorem lg_lt {x y : Int64} : lg_cmp x y < 0 ↔ x < y := by
  unfold lg_cmp
  grind
theorem lg_le {x y : Int64} : lg_cmp x y ≤ 0 ↔ x ≤ y := by
  unfold lg_cmp
  grind
theorem lg_gt {x y : Int64} : 0 < lg_cmp x y ↔ y < x := by
  unfold lg_cmp
  grind
theorem lg_eq {x y : Int64} : lg_cmp x y = 0 ↔ x = y := by
  unfold lg_cmp
  grind
theorem tk_take {w : Wd} {d : Nat} {Q : Sg → Prop} {tx : Nat → Int32} {n a : Nat} {σ : Sg} {x : Int64} (hd : 4 ≤ d) (hT : TX σ tx n) (ha : σ.1 5 4 = nI a) (hal : a ≤ n + 8)
    (h : if x < 0 ∨ 2147483647 < x ∨ isPt (pk tx n a) = true then Q (wI (wI σ 5 8 4) 5 5 0) else Q (wI (wI σ 5 5 3) 5 7 x.toInt32)) : OkV w d m_Tokens_take [vR 5, vL x] σ Q := by
  have hn := hT.1
  refine v_Tokens_take _ _ (by omega) ?_
  rw [lg_lt, lg_gt]
  refine ⟨fun h1 => tk_fail (by omega) ?_, fun h1 => ⟨fun h2 => tk_fail (by omega) ?_, fun h2 => tk_peek (by omega) hT ha (k := 0) rfl (by omega) (tk_isPart (by omega) ⟨fun h3 => ?_, fun h3 => tk_fail (by omega) ?_⟩)⟩⟩
  · rw [if_pos (Or.inl h1)] at h; exact h
  · rw [if_pos (Or.inr (Or.inl h2))] at h; exact h
  · have h4 : isPt (pk tx n a) ≠ true := by
      intro q
      rw [Nat.add_zero, q] at h3
      exact absurd h3 (by decide)
    rw [if_neg (by rintro (q | q | q) <;> contradiction)] at h; exact h
  · have h4 : isPt (pk tx n a) = true := by
      cases q : isPt (pk tx n a) with
      | true => rfl
      | false => rw [Nat.add_zero, q] at h3; exact absurd rfl h3
    rw [if_pos (Or.inr (Or.inr h4))] at h; exact h
