/-! 072: the reference's numbers and times -/
/-- what the reference keeps of a value of digits -/
def dgM (a v e : Nat) : Int64 := if e = a then -1 else lN (min v 100000000000000000)
theorem dgM_lt {a v e : Nat} : dgM a v e < 0 ↔ e = a := by
  unfold dgM
  split
  · rename_i h; exact ⟨fun _ => h, fun _ => by decide⟩
  · rename_i h
    have e0 : (0 : Int64) = lN 0 := rfl
    rw [e0, lN_ltI (by omega) (by decide)]
    omega
theorem dgM_gt {a v e k : Nat} (hk : k < 2147483648) : lN k < dgM a v e ↔ ¬ e = a ∧ k < v := by
  unfold dgM
  split
  · rename_i h
    refine ⟨fun q => ?_, fun q => absurd h q.1⟩
    exfalso
    rw [Int64.lt_iff_toInt_lt, lN_tI (by omega)] at q
    have : (-1 : Int64).toInt = -1 := by decide
    omega
  · rename_i h
    rw [lN_ltI (by omega) (by omega)]
    omega
theorem dgM_eq {a v e k : Nat} (hk : k < 2147483648) : dgM a v e = lN k ↔ ¬ e = a ∧ v = k := by
  unfold dgM
  split
  · rename_i h
    refine ⟨fun q => ?_, fun q => absurd h q.1⟩
    exfalso
    have q := congrArg Int64.toInt q
    rw [lN_tI (by omega)] at q
    have : (-1 : Int64).toInt = -1 := by decide
    omega
  · rename_i h
    rw [lN_eqI (by omega) (by omega)]
    omega
theorem dgM_32 {a v e : Nat} (h : ¬ e = a) (hv : v ≤ 2147483648) : (dgM a v e).toInt32 = nI v := by
  unfold dgM
  rw [if_neg h, Nat.min_eq_left (by omega), lN_i]
theorem mk_digits_9 {w : Wd} {d : Nat} {Q : Int64 → Sg → Prop} {tx : Nat → Int32} {n b : Nat} (hd : 4 ≤ d) (hb : b ≤ 16) (hb1 : 1 ≤ b) : ∀ (f a v : Nat) (σ : Sg) (x : Int64), n + 1 ≤ a + f → MX σ tx n → σ.1 81 8 = nI a → a ≤ n → (x = -1 ∧ v = 0 ∨ x = lN (min v 100000000000000000)) →
    (∀ y, (if (dgN tx n b f a v).2 = a then y = x else y = lN (min (dgN tx n b f a v).1 100000000000000000)) → Q y (wI σ 81 8 (nI (dgN tx n b f a v).2))) → Bk w d 0 0 m_M_digits 0 0 (ql Q) 9 [oR 81, none, oI (nI b), oL x, none] [] σ := by
  intro f
  induction f with
  | zero => intro a v σ x hf hT ha hal hx h; omega
  | succ f ih =>
    intro a v σ x hf hT ha hal hx h
    have hn := hT.1
    refine v_M_digits_9 _ _ _ (mk_great (by omega) hT ha (by omega) (mk_digit (by omega) rfl ?_))
    refine ⟨fun h1 => ?_, fun h1 => ?_⟩
    · have e : dgN tx n b (f + 1) a v = (v, a) := by rw [dgN, if_neg (Int32.not_lt.mpr h1)]
      rw [e] at h
      have := h x (by rw [if_pos rfl])
      rw [wI_self ha] at this
      exact this
    · have h2 := Int32.not_le.mp h1
      obtain ⟨hlt, k, hk, ek⟩ := dgt_lt hb h2
      have e : dgN tx n b (f + 1) a v = dgN tx n b f (a + 1) (v * b + k) := by rw [dgN, if_pos h2, ek, nI_clamp (by omega)]
      rw [e] at h
      have hge := dgN_ge (tx := tx) (n := n) (b := b) f (a + 1) (v * b + k)
      have hm : min v 100000000000000000 * b ≤ 100000000000000000 * 16 := Nat.mul_le_mul (Nat.min_le_right _ _) hb
      have go : ∀ y, y = lN (min (v * b + k) 100000000000000000) → Bk w d 0 0 m_M_digits 0 0 (ql Q) 9 [oR 81, none, oI (nI b), oL y, none] [] (wI σ 81 8 (σ.1 81 8 + 1)) := by
        intro y hy
        refine ih (a + 1) (v * b + k) _ _ (by omega) (hT.w (by decide)) (by rw [wI_1, if_pos ⟨rfl, rfl⟩, ha, nI_1]) (by omega) (Or.inr hy) (fun z hz => ?_)
        rw [wI_wI]
        refine h z ?_
        rw [if_neg (by omega)]
        split at hz
        · rename_i hq
          rw [hz, hy]
          have : (dgN tx n b f (a + 1) (v * b + k)).1 = v * b + k := by
            cases f with
            | zero => rfl
            | succ f =>
              unfold dgN at hq ⊢
              split
              · rename_i hc
                rw [if_pos hc] at hq
                have := dgN_ge (tx := tx) (n := n) (b := b) f (a + 1 + 1) ((v * b + k) * b + (dgt (pk tx n (a + 1))).toNatClampNeg)
                omega
              · rfl
          rw [this]
        · exact hz
      have step : ∀ u, u = min v 100000000000000000 → ((lg_cmp (lN (u * b + k)) 100000000000000000 ≤ 0 → Bk w d 0 0 m_M_digits 0 0 (ql Q) 9 [oR 81, none, oI (nI b), oL (lN (u * b + k)), none] [] (wI σ 81 8 (σ.1 81 8 + 1))) ∧ (¬ lg_cmp (lN (u * b + k)) 100000000000000000 ≤ 0 → Bk w d 0 0 m_M_digits 0 0 (ql Q) 9 [oR 81, none, oI (nI b), oL 100000000000000000, none] [] (wI σ 81 8 (σ.1 81 8 + 1)))) := by
        intro u hu
        have e3 : (100000000000000000 : Int64) = lN 100000000000000000 := rfl
        have hv : v ≤ v * b := Nat.le_mul_of_pos_right _ hb1
        subst hu
        rw [e3, lg_le, lN_leI (by omega) (by omega)]
        by_cases hc : v ≤ 100000000000000000
        · rw [Nat.min_eq_left hc]
          exact ⟨fun q => go _ (by rw [Nat.min_eq_left q]), fun q => go _ (by rw [Nat.min_eq_right (by omega)])⟩
        · rw [Nat.min_eq_right (a := v) (by omega)]
          have : 100000000000000000 ≤ 100000000000000000 * b := Nat.le_mul_of_pos_right _ hb1
          exact ⟨fun q => go _ (by rw [Nat.min_eq_right (by omega)]; congr 1; omega), fun q => go _ (by rw [Nat.min_eq_right (by omega)])⟩
      have e0 : (0 : Int64) = lN 0 := rfl
      have ge0 : 0 ≤ lg_cmp x 0 ↔ ¬ x < 0 := by rw [← lg_lt, Int32.not_lt]
      rw [ge0]
      refine ⟨fun h3 => mk_great (by omega) hT ha (by omega) (mk_digit (by omega) rfl ?_), fun h3 => mk_great (by omega) hT ha (by omega) (mk_digit (by omega) rfl ?_)⟩
      · rcases hx with hx | hx
        · rw [hx.1] at h3; exact absurd (by decide) h3
        · rw [hx, ek, nI_l (by omega), nI_l (by omega), lN_mul, lN_add]
          exact step _ rfl
      · rcases hx with hx | hx
        · rw [e0, ek, nI_l (by omega), nI_l (by omega), lN_mul, lN_add]
          exact step 0 (by rw [hx.2]; rfl)
        · exfalso
          apply h3
          rw [hx, e0, lN_ltI (by omega) (by decide)]
          omega
theorem mk_digits {w : Wd} {d : Nat} {Q : Int64 → Sg → Prop} {tx : Nat → Int32} {n b a : Nat} {σ : Sg} {x y : Int32} (hy : y = nI a) (hx : x = nI b) (hd : 4 ≤ d) (hb : b ≤ 16) (hb1 : 1 ≤ b) (hT : MX σ tx n) (hal : a ≤ n)
    (h : Q (dgM a (dgN tx n b (n + 1) a 0).1 (dgN tx n b (n + 1) a 0).2) (wI σ 81 8 (nI (dgN tx n b (n + 1) a 0).2))) : OkL w d m_M_digits [vR 81, vI y, vI x] σ Q := by
  subst hx hy
  refine v_M_digits _ _ _ (by omega) (mk_digits_9 (by omega) hb hb1 (n + 1) a 0 _ _ (by omega) (hT.w (by decide)) (by rw [wI_1, if_pos ⟨rfl, rfl⟩]) hal (Or.inl ⟨rfl, rfl⟩) (fun y hy => ?_))
  have : y = dgM a (dgN tx n b (n + 1) a 0).1 (dgN tx n b (n + 1) a 0).2 := by
    unfold dgM
    split <;> rename_i q
    · rw [if_pos q] at hy; exact hy
    · rw [if_neg q] at hy; exact hy
  rw [this, wI_wI]; exact h
