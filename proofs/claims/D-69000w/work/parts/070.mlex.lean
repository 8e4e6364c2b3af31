/-! 070: tokens of the reference (leaves) -/
def MX (σ : Sg) (tx : Nat → Int32) (n : Nat) : Prop := n ≤ 16384 ∧ σ.1 81 1 = nI n ∧ ∀ i, i < n → σ.1 82 i &&& 255 = tx i
theorem MX.w {σ : Sg} {tx : Nat → Int32} {n j : Nat} {v : Int32} (h : MX σ tx n) (hj : j ≠ 1) : MX (wI σ 81 j v) tx n := by
  refine ⟨h.1, ?_, fun i hi => ?_⟩
  · rw [wI_1, if_neg (by omega)]; exact h.2.1
  · rw [wI_1, if_neg (by omega)]; exact h.2.2 i hi
theorem MX.f {σ τ : Sg} {tx : Nat → Int32} {n : Nat} {P : Nat → Nat → Bool} (h : MX σ tx n) (hF : Fr P σ τ) (h1 : ∀ j, P 82 j = false) (h5 : P 81 1 = false) : MX τ tx n :=
  ⟨h.1, by rw [hF.1 81 1 h5]; exact h.2.1, fun i hi => by rw [hF.1 82 i (h1 i)]; exact h.2.2 i hi⟩
theorem mk_byteOf {w : Wd} {d : Nat} {σ : Sg} {x : Int32} {Q : Int32 → Sg → Prop} {tx : Nat → Int32} {n i : Nat} (hd : 1 ≤ d) (hT : MX σ tx n) (hx : x = nI i) (hb : i < 2 ^ 30) (h : Q (pk tx n i) σ) : OkI w d m_M_byteOf [vR 81, vI x] σ Q := by
  subst hx
  have hn := hT.1
  refine v_M_byteOf _ _ hd ⟨fun q => absurd q (nI_pos (by omega)), fun _ => ?_⟩
  unfold pk at h
  rw [hT.2.1, nI_leI (by omega) (by omega), nI_clamp (by omega)]
  refine ⟨fun q => ?_, fun q => ⟨vp_in_nI (by omega) (by omega), ?_⟩⟩
  · rw [if_neg (by omega)] at h; exact h
  · rw [if_pos (by omega)] at h; rw [hT.2.2 i (by omega)]; exact h
theorem mk_great {w : Wd} {d : Nat} {σ : Sg} {x : Int32} {Q : Int32 → Sg → Prop} {tx : Nat → Int32} {n i : Nat} (hd : 2 ≤ d) (hT : MX σ tx n) (hx : x = nI i) (hb : i < 2 ^ 30) (h : Q (grt (pk tx n i)) σ) : OkI w d m_M_great [vR 81, vI x] σ Q := by
  refine v_M_great _ _ (by omega) (mk_byteOf (by omega) hT hx hb ?_)
  unfold grt at h
  grind
theorem mk_isDigit {w : Wd} {d : Nat} {σ : Sg} {x : Int32} {Q : Int32 → Sg → Prop} (hd : 1 ≤ d) (h : Q (b2 (isDg x)) σ) : OkI w d m_M_isDigit [vI x] σ Q := by
  refine v_M_isDigit _ _ hd ?_
  unfold isDg b2 at h
  grind
def isLg (x : Int32) : Bool := decide (65 ≤ x ∧ x ≤ 90) || decide (x = 95)
theorem isLg_grt (c : Int32) : isLg (grt c) = isLt c := by
  unfold isLg isLt
  congr 1
  rw [decide_eq_decide]
  unfold grt
  grind
theorem mk_isLetter {w : Wd} {d : Nat} {σ : Sg} {x : Int32} {Q : Int32 → Sg → Prop} (hd : 1 ≤ d) (h : Q (b2 (isLg x)) σ) : OkI w d m_M_isLetter [vI x] σ Q := by
  refine v_M_isLetter _ _ hd ?_
  unfold isLg b2 at h
  grind
theorem mk_goesOn {w : Wd} {d : Nat} {σ : Sg} {x : Int32} {Q : Int32 → Sg → Prop} {tx : Nat → Int32} {n i : Nat} (hd : 3 ≤ d) (hT : MX σ tx n) (hx : x = nI i) (hb : i < 2 ^ 30) (h : Q (b2 (isPt (pk tx n i))) σ) : OkI w d m_M_goesOn [vR 81, vI x] σ Q := by
  refine v_M_goesOn _ _ (by omega) (mk_great (by omega) hT hx hb (mk_isLetter (by omega) ?_))
  rw [isLg_grt, b2_0, Bool.not_eq_false]
  unfold isPt at h
  refine ⟨fun q => ⟨Or.inr rfl, ?_⟩, fun q => mk_byteOf (by omega) hT hx hb (mk_isDigit (by omega) ?_)⟩
  · rw [q, Bool.true_or] at h; exact h
  · rw [q, Bool.false_or] at h
    rw [b2_0, Bool.not_eq_false]
    refine ⟨fun r => ⟨Or.inl rfl, ?_⟩, fun r => ⟨Or.inr rfl, ?_⟩⟩
    · rw [r] at h; exact h
    · rw [r] at h; exact h
theorem mk_digit {w : Wd} {d : Nat} {σ : Sg} {c x : Int32} {Q : Int32 → Sg → Prop} (hd : 2 ≤ d) (hx : x = grt c) (h : Q (dgt c) σ) : OkI w d m_M_digit [vI x] σ Q := by
  subst hx
  refine v_M_digit _ _ (by omega) (mk_isDigit (by omega) ?_)
  have d1 : isDg (grt c) = isDg c := by
    unfold isDg
    rw [decide_eq_decide]
    unfold grt
    grind
  have d2 : isDg c = true → grt c = c := by
    intro q
    unfold isDg at q
    have q := of_decide_eq_true q
    unfold grt
    grind
  have d3 : grt c - 65 + 10 = grt c - 55 := by grind
  unfold dgt at h
  rw [d3] at h
  rw [d1, b2_0, Bool.not_eq_false]
  refine ⟨fun h1 => ⟨fun h2 => ?_, fun h2 => ⟨fun h3 => ?_, fun h3 => ?_⟩⟩, fun h1 => ?_⟩
  · rw [if_neg (by rw [h1]; decide), if_neg (fun q => Int32.not_lt.mpr q.1 h2)] at h; exact h
  · rw [if_neg (by rw [h1]; decide), if_neg (fun q => Int32.not_lt.mpr q.2 h3)] at h; exact h
  · rw [if_neg (by rw [h1]; decide), if_pos ⟨Int32.not_lt.mp h2, Int32.not_lt.mp h3⟩] at h; exact h
  · rw [if_pos h1] at h; rw [d2 h1]; exact h
theorem mk_fail {w : Wd} {d : Nat} {σ : Sg} {x y : Int32} {Q : Sg → Prop} (hd : 1 ≤ d) (h0 : σ.1 81 10 = 0) (h : Q (wI (wI σ 81 10 x) 81 11 y)) : OkV w d m_M_fail [vR 81, vI x, vI y] σ Q := v_M_fail _ _ _ hd ⟨fun q => absurd h0 q, fun _ => h⟩
