/-! 064: the component's signs, words, names -/
def twS (c d : Int32) : Int32 := if c = 58 ∧ d = 61 then 256 else if c = 46 ∧ d = 46 then 257 else if c = 60 ∧ d = 61 then 258 else if c = 62 ∧ d = 61 then 259 else if c = 60 ∧ d = 62 then 260 else 0
def sgL : List Int32 := [40, 41, 91, 93, 44, 59, 58, 46, 43, 45, 42, 47, 61, 60, 62, 38, 124]
def knF (c : Int32) : Nat → Nat → Bool → Bool
  | 0, _, b => b
  | f + 1, i, b => knF c f (i + 1) (b || decide (sgL.getD i 0 = c))
def sigS (tx : Nat → Int32) (n a : Nat) : TK :=
  if knF (pk tx n a) 17 0 (decide (0 < twS (pk tx n a) (pk tx n (a + 1)))) = false then (1, 0, 0, a)
  else (0, 5, if 0 < twS (pk tx n a) (pk tx n (a + 1)) then twS (pk tx n a) (pk tx n (a + 1)) else pk tx n a, a + if 0 < twS (pk tx n a) (pk tx n (a + 1)) then 2 else 1)
theorem rd_signs {σ : Sg} {k : Nat} : rdI σ 1002 k = sgL.getD k 0 := rfl
theorem b2_or0 (b : Bool) : b2 b ||| 0 = b2 b := by cases b <;> decide
theorem b2_or1 (b : Bool) : b2 b ||| 1 = 1 := by cases b <;> decide
theorem b2_0 {b : Bool} : b2 b = 0 ↔ b = false := by cases b <;> decide
theorem b2_n0 {b : Bool} : ¬ b2 b = 0 ↔ b = true := by cases b <;> decide
theorem tk_sign_112 {w : Wd} {d : Nat} {Q : Sg → Prop} {a : Nat} {σ : Sg} {c t : Int32} (hd : 2 ≤ d) (h0 : σ.1 5 8 = 0) (ha : σ.1 5 4 = nI a) : ∀ (f i : Nat) (b : Bool), i + f = 17 →
    (∀ υ, TkP σ υ (if knF c f i b = false then (1, 0, 0, a) else (0, 5, if 0 < t then t else c, a + if 0 < t then 2 else 1)) → Q υ) →
    Bk w d 0 0 m_Tokens_sign 0 0 (qv Q) 112 [oR 5, oI c, none, oI t, oI (b2 b), oI (nI i)] [] σ := by
  intro f
  induction f with
  | zero =>
    intro i b hi h
    have hi : i = 17 := by omega
    subst hi
    refine v_Tokens_sign_112 _ _ _ _ _ ⟨fun _ => ⟨fun h1 => ?_, fun h1 => ?_⟩, fun q => absurd (by decide) q⟩
    · have hb := b2_n0.mp h1
      have e : knF c 0 17 b = true := hb
      rw [e, if_neg (by decide)] at h
      rw [ha, nI_1, nI_a2]
      refine ⟨fun h2 => ⟨fun _ => ?_, fun q => absurd h2 q⟩, fun h2 => ⟨fun q => absurd q h2, fun _ => ?_⟩⟩
      · rw [if_neg (Int32.not_lt.mpr h2), if_neg (Int32.not_lt.mpr h2)] at h
        exact h _ ⟨by simp [wI_1, h0], by simp [wI_1], fun _ => ⟨by simp [wI_1], by simp [wI_1]⟩, ((Fr.rfl'.wI rfl).wI rfl).wI rfl⟩
      · rw [if_pos (Int32.not_le.mp h2), if_pos (Int32.not_le.mp h2)] at h
        exact h _ ⟨by simp [wI_1, h0], by simp [wI_1], fun _ => ⟨by simp [wI_1], by simp [wI_1]⟩, ((Fr.rfl'.wI rfl).wI rfl).wI rfl⟩
    · have hb := b2_0.mp h1
      have e : knF c 0 17 b = false := hb
      rw [if_pos e] at h
      exact tk_fail (by omega) (h _ ((TkP_fault Fr.rfl').resolve_right (by decide)))
  | succ f ih =>
    intro i b hi h
    refine v_Tokens_sign_112 _ _ _ _ _ ⟨fun q => ?_, fun _ => ⟨vp_in_nI (by omega) (by omega), ?_⟩⟩
    · have q : nI 17 ≤ nI i := q
      rw [nI_leI (by decide) (by omega)] at q
      omega
    · rw [nI_clamp (by omega), rd_signs, nI_1, b2_or0, b2_or1]
      have e : knF c (f + 1) i b = knF c f (i + 1) (b || decide (sgL.getD i 0 = c)) := rfl
      rw [e] at h
      refine ⟨fun h1 => ?_, fun h1 => ?_⟩
      · rw [decide_eq_false h1, Bool.or_false] at h
        exact ih (i + 1) b (by omega) h
      · rw [decide_eq_true h1, Bool.or_true] at h
        exact ih (i + 1) true (by omega) h
theorem tk_sign_97 {w : Wd} {d : Nat} {Q : Sg → Prop} {a : Nat} {σ : Sg} {c t : Int32} (hd : 2 ≤ d) (h0 : σ.1 5 8 = 0) (ha : σ.1 5 4 = nI a)
    (h : ∀ υ, TkP σ υ (if knF c 17 0 (decide (0 < t)) = false then (1, 0, 0, a) else (0, 5, if 0 < t then t else c, a + if 0 < t then 2 else 1)) → Q υ) : Bk w d 0 0 m_Tokens_sign 0 0 (qv Q) 97 [oR 5, oI c, none, none, none, none] [vI t] σ := by
  refine v_Tokens_sign_97 _ _ _ ⟨fun h1 => ?_, fun h1 => ?_⟩
  · rw [decide_eq_false (Int32.not_lt.mpr h1)] at h
    exact tk_sign_112 hd h0 ha 17 0 false rfl h
  · rw [decide_eq_true (Int32.not_le.mp h1)] at h
    exact tk_sign_112 hd h0 ha 17 0 true rfl h
theorem tk_sign {w : Wd} {d : Nat} {Q : Sg → Prop} {tx : Nat → Int32} {n a : Nat} {σ : Sg} {c : Int32} (hd : 2 ≤ d) (hT : TX σ tx n) (h0 : σ.1 5 8 = 0) (ha : σ.1 5 4 = nI a) (hal : a ≤ n) (hc : c = pk tx n a)
    (h : ∀ υ, TkP σ υ (sigS tx n a) → Q υ) : OkV w d m_Tokens_sign [vR 5, vI c] σ Q := by
  have hn := hT.1
  unfold sigS at h
  rw [← hc] at h
  refine v_Tokens_sign _ _ (by omega) (tk_peek (by omega) hT ha (k := 1) rfl (by omega) ?_)
  generalize pk tx n (a + 1) = e at h ⊢
  have fin : ∀ t, twS c e = t → Bk w d 0 0 m_Tokens_sign 0 0 (qv Q) 97 [oR 5, oI c, none, none, none, none] [vI t] σ := by
    intro t ht
    rw [ht] at h
    exact tk_sign_97 hd h0 ha h
  have f60 : ¬ (c = 58 ∧ e = 61) → ¬ (c = 46 ∧ e = 46) → ¬ (c = 60 ∧ e = 61) → Bk w d 0 0 m_Tokens_sign 0 0 (qv Q) 60 [oR 5, oI c, oI e, none, none, none] [] σ := by
    intro q1 q2 q3
    refine v_Tokens_sign_60 _ _ _ ⟨fun h1 => ⟨fun h2 => fin _ ?_, fun h2 => ⟨fun h3 => fin _ ?_, fun h3 => fin _ ?_⟩⟩, fun h1 => ⟨fun h2 => ⟨fun h3 => fin _ ?_, fun h3 => ⟨fun h4 => fin _ ?_, fun h4 => fin _ ?_⟩⟩, fun h2 => fin _ ?_⟩⟩
    all_goals (unfold twS; grind)
  have f42 : ¬ (c = 58 ∧ e = 61) → ¬ (c = 46 ∧ e = 46) → Bk w d 0 0 m_Tokens_sign 0 0 (qv Q) 42 [oR 5, oI c, oI e, none, none, none] [] σ := by
    intro q1 q2
    refine v_Tokens_sign_42 _ _ _ ⟨fun h1 => f60 q1 q2 (fun q => h1 q.1), fun h1 => ⟨fun h2 => f60 q1 q2 (fun q => h2 q.2), fun h2 => fin _ ?_⟩⟩
    unfold twS; grind
  have f24 : ¬ (c = 58 ∧ e = 61) → Bk w d 0 0 m_Tokens_sign 0 0 (qv Q) 24 [oR 5, oI c, oI e, none, none, none] [] σ := by
    intro q1
    refine v_Tokens_sign_24 _ _ _ ⟨fun h1 => f42 q1 (fun q => h1 q.1), fun h1 => ⟨fun h2 => f42 q1 (fun q => h2 q.2), fun h2 => fin _ ?_⟩⟩
    unfold twS; grind
  refine ⟨fun h1 => f24 (fun q => h1 q.1), fun h1 => ⟨fun h2 => f24 (fun q => h2 q.2), fun h2 => fin _ ?_⟩⟩
  unfold twS; grind
