/-! 071: the reference goes over blanks -/
theorem mk_skip_69 {w : Wd} {d : Nat} {Q : Int32 → Sg → Prop} {tx : Nat → Int32} {n i : Nat} {σ : Sg} (hd : 2 ≤ d) (hT : MX σ tx n) (hi : i ≤ n) (h0 : σ.1 81 10 = 0) : ∀ (f a : Nat), n + 3 ≤ a + f → a ≤ n + 3 →
    (rmE tx n f a < n → Bk w d 0 0 m_M_skip 0 0 (qi Q) 2 [oR 81, none, oI (nI (rmE tx n f a + 2)), none, none] [] σ) → (¬ rmE tx n f a < n → Q (-1) (wI (wI σ 81 10 2) 81 11 (nI i))) →
    Bk w d 0 0 m_M_skip 0 0 (qi Q) 69 [oR 81, none, oI (nI i), none, oI (nI a)] [] σ := by
  have hn := hT.1
  intro f
  induction f with
  | zero =>
    intro a hf hal h1 h2
    have e : rmE tx n 0 a = a := rfl
    rw [e] at h2
    refine v_M_skip_69 _ _ _ ?_
    rw [hT.2.1, nI_leI (by omega) (by omega), nI_ltI (by omega) (by omega)]
    exact ⟨fun _ => ⟨fun q => absurd q (by omega), fun _ => mk_fail (by omega) h0 (h2 (by omega))⟩, fun q => absurd (by omega) q⟩
  | succ f ih =>
    intro a hf hal h1 h2
    refine v_M_skip_69 _ _ _ ?_
    rw [hT.2.1, nI_leI (by omega) (by omega), nI_ltI (by omega) (by omega), nI_1, nI_a2]
    have bad : n ≤ a → OkV w (d - 1) m_M_fail [vR 81, vI 2, vI (nI i)] σ (fun s1 => Q (-1) s1) := fun q => by
      have e : rmE tx n (f + 1) a = a := by rw [rmE, if_pos q]
      rw [e] at h2
      exact mk_fail (by omega) h0 (h2 (by omega))
    refine ⟨fun q => ⟨fun r => absurd r (by omega), fun _ => bad q⟩, fun q => mk_byteOf (by omega) hT rfl (by omega) ?_⟩
    have ep : pk tx n a = tx a := by unfold pk; rw [if_pos (by omega)]
    rw [ep]
    have go : ¬ (tx a = 42 ∧ pk tx n (a + 1) = 41) → Bk w d 0 0 m_M_skip 0 0 (qi Q) 69 [oR 81, none, oI (nI i), none, oI (nI (a + 1))] [] σ := fun r => by
      have e : rmE tx n (f + 1) a = rmE tx n f (a + 1) := by rw [rmE, if_neg q, if_neg r]
      rw [e] at h1 h2
      exact ih (a + 1) (by omega) (by omega) h1 h2
    refine ⟨fun r => go (fun t => r t.1), fun r => mk_byteOf (by omega) hT rfl (by omega) ⟨fun t => ?_, fun t => go (fun u => t u.2)⟩⟩
    have e : rmE tx n (f + 1) a = a := by rw [rmE, if_neg q, if_pos ⟨r, t⟩]
    rw [e] at h1
    rw [hT.2.1, nI_ltI (by omega) (by omega)]
    exact ⟨fun _ => h1 (by omega), fun u => absurd (by omega) u⟩
theorem mk_skip_2 {w : Wd} {d : Nat} {Q : Int32 → Sg → Prop} {tx : Nat → Int32} {n : Nat} {σ : Sg} (hd : 2 ≤ d) (hT : MX σ tx n) (h0 : σ.1 81 10 = 0) : ∀ (f a : Nat), n + 1 ≤ a + f → a ≤ n →
    (if (skE tx n f a).2 = true then Q (nI (skE tx n f a).1) σ else Q (-1) (wI (wI σ 81 10 2) 81 11 (nI (skE tx n f a).1))) →
    Bk w d 0 0 m_M_skip 0 0 (qi Q) 2 [oR 81, none, oI (nI a), none, none] [] σ := by
  have hn := hT.1
  intro f
  induction f with
  | zero => intro a hf hal; omega
  | succ f ih =>
    intro a hf hal h
    refine v_M_skip_2 _ _ ?_
    rw [hT.2.1, nI_leI (by omega) (by omega), nI_1, nI_a2]
    have stop : skE tx n (f + 1) a = (a, true) → Q (nI a) σ := fun e => by rw [e, if_pos rfl] at h; exact h
    refine ⟨fun q => ?_, fun q => mk_byteOf (by omega) hT rfl (by omega) ?_⟩
    · have e : a = n := by omega
      subst e
      refine stop ?_
      have ep : pk tx a a = -1 := by unfold pk; rw [if_neg (by omega)]
      rw [skE, ep, if_neg (by decide), if_neg (fun t => absurd t.1 (by decide))]
    have go : (pk tx n a = 32 ∨ pk tx n a = 9 ∨ pk tx n a = 10 ∨ pk tx n a = 13) → Bk w d 0 0 m_M_skip 0 0 (qi Q) 2 [oR 81, none, oI (nI (a + 1)), none, none] [] σ := fun r => by
      have e : skE tx n (f + 1) a = skE tx n f (a + 1) := by rw [skE, if_pos r]
      rw [e] at h
      exact ih (a + 1) (by omega) (by omega) h
    refine ⟨fun c1 => go (Or.inr (Or.inl c1)), fun c1 => ⟨fun c2 => go (Or.inr (Or.inr (Or.inl c2))), fun c2 => ⟨fun c3 => go (Or.inr (Or.inr (Or.inr c3))), fun c3 => ⟨fun c4 => ?_, fun c4 => go (Or.inl c4)⟩⟩⟩⟩
    have hnb : ¬ (pk tx n a = 32 ∨ pk tx n a = 9 ∨ pk tx n a = 10 ∨ pk tx n a = 13) := by grind
    refine ⟨fun c5 => stop (by rw [skE, if_neg hnb, if_neg (fun t => c5 t.1)]), fun c5 => mk_byteOf (by omega) hT rfl (by omega) ⟨fun c6 => stop (by rw [skE, if_neg hnb, if_neg (fun t => c6 t.2)]), fun c6 => mk_skip_69 hd hT hal h0 (n + 3) (a + 2) (by omega) (by omega) (fun r => ?_) (fun r => ?_)⟩⟩
    · have e : skE tx n (f + 1) a = skE tx n f (rmE tx n (n + 3) (a + 2) + 2) := by rw [skE, if_neg hnb, if_pos ⟨c5, c6⟩, if_pos r]
      rw [e] at h
      have hge := rmE_ge (tx := tx) (n := n) (n + 3) (a + 2)
      have hlt2 : rmE tx n (n + 3) (a + 2) + 1 < n := lx_pk_lt (rmE_hit (n + 3) (a + 2) (by omega) r) (by decide)
      exact ih _ (by omega) (by omega) h
    · have e : skE tx n (f + 1) a = (a, false) := by rw [skE, if_neg hnb, if_pos ⟨c5, c6⟩, if_neg r]
      rw [e, if_neg Bool.false_ne_true] at h
      exact h
theorem mk_skip {w : Wd} {d : Nat} {Q : Int32 → Sg → Prop} {tx : Nat → Int32} {n a : Nat} {σ : Sg} {x : Int32} (hd : 2 ≤ d) (hT : MX σ tx n) (hx : x = nI a) (hal : a ≤ n) (h0 : σ.1 81 10 = 0)
    (h : if (skE tx n (n + 1) a).2 = true then Q (nI (skE tx n (n + 1) a).1) σ else Q (-1) (wI (wI σ 81 10 2) 81 11 (nI (skE tx n (n + 1) a).1))) : OkI w d m_M_skip [vR 81, vI x] σ Q := by
  subst hx
  exact v_M_skip _ _ (by omega) (mk_skip_2 hd hT h0 (n + 1) a (by omega) hal h)
