/-! 068: the component's next token -/
def o5F (k _j : Nat) : Bool := Nat.beq k 5
def lxF (k j : Nat) : Bool := txF k j || (Nat.beq k 5 && Nat.beq j 6)
def TkX (σ τ : Sg) (r : Nat × TK × List (List Int32)) : Prop := τ.1 5 6 = nI r.1 ∧ τ.1 5 8 = r.2.1.1 ∧ τ.1 5 5 = r.2.1.2.1 ∧ (r.2.1.1 = 0 → (r.2.1.2.1 ≠ 0 → τ.1 5 7 = r.2.1.2.2.1) ∧ τ.1 5 4 = nI r.2.1.2.2.2) ∧ NmC τ r.2.2 ∧ Fr lxF σ τ
theorem skE_le {tx : Nat → Int32} {n : Nat} : ∀ f a, a ≤ n → (skE tx n f a).1 ≤ n := by
  intro f
  induction f with
  | zero => intro a h; exact h
  | succ f ih =>
    intro a h
    unfold skE
    split
    · rename_i q
      refine ih _ ?_
      rcases q with q | q | q | q <;> exact lx_pk_lt q (by decide)
    · split
      · split
        · rename_i q3
          refine ih _ ?_
          by_cases hq : n ≤ a + 2 + (n + 3)
          · exact lx_pk_lt (rmE_hit (n + 3) (a + 2) hq q3) (by decide)
          · omega
        · exact h
      · exact h
theorem lxF_tx {k j : Nat} (h : lxF k j = false) : txF k j = false := by unfold lxF at h; simp only [Bool.or_eq_false_iff] at h; exact h.1
theorem tk_next {w : Wd} {d : Nat} {Q : Sg → Prop} {tx : Nat → Int32} {n a : Nat} {σ : Sg} {N : List (List Int32)} (hd : 6 ≤ d) (hT : TX σ tx n) (hN : NmC σ N) (h0 : σ.1 5 8 = 0) (hc : N.length + 1 ≤ 16000) (hc2 : N.flatten.length + 32 ≤ 16000) (ha : σ.1 5 4 = nI a) (hal : a ≤ n)
    (h : ∀ υ, TkX σ υ (lexS tx n a N) → Q υ) : OkV w d m_Tokens_next [vR 5] σ Q := by
  have hn := hT.1
  have hp := skE_le (tx := tx) (n := n) (n + 1) a hal
  unfold lexS at h
  refine v_Tokens_next _ (by omega) (tk_skip (by omega) hT ha hal h0 (fun fr x => ?_))
  generalize (skE tx n (n + 1) a).1 = p at h hp ⊢
  by_cases hs : (skE tx n (n + 1) a).2 = true
  · rw [if_pos hs]
    rw [if_neg (by rw [hs]; decide)] at h
    have hF1 : Fr lxF σ (wI (wI (wI σ 5 6 fr) 5 4 (nI p)) 5 6 (nI p)) := ((Fr.rfl'.wI rfl).wI rfl).wI rfl
    have hF0 : Fr o5F σ (wI (wI (wI σ 5 6 fr) 5 4 (nI p)) 5 6 (nI p)) := ((Fr.rfl'.wI rfl).wI rfl).wI rfl
    have e4 : (wI (wI σ 5 6 fr) 5 4 (nI p)).1 5 4 = nI p := by rw [wI_1, if_pos ⟨rfl, rfl⟩]
    rw [e4]
    have s0 : (wI (wI σ 5 6 fr) 5 4 (nI p)).1 5 8 = 0 := by simp [wI_1, h0]
    have t0 : (wI (wI (wI σ 5 6 fr) 5 4 (nI p)) 5 6 (nI p)).1 5 8 = 0 := by simp [wI_1, h0]
    have t4 : (wI (wI (wI σ 5 6 fr) 5 4 (nI p)) 5 6 (nI p)).1 5 4 = nI p := by simp [wI_1]
    have t6 : (wI (wI (wI σ 5 6 fr) 5 4 (nI p)) 5 6 (nI p)).1 5 6 = nI p := by simp [wI_1]
    generalize wI (wI (wI σ 5 6 fr) 5 4 (nI p)) 5 6 (nI p) = τ at hF1 hF0 t0 t4 t6 ⊢
    have hTt : TX τ tx n := ⟨hn, by rw [hF1.1 5 3 rfl]; exact hT.2.1, fun i hi => by rw [hF1.1 1 i rfl]; exact hT.2.2 i hi⟩
    have hNt : NmC τ N := hN.w hF0 (fun _ => rfl) (fun _ => rfl) (fun _ => rfl)
    refine ⟨fun _ => tk_peek (by omega) hTt t4 (k := 0) rfl (by omega) ?_, fun q => absurd s0 q⟩
    rw [Nat.add_zero]
    have fin : ∀ r, (∀ υ, TkX σ υ (p, r, N) → Q υ) → ∀ υ, TkP τ υ r → Q υ := by
      intro r hr υ hυ
      refine hr υ ⟨by rw [hυ.2.2.2.1 5 6 rfl]; exact t6, hυ.1, hυ.2.1, fun q => ⟨fun _ => (hυ.2.2.1 q).1, (hυ.2.2.1 q).2⟩, hNt.w hυ.2.2.2 (fun _ => rfl) (fun _ => rfl) (fun _ => rfl), hF1.trans (hυ.2.2.2.mono (fun k j q => txF_tk (lxF_tx q)))⟩
    have fin2 : (∀ υ, TkX σ υ (p, namS tx n p N) → Q υ) → ∀ υ, TkN τ υ (namS tx n p N).1 (namS tx n p N).2 → Q υ := by
      intro hr υ hυ
      exact hr υ ⟨by rw [hυ.2.2.2.2.1 5 6 rfl]; exact t6, hυ.1, hυ.2.1, fun q => ⟨fun _ => (hυ.2.2.1 q).1, (hυ.2.2.1 q).2⟩, hυ.2.2.2.1, hF1.trans (hυ.2.2.2.2.mono (fun k j q => lxF_tx q))⟩
    refine ⟨fun h1 => tk_great (by omega) ?_, fun h1 => ?_⟩
    · rw [if_neg (Int32.not_lt.mpr h1)] at h
      have rest : ¬ (grt (pk tx n p) = 84 ∧ pk tx n (p + 1) = 35) → OkI w (d - 1) m_Tokens_isLetter [vI (pk tx n p)] τ (fun r4 s4 => ((r4 = 0 → OkI w (d - 1) m_Tokens_isDigit [vI (pk tx n p)] s4 (fun r5 s5 => ((r5 = 0 → ((¬ pk tx n p = 37 → OkV w (d - 1) m_Tokens_sign [vR 5, vI (pk tx n p)] s5 (fun s6 => Q s6)) ∧ (pk tx n p = 37 → OkV w (d - 1) m_Tokens_place [vR 5] s5 (fun s7 => Q s7)))) ∧ (¬ r5 = 0 → OkV w (d - 1) m_Tokens_number [vR 5] s5 (fun s8 => Q s8))))) ∧ (¬ r4 = 0 → OkV w (d - 1) m_Tokens_name [vR 5] s4 (fun s9 => Q s9)))) := by
        intro q
        rw [if_neg q] at h
        refine tk_isLetter (by omega) ?_
        rw [b2_0, Bool.not_eq_false]
        refine ⟨fun h2 => tk_isDigit (by omega) ?_, fun h2 => ?_⟩
        · rw [if_neg (by rw [h2]; decide)] at h
          rw [b2_0, Bool.not_eq_false]
          refine ⟨fun h3 => ⟨fun h4 => ?_, fun h4 => ?_⟩, fun h3 => ?_⟩
          · rw [if_neg (by rw [h3]; decide), if_neg h4] at h
            exact tk_sign (by omega) hTt t0 t4 hp rfl (fin _ h)
          · rw [if_neg (by rw [h3]; decide), if_pos h4] at h
            exact tk_place (by omega) hTt t0 t4 hp (fin _ h)
          · rw [if_pos h3] at h
            exact tk_number (by omega) hTt t0 t4 hp (fin _ h)
        · rw [if_pos h2] at h
          exact tk_name (by omega) hTt hNt t0 hc hc2 t4 hp (fin2 h)
      refine ⟨fun h2 => rest (fun q => h2 q.1), fun h2 => tk_peek (by omega) hTt t4 (k := 1) rfl (by omega) ⟨fun h3 => rest (fun q => h3 q.2), fun h3 => ?_⟩⟩
      rw [if_pos ⟨h2, h3⟩] at h
      exact tk_time (by omega) hTt t0 t4 (lx_pk_lt h3 (by decide)) (fin _ h)
    · rw [if_pos (Int32.not_le.mp h1)] at h
      exact h _ ⟨by simp [wI_1, t6], by simp [wI_1, t0], by simp [wI_1], fun _ => ⟨fun q => absurd rfl q, by simp [wI_1, t4]⟩, hNt.w (P := tkF) (Fr.rfl'.wI rfl) (fun _ => rfl) (fun _ => rfl) (fun _ => rfl), hF1.wI rfl⟩
  · rw [if_neg hs]
    rw [if_pos (by simpa using hs)] at h
    have hF1 : Fr lxF σ (wI (wI (wI (wI σ 5 6 (nI p)) 5 4 x) 5 8 2) 5 5 0) := (((Fr.rfl'.wI rfl).wI rfl).wI rfl).wI rfl
    refine ⟨fun q => absurd q (by simp [wI_1]), fun _ => h _ ⟨by simp [wI_1], by simp [wI_1], by simp [wI_1], fun q => absurd q (show ¬ (2 : Int32) = 0 by decide), ?_, hF1⟩⟩
    exact hN.w (P := o5F) ((((Fr.rfl'.wI rfl).wI rfl).wI rfl).wI rfl) (fun _ => rfl) (fun _ => rfl) (fun _ => rfl)
