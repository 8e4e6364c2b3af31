/-! 063: the component's places and signs -/
def plc (k : Nat) : Int32 := [73, 88, 81, 88, 77, 88, 73, 87, 81, 87, 77, 87].getD k 0
def whk (c1 c2 : Int32) (k : Nat) (x : Int32) : Int32 := if c1 = plc (2 * k) ∧ c2 = plc (2 * k + 1) then nI k else x
def whS (c1 c2 : Int32) : Int32 := whk c1 c2 5 (whk c1 c2 4 (whk c1 c2 3 (whk c1 c2 2 (whk c1 c2 1 (whk c1 c2 0 (-1))))))
theorem whk_or {c1 c2 : Int32} {k : Nat} {x : Int32} (hk : k < 6) : whk c1 c2 k x = x ∨ (whk c1 c2 k x = nI k ∧ (c2 = 88 ∨ c2 = 87)) := by
  unfold whk
  split
  · rename_i h
    refine Or.inr ⟨rfl, ?_⟩
    have h := h.2
    rcases (by omega : k = 0 ∨ k = 1 ∨ k = 2 ∨ k = 3 ∨ k = 4 ∨ k = 5) with q | q | q | q | q | q <;> subst q
    · exact Or.inl h
    · exact Or.inl h
    · exact Or.inl h
    · exact Or.inr h
    · exact Or.inr h
    · exact Or.inr h
  · exact Or.inl rfl
theorem whk_step {c1 c2 : Int32} {k : Nat} {x : Int32} (hk : k < 6) (h : x = -1 ∨ ∃ k, k < 6 ∧ x = nI k ∧ (c2 = 88 ∨ c2 = 87)) : whk c1 c2 k x = -1 ∨ ∃ j, j < 6 ∧ whk c1 c2 k x = nI j ∧ (c2 = 88 ∨ c2 = 87) := by
  rcases whk_or (c1 := c1) (c2 := c2) (x := x) hk with q | q
  · rw [q]; exact h
  · exact Or.inr ⟨k, hk, q⟩
theorem whS_cases (c1 c2 : Int32) : whS c1 c2 = -1 ∨ ∃ k, k < 6 ∧ whS c1 c2 = nI k ∧ (c2 = 88 ∨ c2 = 87) :=
  whk_step (by decide) (whk_step (by decide) (whk_step (by decide) (whk_step (by decide) (whk_step (by decide) (whk_step (by decide) (Or.inl rfl))))))
def plaS (tx : Nat → Int32) (n a : Nat) : TK :=
  if whS (grt (pk tx n (a + 1))) (grt (pk tx n (a + 2))) < 0 then (5, 0, 0, a)
  else if (dgN tx n 10 (n + 1) (a + 3) 0).2 = a + 3 ∨ (if whS (grt (pk tx n (a + 1))) (grt (pk tx n (a + 2))) < 3 then 255 else 63) < (dgN tx n 10 (n + 1) (a + 3) 0).1 ∨ isPt (pk tx n (dgN tx n 10 (n + 1) (a + 3) 0).2) = true then (5, 0, 0, a)
  else (0, 4, 256 * whS (grt (pk tx n (a + 1))) (grt (pk tx n (a + 2))) + nI (dgN tx n 10 (n + 1) (a + 3) 0).1, (dgN tx n 10 (n + 1) (a + 3) 0).2)
theorem rd_places {σ : Sg} {k : Nat} : rdI σ 1001 k = plc k := rfl
theorem tk_place_it {w : Wd} {d : Nat} {Q : Sg → Prop} {tx : Nat → Int32} {n a k : Nat} {σ : Sg} {x1 : Int32} (hd : 2 ≤ d) (hT : TX σ tx n) (ha : σ.1 5 4 = nI a) (hal : a ≤ n) (hk : k < 6) {x2 x3 : Int32} (h2 : x2 = nI (2 * k)) (h3 : x3 = nI (2 * k + 2))
    (h : Bk w d 0 0 m_Tokens_place 0 0 (qv Q) 4 [oR 5, oI (whk (grt (pk tx n (a + 1))) (grt (pk tx n (a + 2))) k x1), oI x3, none] [] σ) : Bk w d 0 0 m_Tokens_place 0 0 (qv Q) 4 [oR 5, oI x1, oI x2, none] [] σ := by
  have hn := hT.1
  subst h2 h3
  refine v_Tokens_place_4 _ _ _ ⟨fun q => ?_, fun _ => tk_peek (by omega) hT ha (k := 1) rfl (by omega) (tk_great (by omega) ⟨vp_in_nI (by omega) (by omega), ?_⟩)⟩
  · have q : nI 12 ≤ nI (2 * k) := q
    rw [nI_leI (by decide) (by omega)] at q
    omega
  rw [nI_a2, nI_1, nI_clamp (by omega), nI_clamp (by omega), rd_places]
  unfold whk at h
  refine ⟨fun h1 => ?_, fun h1 => tk_peek (by omega) hT ha (k := 2) rfl (by omega) (tk_great (by omega) ⟨vp_in_nI (by omega) (by omega), ?_⟩)⟩
  · rw [if_neg (fun q => h1 q.1)] at h; exact h
  · rw [rd_places]
    refine ⟨fun h2 => ?_, fun h2 => ⟨by decide, ?_⟩⟩
    · rw [if_neg (fun q => h2 q.2)] at h; exact h
    · rw [if_pos ⟨h1, h2⟩] at h
      have e : nI (2 * k) / 2 = nI k := by
        rcases (by omega : k = 0 ∨ k = 1 ∨ k = 2 ∨ k = 3 ∨ k = 4 ∨ k = 5) with q | q | q | q | q | q <;> subst q <;> decide
      rw [e]; exact h
theorem tk_place_86 {w : Wd} {d : Nat} {Q : Sg → Prop} {tx : Nat → Int32} {n a v e : Nat} {σ τ : Sg} {x : Int32} {y : Int64} (hd : 5 ≤ d) (hT : TX τ tx n) (h0 : τ.1 5 8 = 0) (he : τ.1 5 4 = nI e) (hel : e ≤ n + 8) (hF : Fr tkF σ τ) (b : Nat)
    (hy : if x < 0 then y = -1 else y = dgL b v e)
    (h : ∀ υ, TkP σ υ (if x < 0 then (5, 0, 0, a) else if e = b ∨ (if x < 3 then 255 else 63) < v ∨ isPt (pk tx n e) = true then (5, 0, 0, a) else (0, 4, 256 * x + nI v, e)) → Q υ) :
    Bk w d 0 0 m_Tokens_place 0 0 (qv Q) 86 [oR 5, oI x, none, none] [vL y] τ := by
  have hn := hT.1
  refine v_Tokens_place_86 _ _ _ ?_
  by_cases hx : x < 0
  · rw [if_pos hx] at hy h
    subst hy
    exact ⟨fun _ => tk_fail (by omega) (h _ ((TkP_fault hF).resolve_right (by decide))), fun q => absurd (by decide) q⟩
  · rw [if_neg hx] at hy h
    subst hy
    have g63 : 0 < lg_cmp (dgL b v e) 63 ↔ ¬ e = b ∧ 63 < v := by rw [lg_gt]; exact dgL_gt (k := 63) (by decide)
    have g255 : 0 < lg_cmp (dgL b v e) 255 ↔ ¬ e = b ∧ 255 < v := by rw [lg_gt]; exact dgL_gt (k := 255) (by decide)
    rw [lg_lt, dgL_lt, g63, g255]
    have bad : (e = b ∨ (if x < 3 then 255 else 63) < v ∨ isPt (pk tx n e) = true) → OkV w (d - 1) m_Tokens_fail [vR 5, vI 5] τ (fun s1 => Q s1) := by
      intro hq
      rw [if_pos hq] at h
      exact tk_fail (by omega) (h _ ((TkP_fault hF).resolve_right (by decide)))
    have good : ¬ e = b → ¬ (if x < 3 then 255 else 63) < v → b2 (isPt (pk tx n e)) = 0 → Q (wI (wI τ 5 5 4) 5 7 (256 * x + (dgL b v e).toInt32)) := by
      intro q1 q2 q3
      have q4 : ¬ isPt (pk tx n e) = true := fun q => by rw [q] at q3; exact absurd q3 (by decide)
      rw [if_neg (by rintro (q | q | q); exact q1 q; exact q2 q; exact q4 q)] at h
      have hv : v ≤ 255 := by split at q2 <;> omega
      rw [dgL_32 q1 (by omega)]
      exact h _ ⟨by simp [wI_1, h0], by simp [wI_1], fun _ => ⟨by simp [wI_1], by simp [wI_1, he]⟩, (hF.wI rfl).wI rfl⟩
    refine ⟨fun q => bad (Or.inl q), fun q => ⟨fun q3 => ⟨fun q4 => ?_, fun q4 => tk_peek (by omega) hT he (k := 0) rfl (by omega) (tk_isPart (by omega) ⟨fun q5 => ?_, fun q5 => ?_⟩)⟩, fun q3 => ⟨fun q4 => ?_, fun q4 => tk_peek (by omega) hT he (k := 0) rfl (by omega) (tk_isPart (by omega) ⟨fun q5 => ?_, fun q5 => ?_⟩)⟩⟩⟩
    · exact bad (Or.inr (Or.inl (by rw [if_neg (Int32.not_lt.mpr q3)]; exact q4.2)))
    · exact good q (by rw [if_neg (Int32.not_lt.mpr q3)]; exact fun r => q4 ⟨q, r⟩) q5
    · refine bad (Or.inr (Or.inr ?_))
      cases r : isPt (pk tx n e) with
      | true => rfl
      | false => rw [Nat.add_zero, r] at q5; exact absurd rfl q5
    · exact bad (Or.inr (Or.inl (by rw [if_pos (Int32.not_le.mp q3)]; exact q4.2)))
    · exact good q (by rw [if_pos (Int32.not_le.mp q3)]; exact fun r => q4 ⟨q, r⟩) q5
    · refine bad (Or.inr (Or.inr ?_))
      cases r : isPt (pk tx n e) with
      | true => rfl
      | false => rw [Nat.add_zero, r] at q5; exact absurd rfl q5
theorem tk_place {w : Wd} {d : Nat} {Q : Sg → Prop} {tx : Nat → Int32} {n a : Nat} {σ : Sg} (hd : 5 ≤ d) (hT : TX σ tx n) (h0 : σ.1 5 8 = 0) (ha : σ.1 5 4 = nI a) (hal : a ≤ n)
    (h : ∀ υ, TkP σ υ (plaS tx n a) → Q υ) : OkV w d m_Tokens_place [vR 5] σ Q := by
  have hn := hT.1
  refine v_Tokens_place _ (by omega) ?_
  refine tk_place_it (k := 0) (by omega) hT ha hal (by decide) rfl rfl ?_
  refine tk_place_it (k := 1) (by omega) hT ha hal (by decide) rfl rfl ?_
  refine tk_place_it (k := 2) (by omega) hT ha hal (by decide) rfl rfl ?_
  refine tk_place_it (k := 3) (by omega) hT ha hal (by decide) rfl rfl ?_
  refine tk_place_it (k := 4) (by omega) hT ha hal (by decide) rfl rfl ?_
  refine tk_place_it (k := 5) (by omega) hT ha hal (by decide) rfl rfl ?_
  have eW : whk (grt (pk tx n (a + 1))) (grt (pk tx n (a + 2))) 5 (whk (grt (pk tx n (a + 1))) (grt (pk tx n (a + 2))) 4 (whk (grt (pk tx n (a + 1))) (grt (pk tx n (a + 2))) 3 (whk (grt (pk tx n (a + 1))) (grt (pk tx n (a + 2))) 2 (whk (grt (pk tx n (a + 1))) (grt (pk tx n (a + 2))) 1 (whk (grt (pk tx n (a + 1))) (grt (pk tx n (a + 2))) 0 (-1)))))) = whS (grt (pk tx n (a + 1))) (grt (pk tx n (a + 2))) := rfl
  rw [eW]
  unfold plaS at h
  have hW := whS_cases (grt (pk tx n (a + 1))) (grt (pk tx n (a + 2)))
  generalize whS (grt (pk tx n (a + 1))) (grt (pk tx n (a + 2))) = x at h hW ⊢
  refine v_Tokens_place_4 _ _ _ ⟨fun _ => ?_, fun q => absurd (by decide) q⟩
  rw [ha, nI_a3]
  refine ⟨fun h1 => ?_, fun h1 => ?_⟩
  · have hlt : a + 2 < n := by
      rcases hW with q | ⟨k, _, _, q | q⟩
      · rw [q] at h1; exact absurd h1 (by decide)
      · exact grt_lt q (by decide)
      · exact grt_lt q (by decide)
    refine tk_digits (b := 10) (a := a + 3) rfl (by omega) (by decide) (by decide) (hT.w5 (by decide)) (by rw [wI_1, if_pos ⟨rfl, rfl⟩]) (by omega) ?_
    have hle := dgN_le (tx := tx) (n := n) (b := 10) (by decide) (n + 1) (a + 3) 0 (by omega)
    rw [wI_wI]
    exact tk_place_86 hd (hT.w5 (by decide)) (by rw [wI_1, if_neg (by omega)]; exact h0) (by rw [wI_1, if_pos ⟨rfl, rfl⟩]) (by omega) (Fr.rfl'.wI rfl) (a + 3) (by rw [if_neg (Int32.not_lt.mpr h1)]) h
  · exact tk_place_86 (v := (dgN tx n 10 (n + 1) (a + 3) 0).1) (e := a + 3) hd (hT.w5 (by decide)) (by rw [wI_1, if_neg (by omega)]; exact h0) (by rw [wI_1, if_pos ⟨rfl, rfl⟩]) (by omega) (Fr.rfl'.wI rfl) (a + 3) (by rw [if_pos (Int32.not_le.mp h1)]) (by rw [if_pos (Int32.not_le.mp h1)] at h ⊢; exact h)
