/-! 107: the reference reads expressions -/
section
variable {w : Wd} {d n : Nat} {tx : Nat → Int32} {σ0 σ : Sg} {x : RS} {s : NS} {op : List Kp} {a b : Nat}
theorem rm_signAt {Q : Int32 → Sg → Prop} (hd : 1 ≤ d) (hS : StM tx n σ0 σ x s op a b) (h : Q (sgI x) σ) : OkI w d m_M_signAt [vR 81] σ Q := by
  refine v_M_signAt _ hd ?_
  rw [hS.fle]
  cases x with
  | error e => exact ⟨fun o => absurd o (show ¬ false = true by decide), fun _ => h⟩
  | ok q =>
    refine ⟨fun o => ?_, fun o => absurd rfl o⟩
    rw [hS.knd o, hS.knd o]
    unfold sgI at h
    refine ⟨fun c => ⟨fun c2 => ?_, fun c2 => ?_⟩, fun c => ?_⟩
    · rw [if_neg c, if_pos c2] at h
      rw [hS.val c2 (by decide)]
      generalize vaI (.ok q) = v at h ⊢
      simp only [sgO, lkI] at h
      refine ⟨fun r1 => ⟨fun r2 => ⟨fun r3 => ⟨fun r4 => ⟨fun r5 => ⟨fun r6 => ⟨fun r7 => ⟨fun r8 => ⟨fun r9 => ⟨fun ra => ⟨fun rb => ?_, fun r => ?_⟩, fun r => ?_⟩, fun r => ?_⟩, fun r => ?_⟩, fun r => ?_⟩, fun r => ?_⟩, fun r => ?_⟩, fun r => ?_⟩, fun r => ?_⟩, fun r => ?_⟩, fun r => ?_⟩
      all_goals first | (subst r; exact h) | (rw [if_neg r1, if_neg r2, if_neg r3, if_neg r4, if_neg r5, if_neg r6, if_neg r7, if_neg r8, if_neg r9, if_neg ra, if_neg rb] at h; exact h)
    · rw [if_neg c, if_neg c2] at h; exact h
    · rw [if_pos c] at h
      rw [hS.val c (by decide)]
      generalize vaI (.ok q) = v at h ⊢
      simp only [wdO, lkI] at h
      refine ⟨fun r1 => ⟨fun r2 => ⟨fun r3 => ⟨fun r4 => ?_, fun r => ?_⟩, fun r => ?_⟩, fun r => ?_⟩, fun r => ?_⟩
      all_goals first | (subst r; exact h) | (rw [if_neg r1, if_neg r2, if_neg r3, if_neg r4] at h; exact h)
theorem rm_next2 {Q : Sg → Prop} {a' : Nat} (hd : 11 ≤ d) (hS : StM tx n σ0 σ x s op a b) (hab : a ≤ b) (ha : ∀ q, x = .ok q → a ≤ a' + 4 ∧ (sK q = 0 → a ≤ a')) (h : ∀ σ', StM tx n σ0 σ' (nxR tx n x) s op a' b → Q σ') : OkV w d m_M_next2 [vR 81] σ Q := by
  refine v_M_next2 _ (by omega) ?_
  rw [hS.flt]
  refine ⟨fun o => ?_, fun o => rm_next (by omega) hS hab ha h⟩
  cases x with
  | ok q => exact absurd rfl o
  | error e => exact h σ (hS.erra rfl)
/-- in a state of a fault the stack is but a number -/
theorem StM.ope {op' : List Kp} (h : StM tx n σ0 σ x s op a b) (ho : isO x = false) (hl : op'.length = op.length) : StM tx n σ0 σ x s op' a b := by
  obtain ⟨g1, g2, g3, g4, g5, g6, g7, g9⟩ := h
  exact ⟨g1, g2, g3, g4, g5, by rw [hl]; exact g6, fun o => by rw [ho] at o; exact absurd o (by decide), g9⟩
theorem rm_keep {Q : Sg → Prop} {c : Nat} {y : Int32} (hd : 1 ≤ d) (hS : StM tx n σ0 σ x s op a b) (hl : op.length < 199) (hy : y = nI c) (hc : isO x = true → c < s.1 ∧ rp (s.2 c) = -1 ∧ c ∉ op.map (fun q => q.1)) (h : ∀ σ' g, StM tx n σ0 σ' x s (op ++ [(c, g)]) a b → (∀ k j, ¬ (k = 94 ∨ (k = 81 ∧ j = 25)) → σ'.1 k j = σ.1 k j) → Q σ') : OkV w d m_M_keep [vR 81, vI y] σ Q := by
  subst hy
  have g6 := hS.2.2.2.2.2.1
  refine v_M_keep _ _ hd ?_
  rw [g6, nI_clamp (by omega), nI_1]
  refine ⟨vp_in_nI (by omega) (by omega), ?_⟩
  have := hS.re (τ := wI (wI σ 94 op.length (nI c)) 81 25 (nI (op.length + 1))) (s' := s) (op' := op ++ [(c, σ.1 95 op.length, σ.1 96 op.length)]) (j := 0) ((Fr.rfl'.wI rfl).wI rfl) (fun k i hk => by simp only [wI_1]; rw [if_neg (by omega), if_neg (by omega)]) (hS.2.2.2.1.cong (fun i hi j _ => by simp only [wI_1]; rw [if_neg (by omega), if_neg (by omega)])) (by simp [wI_1]; exact hS.2.2.2.2.1) (by simp [wI_1]) (fun o => ?_) (Nat.le_refl _)
  · exact h _ _ this (fun k j hk => by simp only [wI_1]; rw [if_neg (by omega), if_neg (by omega)])
  · obtain ⟨k1, k2⟩ := hS.2.2.2.2.2.2.1 o
    obtain ⟨c1, c2, c3⟩ := hc o
    refine ⟨fun i hi => ?_, fun e he => ?_, ?_⟩
    · rw [List.length_append, List.length_singleton] at hi
      by_cases e : i = op.length
      · subst e
        simp [wI_1, List.getD_eq_getElem?_getD]
      · have hi2 : i < op.length := by omega
        simp only [wI_1]
        rw [if_neg (by omega), if_neg (by omega), if_neg (by omega), if_neg (by omega), if_neg (by omega), if_neg (by omega)]
        have e2 : (op ++ [(c, σ.1 95 op.length, σ.1 96 op.length)]).getD i (0, 0, 0) = op.getD i (0, 0, 0) := by rw [List.getD_eq_getElem?_getD, List.getElem?_append_left hi2, ← List.getD_eq_getElem?_getD]
        rw [e2]; exact k1 i hi2
    · rw [List.map_append, List.mem_append] at he
      rcases he with he | he
      · exact k2.1 e he
      · have he : e = c := by simpa using he
        subst he; exact ⟨c1, c2⟩
    · rw [List.map_append, List.nodup_append]
      refine ⟨k2.2, by simp, fun e he f hf => ?_⟩
      have hf : f = c := by simpa using hf
      subst hf
      exact fun q => c3 (q ▸ he)
/-- the sign behind the operand that was kept last -/
theorem StM.sgn {q : Kp} {v pl : Int32} (hS : StM tx n σ0 σ x s (op ++ [q]) a b) (hl : op.length < 199) : StM tx n σ0 (wI (wI σ 95 op.length v) 96 op.length pl) x s (op ++ [(q.1, v, pl)]) a b := by
  have := hS.re (τ := wI (wI σ 95 op.length v) 96 op.length pl) (s' := s) (op' := op ++ [(q.1, v, pl)]) (j := 0) ((Fr.rfl'.wI rfl).wI rfl) (fun k i hk => by simp only [wI_1]; rw [if_neg (by omega), if_neg (by omega)]) (hS.2.2.2.1.cong (fun i hi j _ => by simp only [wI_1]; rw [if_neg (by omega), if_neg (by omega)])) (by simp [wI_1]; exact hS.2.2.2.2.1) (by have := hS.2.2.2.2.2.1; simp [wI_1] at this ⊢; exact this) (fun o => ?_) (Nat.le_refl _)
  · exact this
  · obtain ⟨k1, k2⟩ := hS.2.2.2.2.2.2.1 o
    have em : (op ++ [(q.1, v, pl)]).map (fun q => q.1) = (op ++ [q]).map (fun q => q.1) := by simp
    refine ⟨fun i hi => ?_, by unfold OrM; rw [em]; exact k2⟩
    rw [List.length_append, List.length_singleton] at hi
    by_cases e : i = op.length
    · subst e
      have := (k1 op.length (by simp)).1
      simp [wI_1, List.getD_eq_getElem?_getD] at this ⊢
      exact this
    · have hi2 : i < op.length := by omega
      simp only [wI_1]
      rw [if_neg (by omega), if_neg (by omega), if_neg (by omega), if_neg (by omega), if_neg (by omega), if_neg (by omega)]
      have e2 : ∀ z : Kp, (op ++ [z]).getD i (0, 0, 0) = op.getD i (0, 0, 0) := fun z => by rw [List.getD_eq_getElem?_getD, List.getElem?_append_left hi2, ← List.getD_eq_getElem?_getD]
      have := k1 i (by rw [List.length_append]; omega)
      rw [e2] at this ⊢
      exact this
/-- what an operand leaves -/
def PoK (tx : Nat → Int32) (n : Nat) (σ0 : Sg) (s : NS) (op : List Kp) (r : RS × Tr) (a b : Nat) (σ' : Sg) : Prop := ∃ s' op', StM tx n σ0 σ' r.1 s' op' a b ∧ s.1 ≤ s'.1 ∧ (∀ k, k < s.1 → s'.2 k = s.2 k) ∧ op.length ≤ op'.length ∧ op'.length ≤ op.length + 1 ∧ (isO r.1 = true → ∃ c g, op' = op ++ [(c, g)] ∧ Exn s c true r.2 s')
/-- what an expression leaves: one node below p -/
def PoX (tx : Nat → Int32) (n : Nat) (σ0 : Sg) (s : NS) (op : List Kp) (p : Nat) (r : RS × Tr) (a b : Nat) (σ' : Sg) : Prop := ∃ s', StM tx n σ0 σ' r.1 s' op a b ∧ Fst s p (isO r.1) r.2 s' ∧ (isO r.1 = true → ∃ c, rc (s'.2 p) = rc (s.2 p) ++ [c])
theorem PoX.m {p : Nat} {r : RS × Tr} {τ : Sg} (h : PoX tx n σ0 s op p r a b τ) : PoM tx n σ0 s op p r a b τ := by
  obtain ⟨s', h1, h2, _⟩ := h
  exact ⟨s', h1, h2⟩
def OpM (w : Wd) (tx : Nat → Int32) (n : Nat) (σ0 : Sg) (F : Nat) : Prop := ∀ (d : Nat) (σ : Sg) (x : RS) (s : NS) (op : List Kp) (a b b' : Nat) (Q : Sg → Prop), 6 * F + 90 ≤ d → (∀ q, x = .ok q → 61 ≤ F + sD q ∧ op.length + 1 ≤ sD q + sS q ∧ sS q ≤ sD q + 1) → op.length ≤ 150 → StM tx n σ0 σ x s op a b → a ≤ b → b + 2 ≤ b' → a + 10 * d + 2 ≤ b' → b' ≤ 32000 → (∀ σ', PoK tx n σ0 s op (opdP tx n F x) a b' σ' → Q σ') → OkV w d m_M_operand [vR 81] σ Q
def ExM (w : Wd) (tx : Nat → Int32) (n : Nat) (σ0 : Sg) (F : Nat) : Prop := ∀ (d : Nat) (σ : Sg) (x : RS) (s : NS) (op : List Kp) (a b b' p : Nat) (Q : Sg → Prop), 6 * F + 92 ≤ d → (∀ q, x = .ok q → 61 ≤ F + sD q ∧ op.length ≤ sD q + sS q ∧ sS q ≤ sD q) → op.length ≤ 149 → StM tx n σ0 σ x s op a b → a ≤ b → b ≤ b' → a + 10 * d + 2 ≤ b' → b' ≤ 32000 → Liv s p → (∀ σ', PoX tx n σ0 s op p (exP tx n (opdP tx n F) x) a b' σ' → Q σ') → OkV w d m_M_expression [vR 81, vI (nI p)] σ Q
end
