/-! 144: the component judges: nodes are entered, blocks are left -/
section
variable {w : Wd} {d : Nat} {g : Nat → NI} {N : List (List Int32)} {M : Nat} {σ0 σ : Sg} {s : JS} {E : Nat} {tk : Nat → Bool} {ft : Option JE}
/-- places that judging a node does not touch -/
def frP (a j : Nat) : Prop := a = 40 ∨ (a = 21 ∧ j = 26)
theorem StG.mv {a j : Nat} {v : Int32} (hG : StG g N M σ0) (ha : frP a j) : StG g N M (wI σ0 a j v) := by
  have O : ∀ b i, b < 21 → (wI σ0 a j v).1 b i = σ0.1 b i := fun b i hb => by rw [wI_1, if_neg (by rcases ha with q | q <;> omega)]
  refine ⟨fun k hk => ?_, hG.2.1, hG.2.2.1, hG.2.2.2.1, hG.2.2.2.2.1, by rw [O 7 9 (by omega)]; exact hG.2.2.2.2.2⟩
  rw [O 8 _ (by omega), O (8 + 1) _ (by omega), O (8 + 2) _ (by omega), O (8 + 3) _ (by omega), O (8 + 4) _ (by omega), O (8 + 6) _ (by omega)]
  exact hG.1 k hk
theorem fr_mv {a j : Nat} {v : Int32} (h : Fr jcF σ0 σ) : Fr jcF (wI σ0 a j v) (wI σ a j v) := by
  refine ⟨fun b i q => ?_, h.2⟩
  rw [wI_1, wI_1]
  split
  · rfl
  · exact h.1 b i q
theorem JW.mv {a j : Nat} {v : Int32} (h : JW g N M σ0 σ s E tk) (ha : frP a j) : JW g N M (wI σ0 a j v) (wI σ a j v) s E tk := by
  obtain ⟨h1, h2, h3, h4, h5, h6, h7, h8⟩ := h
  have O : ∀ b i, ¬ frP b i → (wI σ a j v).1 b i = σ.1 b i := fun b i q => by
    rw [wI_1, if_neg]
    rintro ⟨e1, e2⟩
    rw [e1, e2] at q; exact q ha
  have n : ∀ b i, b < 40 → b ≠ 21 → ¬ frP b i := fun b i q1 q2 r => by rcases r with r | r <;> omega
  have n21 : ∀ i, i ≠ 26 → ¬ frP 21 i := fun i q r => by rcases r with r | r <;> omega
  refine ⟨fr_mv h1, ⟨by rw [O 21 22 (n21 _ (by omega))]; exact h2.1, h2.2.1, fun b hb => ?_⟩, ⟨by rw [O 21 17 (n21 _ (by omega))]; exact h3.1, h3.2.1, fun v hv => ?_⟩, fun hb => ?_, fun k hk => ?_, fun j hj => ?_, fun p hp => ?_, h8⟩
  · rw [O 36 b (n _ _ (by omega) (by omega)), O 37 b (n _ _ (by omega) (by omega)), O 38 b (n _ _ (by omega) (by omega))]; exact h2.2.2 b hb
  · rw [O 28 v (n _ _ (by omega) (by omega)), O 29 v (n _ _ (by omega) (by omega)), O 30 v (n _ _ (by omega) (by omega)), O 31 v (n _ _ (by omega) (by omega)), O 32 v (n _ _ (by omega) (by omega)), O 33 v (n _ _ (by omega) (by omega)), O 34 v (n _ _ (by omega) (by omega)), O 35 v (n _ _ (by omega) (by omega))]; exact h3.2.2 v hv
  · rw [O 21 24 (n21 _ (by omega)), O 21 25 (n21 _ (by omega))]; exact h4 hb
  · rw [O 25 k (n _ _ (by omega) (by omega)), O 26 k (n _ _ (by omega) (by omega)), O 27 k (n _ _ (by omega) (by omega))]; exact h5 k hk
  · rw [O 23 j (n _ _ (by omega) (by omega)), O 24 j (n _ _ (by omega) (by omega))]; exact h6 j hj
  · rw [O 22 p (n _ _ (by omega) (by omega))]; exact h7 p hp
theorem FT.mv {a j : Nat} {v : Int32} (h : FT σ ft) (ha : frP a j) : FT (wI σ a j v) ft := h.wr (by rcases ha with q | q <;> omega)
/-- between two blocks -/
def JW0 (g : Nat → NI) (N : List (List Int32)) (M : Nat) (σ0 σ : Sg) (s : JS) (E : Nat) (tk : Nat → Bool) : Prop := Fr jcF σ0 σ ∧ JB g M σ s ∧ (∀ b, b < (jB s).length → σ.1 38 b = nI (bC (gB s b))) ∧ JVm σ s ∧ (∀ k, k < E → σ.1 25 k = jT s k ∧ σ.1 26 k = jC s k ∧ σ.1 27 k = jM s k) ∧ (∀ j, j < N.length → σ.1 23 j = sdI N (nI j) ∧ σ.1 24 j = ptI N (nI j)) ∧ (∀ p, p < 1536 → σ.1 22 p = b2 (tk p)) ∧ E ≤ M
/-- a node's row of three is cleared -/
theorem an_new {k : Nat} (h5 : ∀ i, i < k → σ.1 25 i = jT s i ∧ σ.1 26 i = jC s i ∧ σ.1 27 i = jM s i) : ∀ i, i < k + 1 → (wI (wI (wI σ 25 k (-1)) 26 k (-1)) 27 k (-1)).1 25 i = jT (setA s k (-1, -1, -1)) i ∧ (wI (wI (wI σ 25 k (-1)) 26 k (-1)) 27 k (-1)).1 26 i = jC (setA s k (-1, -1, -1)) i ∧ (wI (wI (wI σ 25 k (-1)) 26 k (-1)) 27 k (-1)).1 27 i = jM (setA s k (-1, -1, -1)) i := by
  intro i hi
  have e : (setA s k (-1, -1, -1)).2.2 i = if i = k then (-1, -1, -1) else s.2.2 i := rfl
  unfold jT jC jM
  rw [e]
  simp only [wI_1]
  by_cases q : i = k
  · subst q; simp
  · rw [if_neg q]
    have := h5 i (by omega)
    unfold jT jC jM at this
    simp [q, this]
theorem jr_enterN {Q : Sg → Prop} {k : Nat} {x1 : Int32} (hd : 1 ≤ d) (hG : StG g N M σ0) (hS : JW g N M σ0 σ s k tk) (hf : FT σ none) (hk : k < M) (hn : 3 < gK g k) (h1 : x1 = nI k) (h : ∀ σ0' σ', (gK g k = 5 → σ0' = wI σ0 21 26 (nI (jV s).length)) → (gK g k ≠ 5 → σ0' = σ0) → JW g N M σ0' σ' (setA s k (-1, -1, -1)) (k + 1) tk → FT σ' none → Q σ') : OkV w d m_Rules_enter [vR 21, vI x1] σ Q := by
  subst h1
  have hM := hG.2.2.1
  have hin : vp_in (nI k) 33500 := vp_in_nI (by omega) (by omega)
  have hS2 : JW g N M σ0 (wI (wI (wI σ 25 k (-1)) 26 k (-1)) 27 k (-1)) (setA s k (-1, -1, -1)) (k + 1) tk :=
    hS.a3 rfl rfl (((Fr.rfl'.wI rfl).wI rfl).wI rfl) (fun a j q _ => by simp only [wI_1]; rw [if_neg (by omega), if_neg (by omega), if_neg (by omega)]) (an_new hS.2.2.2.2.1) (by omega)
  have hf2 : FT (wI (wI (wI σ 25 k (-1)) 26 k (-1)) 27 k (-1)) none := ((hf.wr (by omega)).wr (by omega)).wr (by omega)
  refine v_Rules_enter _ _ hd ⟨hin, hin, hin, hin, ?_⟩
  rw [nI_clamp (by omega), (hS.tb hG hk).1, hf.none_iff, hS.2.2.1.1]
  have n1 : ¬ gK g k < 1 := fun q => absurd (Int32.lt_trans hn q) (by decide)
  refine ⟨fun q => absurd rfl q, fun _ => ⟨fun q => absurd q n1, fun _ => ⟨fun _ => ⟨fun q => h σ0 _ (fun r => absurd r q) (fun _ => rfl) hS2 hf2, fun q => ?_⟩, fun q => absurd hn q⟩⟩⟩
  exact h _ _ (fun _ => rfl) (fun r => absurd q r) (hS2.mv (Or.inr ⟨rfl, rfl⟩)) (hf2.mv (Or.inr ⟨rfl, rfl⟩))
theorem jr_end {Q : Int32 → Sg → Prop} {k e : Nat} {x1 : Int32} (hd : 1 ≤ d) (hG : StG g N M σ0) (hS : JW g N M σ0 σ s E tk) (hk : k < e) (heM : e ≤ M) (hin : ∀ i, k < i → i < e → ∃ p, gU g i = some p ∧ k ≤ p) (hout : e < M → ∃ p, gU g e = some p ∧ p < k) (h1 : x1 = nI k) (h : Q (nI e) σ) : OkI w d m_Rules_end [vR 21, vI x1] σ Q := by
  subst h1
  have hM := hG.2.2.1
  have h79 : σ.1 7 9 = nI M := (hS.1.1 7 9 rfl).trans hG.2.2.2.2.2
  have loop : ∀ (f i : Nat), i + f = e → k < i → Bk w d 0 0 m_Rules_end 0 0 (qi Q) 4 [oR 21, oI (nI k), oI (nI i)] [] σ := by
    intro f
    induction f with
    | zero =>
      intro i hi _
      have hi : i = e := by omega
      subst hi
      refine v_Rules_end_4 _ _ _ ?_
      rw [h79, nI_leI (by omega) (by omega)]
      refine ⟨fun _ => h, fun q => ⟨vp_in_nI (by omega) (by omega), ?_⟩⟩
      obtain ⟨p, hp, hpk⟩ := hout (by omega)
      rw [nI_clamp (by omega), (hS.tb hG (by omega)).2.2.2.1, hp, show jO (some p) = nI p from rfl, nI_ltI (by omega) (by omega)]
      exact ⟨fun _ => h, fun r => absurd hpk r⟩
    | succ f ih =>
      intro i hi hki
      refine v_Rules_end_4 _ _ _ ?_
      rw [h79, nI_leI (by omega) (by omega), nI_1]
      refine ⟨fun q => absurd q (by omega), fun _ => ⟨vp_in_nI (by omega) (by omega), ?_⟩⟩
      obtain ⟨p, hp, hpk⟩ := hin i hki (by omega)
      have hpi := (hG.2.1 i (by omega)).1 p hp
      rw [nI_clamp (by omega), (hS.tb hG (by omega)).2.2.2.1, hp, show jO (some p) = nI p from rfl, nI_ltI (by omega) (by omega)]
      exact ⟨fun r => absurd r (by omega), fun _ => ih (i + 1) (by omega) (by omega)⟩
  refine v_Rules_end _ _ hd ?_
  rw [nI_1]
  exact loop (e - (k + 1)) (k + 1) (by omega) (by omega)
/-- the block at hand grows -/
theorem JW.gr {n : Nat} (h : JW g N M σ0 σ s E tk) (hb : jB s ≠ []) (hC : bC (cb s) + n ≤ 20000) : JW g N M σ0 (wI σ 21 25 (nI (bC (cb s) + n))) (addC s n) E tk := by
  obtain ⟨h1, h2, h3, h4, h5, h6, h7, h8⟩ := h
  have O : ∀ a j, ¬ (a = 21 ∧ j = 25) → (wI σ 21 25 (nI (bC (cb s) + n))).1 a j = σ.1 a j := fun a j q => by rw [wI_1, if_neg q]
  have eg : ∀ b, (jB (addC s n)).getD b bl0 = gB (addC s n) b := fun b => rfl
  have eN : ∀ b, bN (gB (addC s n) b) = bN (gB s b) ∧ bA (gB (addC s n) b) = bA (gB s b) := fun b => by
    rw [addC_gB hb]; split
    · rename_i e; rw [e]; exact ⟨rfl, rfl⟩
    · exact ⟨rfl, rfl⟩
  refine ⟨h1.trans (Fr.rfl'.wI rfl), ⟨?_, ?_, fun b hq => ?_⟩, ⟨?_, h3.2.1, fun v hv => ?_⟩, fun _ => ?_, fun k hk => ?_, fun j hj => ?_, fun p hp => ?_, h8⟩
  · rw [O 21 22 (by omega), addC_len]; exact h2.1
  · rw [addC_len]; exact h2.2.1
  · rw [addC_len] at hq
    obtain ⟨a1, a2, a3, a4, a5, a6, a7, a8⟩ := h2.2.2 b hq
    rw [O 36 b (by omega), O 37 b (by omega), O 38 b (by omega), eg, eg, (eN b).1, (eN b).2, addC_K hb, addC_F hb, addC_F hb, addC_C hb, addC_len]
    refine ⟨a1, a2, a3, a4, a5, a6, fun q => ?_, ?_⟩
    · rw [if_neg (by omega)]; exact a7 q
    · split
      · rename_i e
        have : bC (gB s b) = bC (cb s) := by rw [e]; rfl
        omega
      · exact a8
  · rw [O 21 17 (by omega)]; exact h3.1
  · rw [O 28 v (by omega), O 29 v (by omega), O 30 v (by omega), O 31 v (by omega), O 32 v (by omega), O 33 v (by omega), O 34 v (by omega), O 35 v (by omega)]
    have := h3.2.2 v hv
    refine ⟨this.1, this.2.1, this.2.2.1, this.2.2.2.1, fun q => ?_⟩
    have z := this.2.2.2.2 q
    refine ⟨z.1, z.2.1, z.2.2.elim (fun ⟨b, q1, q2, q3⟩ => Or.inl ⟨b, by rw [addC_len]; exact q1, ?_, ?_⟩) Or.inr⟩
    · rw [eg, addC_K hb]; exact q2
    · rw [eg, addC_F hb]; exact q3
  · rw [O 21 24 (by omega), addC_len, addC_cbC hb]
    exact ⟨(h4 hb).1, by rw [wI_1, if_pos ⟨rfl, rfl⟩]⟩
  · rw [O 25 k (by omega), O 26 k (by omega), O 27 k (by omega)]; exact h5 k hk
  · rw [O 23 j (by omega), O 24 j (by omega)]; exact h6 j hj
  · rw [O 22 p (by omega)]; exact h7 p hp
theorem addC_ne {n : Nat} (hb : jB s ≠ []) : jB (addC s n) ≠ [] := by
  intro q
  have := addC_len (s := s) (n := n)
  rw [q] at this
  exact hb (List.length_eq_zero_iff.mp this.symm)
theorem rngL_cons {k e : Nat} (h : k < e) : rngL k e = k :: rngL (k + 1) e := by
  unfold rngL
  rw [show e - k = (e - (k + 1)) + 1 by omega, List.range_succ_eq_map, List.map_cons, List.map_map, Nat.add_zero]
  congr 1
  apply List.map_congr_left
  intro i _
  simp only [Function.comp]; omega
theorem rngL_nil {k e : Nat} (h : e ≤ k) : rngL k e = [] := by
  unfold rngL; rw [show e - k = 0 by omega]; rfl
theorem gv_ne : ∀ (L : List Nat) (s : JS), jB s ≠ [] → jB (L.foldl (gv1 g) s) ≠ [] ∧ bC (cb (L.foldl (gv1 g) s)) ≤ bC (cb s) + L.length ∧ bC (cb s) ≤ bC (cb (L.foldl (gv1 g) s)) := by
  intro L
  induction L with
  | nil => intro s h; exact ⟨h, Nat.le_refl _, Nat.le_refl _⟩
  | cons i L ih =>
    intro s h
    rw [List.foldl_cons]
    have st : jB (gv1 g s i) ≠ [] ∧ bC (cb (gv1 g s i)) ≤ bC (cb s) + 1 ∧ bC (cb s) ≤ bC (cb (gv1 g s i)) := by
      unfold gv1
      split
      · exact ⟨addC_ne (s := setC s i _) h, by rw [addC_cbC (s := setC s i _) h]; exact Nat.le_refl _, by rw [addC_cbC (s := setC s i _) h]; exact Nat.le_succ _⟩
      · split
        · exact ⟨addC_ne (s := setM s i _) h, by rw [addC_cbC (s := setM s i _) h]; exact Nat.le_refl _, by rw [addC_cbC (s := setM s i _) h]; exact Nat.le_succ _⟩
        · exact ⟨h, by omega, Nat.le_refl _⟩
    have := ih _ st.1
    simp only [List.length_cons]
    exact ⟨this.1, by omega, by omega⟩
theorem gv2_ne : ∀ (L : List Nat) (s : JS), jB s ≠ [] → jB (L.foldl (gv2 g) s) ≠ [] ∧ bC (cb (L.foldl (gv2 g) s)) ≤ bC (cb s) + L.length ∧ bC (cb s) ≤ bC (cb (L.foldl (gv2 g) s)) := by
  intro L
  induction L with
  | nil => intro s h; exact ⟨h, Nat.le_refl _, Nat.le_refl _⟩
  | cons i L ih =>
    intro s h
    rw [List.foldl_cons]
    have st : jB (gv2 g s i) ≠ [] ∧ bC (cb (gv2 g s i)) ≤ bC (cb s) + 1 ∧ bC (cb s) ≤ bC (cb (gv2 g s i)) := by
      unfold gv2
      split
      · exact ⟨addC_ne (s := setC s i _) h, by rw [addC_cbC (s := setC s i _) h]; exact Nat.le_refl _, by rw [addC_cbC (s := setC s i _) h]; exact Nat.le_succ _⟩
      · exact ⟨h, by omega, Nat.le_refl _⟩
    have := ih _ st.1
    simp only [List.length_cons]
    exact ⟨this.1, by omega, by omega⟩
theorem rngL_len {k e : Nat} : (rngL k e).length = e - k := by unfold rngL; simp
end
