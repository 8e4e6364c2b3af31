/-! 087: the component reads expressions -/
def bnL : List Int32 := [0, 1, 2, 3, 3, 4, 4, 4, 4, 5, 5, 6, 6, 6]
theorem rd_binds {σ : Sg} {k : Nat} : rdI σ 1003 k = bnL.getD k 0 := rfl
theorem bn_clo : ∀ i, i < 14 → ∀ j, j < 14 → (bnL.getD i 0 < bnL.getD j 0 ↔ ¬ clo (nI j) ≤ clo (nI i)) := by decide
theorem lk_or {v : Int32} : ∀ (l : List (Int32 × Int32)), (l.all fun p => (List.range 14).any (fun j => decide (p.2 = nI j))) = true → lkI l v = -1 ∨ ∃ j, j < 14 ∧ lkI l v = nI j := by
  intro l
  induction l with
  | nil => intro _; exact Or.inl rfl
  | cons p l ih =>
    intro h
    rw [List.all_cons, Bool.and_eq_true, List.any_eq_true] at h
    rw [lkI]
    split
    · obtain ⟨j, h1, h2⟩ := h.1
      exact Or.inr ⟨j, List.mem_range.mp h1, of_decide_eq_true h2⟩
    · exact ih h.2
theorem sgI_or (x : RS) : sgI x = -1 ∨ ∃ j, j < 14 ∧ sgI x = nI j := by
  unfold sgI
  split
  · exact lk_or wdO (by decide)
  · split
    · exact lk_or sgO (by decide)
    · exact Or.inl rfl
theorem sgI_in {x : RS} (h : 0 ≤ sgI x) : ∃ j, j < 14 ∧ sgI x = nI j := by
  rcases sgI_or x with q | q
  · rw [q] at h; exact absurd h (by decide)
  · exact q
theorem sgI_k {x : RS} (h : 0 ≤ sgI x) : isO x = true ∧ isK x 0 = false := by
  unfold sgI at h
  by_cases q : isK x 2 = true
  · exact ⟨isK_o q, (isK_0 q (by decide)).1⟩
  · rw [if_neg q] at h
    by_cases q5 : isK x 5 = true
    · exact ⟨isK_o q5, (isK_0 q5 (by decide)).1⟩
    · rw [if_neg q5] at h; exact absurd h (by decide)
section
variable {w : Wd} {d n : Nat} {tx : Nat → Int32} {σ0 σ : Sg} {x : RS} {s : NS} {sg : List (Int32 × Int32)} {op : List Nat} {a b b' p : Nat} {x1 : Int32}
theorem rc_operator {Q : Int32 → Sg → Prop} (hd : 2 ≤ d) (hS : StC tx n σ0 σ x s sg op a b) (h : Q (sgI x) σ) : OkI w d m_Reader_operator [vR 17] σ Q := by
  unfold sgI at h
  refine v_Reader_operator _ (by omega) (rc_isK (by omega) hS ⟨fun q => rc_isK (by omega) hS ⟨fun q2 => ?_, fun q2 => ?_⟩, fun q => ?_⟩)
  · have q := b2_0.mp q
    have q2 := b2_n0.mp q2
    rw [if_neg (by rw [q]; decide), if_pos q2] at h
    rw [hS.val q2 (by decide)]
    generalize vaI x = v at h ⊢
    simp only [sgO, lkI] at h
    refine ⟨fun r => ?_, fun r1 => ⟨fun r => ?_, fun r2 => ⟨fun r => ?_, fun r3 => ⟨fun r => ?_, fun r4 => ⟨fun r => ?_, fun r5 => ⟨fun r => ?_, fun r6 => ⟨fun r => ?_, fun r7 => ⟨fun r => ?_, fun r8 => ⟨fun r => ?_, fun r9 => ⟨fun r => ?_, fun ra => ⟨fun r => ?_, fun rb => ?_⟩⟩⟩⟩⟩⟩⟩⟩⟩⟩⟩
    all_goals first | (subst r; exact h) | (rw [if_neg r1, if_neg r7, if_neg rb, if_neg r6, if_neg r8, if_neg r9, if_neg ra, if_neg r3, if_neg r4, if_neg r2, if_neg r5] at h; exact h)
  · rw [if_neg (by rw [b2_0.mp q]; decide), if_neg (by rw [b2_0.mp q2]; decide)] at h; exact h
  · have q := b2_n0.mp q
    rw [if_pos q] at h
    rw [hS.val q (by decide)]
    generalize vaI x = v at h ⊢
    simp only [wdO, lkI] at h
    refine ⟨fun r1 => ⟨fun r2 => ⟨fun r3 => ⟨fun r4 => ?_, fun r => ?_⟩, fun r => ?_⟩, fun r => ?_⟩, fun r => ?_⟩
    all_goals first | (subst r; exact h) | (rw [if_neg r1, if_neg r2, if_neg r3, if_neg r4] at h; exact h)
/-- depth and nesting told anew -/
theorem StC.dn {τ : Sg} {y : RS} (h : StC tx n σ0 σ x s sg op a b) (hF : Fr rdF σ τ) (g : ∀ k j, ¬ (k = 17 ∧ (j = 4 ∨ j = 5)) → τ.1 k j = σ.1 k j) (hy : ∀ e, x = .error e → y = x) (hy' : ∀ q, x = .ok q → ∃ k m, y = .ok (sDS q k m) ∧ τ.1 17 4 = nI k ∧ τ.1 17 5 = nI m ∧ k ≤ 60) : StC tx n σ0 τ y s sg op a b := by
  obtain ⟨g1, g2, g3, g4, g5, g6, g7, g8, g9⟩ := h
  refine ⟨g1.trans hF, ⟨g2.1, by rw [g 5 3 (by omega)]; exact g2.2.1, fun i hi => by rw [g 1 i (by omega)]; exact g2.2.2 i hi⟩, g3, g4.cong (fun i hi j _ => g _ _ (by omega)), by rw [g 7 9 (by omega)]; exact g5, ⟨by rw [g 17 9 (by omega)]; exact g6.1, by rw [g 17 10 (by omega)]; exact g6.2.1, fun i hi => by rw [g 18 i (by omega), g 19 i (by omega)]; exact g6.2.2.1 i hi, fun i hi => by rw [g 20 i (by omega)]; exact g6.2.2.2 i hi⟩, g7, g8, ?_⟩
  cases x with
  | error e => rw [hy e rfl]; exact ⟨by rw [g 17 2 (by omega)]; exact g9.1, g9.2.1, by rw [g 17 3 (by omega)]; exact g9.2.2.1, g9.2.2.2⟩
  | ok q =>
    obtain ⟨k, m, e1, e2, e3, e4⟩ := hy' q rfl
    subst e1
    obtain ⟨i1, i2, i3, i4, i5, i6, i7, i8, i9, i10, i11⟩ := g9
    obtain ⟨j1, j2, j3, j4, j5, j6, j7⟩ := i10
    exact ⟨by rw [g 17 2 (by omega)]; exact i1, by rw [g 5 8 (by omega)]; exact i2, by rw [g 5 6 (by omega)]; exact i3, by rw [g 5 5 (by omega)]; exact i4, fun r => by rw [g 5 7 (by omega)]; exact i5 r, by rw [g 5 4 (by omega)]; exact i6, i7.cg (fun j => g 2 j (by omega)) (fun j => g 3 j (by omega)) (fun j => g 4 j (by omega)), e2, e3, ⟨j1, j2, j3, j4, j5, j6, e4⟩, i11⟩
theorem StC.pushO {c : Nat} {y0 y1 y2 : Int32} (hS : StC tx n σ0 σ x s sg op a b) (hc : c < s.1) (hco : rp (s.2 c) = -1) (hn : c ∉ op) (h0 : y0 = nI op.length) (h1 : y1 = nI c) (h2 : y2 = nI op.length) (hl : op.length < 128) : StC tx n σ0 (wI (wI σ 20 (Int32.toNatClampNeg y0) y1) 17 10 (y2 + 1)) x s sg (op ++ [c]) a b := by
  subst h0 h1 h2
  rw [nI_clamp (by omega), nI_1]
  have g4 := hS.2.2.2.1
  have g5 := hS.2.2.2.2.1
  have g6 := hS.2.2.2.2.2.1
  have g7 := hS.2.2.2.2.2.2.1
  have g8 := hS.2.2.2.2.2.2.2.1
  have := hS.re (τ := wI (wI σ 20 op.length (nI c)) 17 10 (nI (op.length + 1))) (s' := s) (sg' := sg) (op' := op ++ [c]) (j := 0) ((Fr.rfl'.wI rfl).wI rfl) (fun k i hk => by simp only [wI_1]; rw [if_neg (by omega), if_neg (by omega)]) (g4.cong (fun i hi j _ => by simp only [wI_1]; rw [if_neg (by omega), if_neg (by omega)])) (by simp [wI_1, g5]) ⟨by simp [wI_1, g6.1], by simp [wI_1], fun i hi => by simp [wI_1]; exact g6.2.2.1 i hi, fun i hi => ?_⟩ (fun e he => ?_) ?_ (Nat.le_refl _)
  · exact this
  · rw [List.length_append, List.length_singleton] at hi
    rw [wI_1, if_neg (by omega), wI_1]
    split
    · rename_i q; rw [q.2]; simp [List.getD_eq_getElem?_getD]
    · rw [g6.2.2.2 i (by omega), List.getD_eq_getElem?_getD, List.getD_eq_getElem?_getD, List.getElem?_append_left (by omega)]
  · rw [List.mem_append, List.mem_singleton] at he
    rcases he with he | he
    · exact g7 e he
    · subst he; exact ⟨hc, hco⟩
  · rw [List.nodup_append]
    refine ⟨g8, by simp, fun e he f hf => ?_⟩
    rw [List.mem_singleton] at hf
    subst hf
    exact fun q => hn (q ▸ he)
theorem StC.pushS {z y0 : Int32} (hS : StC tx n σ0 σ x s sg op a b) (hl : sg.length < 64) : StC tx n σ0 (wI (wI (wI σ 18 sg.length z) 19 sg.length y0) 17 9 (nI (sg.length + 1))) x s (sg ++ [(z, y0)]) op a b := by
  have g4 := hS.2.2.2.1
  have g5 := hS.2.2.2.2.1
  have g6 := hS.2.2.2.2.2.1
  have g7 := hS.2.2.2.2.2.2.1
  have g8 := hS.2.2.2.2.2.2.2.1
  have := hS.re (τ := wI (wI (wI σ 18 sg.length z) 19 sg.length y0) 17 9 (nI (sg.length + 1))) (s' := s) (sg' := sg ++ [(z, y0)]) (op' := op) (j := 0) (((Fr.rfl'.wI rfl).wI rfl).wI rfl) (fun k i hk => by simp only [wI_1]; rw [if_neg (by omega), if_neg (by omega), if_neg (by omega)]) (g4.cong (fun i hi j _ => by simp only [wI_1]; rw [if_neg (by omega), if_neg (by omega), if_neg (by omega)])) (by simp [wI_1, g5]) ⟨by simp [wI_1], by simp [wI_1, g6.2.1], fun i hi => ?_, fun i hi => by simp [wI_1]; exact g6.2.2.2 i hi⟩ g7 g8 (Nat.le_refl _)
  · exact this
  · rw [List.length_append, List.length_singleton] at hi
    simp only [wI_1]
    by_cases q : i = sg.length
    · subst q
      simp [List.getD_eq_getElem?_getD]
    · rw [if_neg (by omega), if_neg (by omega), if_neg (by omega), if_neg (by omega), if_neg (by omega), if_neg (by omega)]
      have := g6.2.2.1 i (by omega)
      rw [List.getD_eq_getElem?_getD, List.getElem?_append_left (by omega), ← List.getD_eq_getElem?_getD]
      exact this
theorem StC.pay {q : PS} (hS : StC tx n σ0 σ (.ok q) s sg op a b) (hk : sK q ≠ 0) : s.1 + 4 ≤ a := by
  have h9 := hS.2.2.2.2.2.2.2.2
  obtain ⟨i1, i2, i3, i4, i5, i6, i7, i8, i9, i10, i11⟩ := h9
  have := i10.2.2.2.1 hk
  have := i10.2.2.1
  omega
end
