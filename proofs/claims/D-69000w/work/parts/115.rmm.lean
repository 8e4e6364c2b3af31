/-! 115: the reference reads statements: a row of them -/
section
variable {w : Wd} {d n F : Nat} {tx : Nat → Int32} {σ0 σ : Sg} {x : RS} {s : NS} {a b b' p : Nat} {x1 : Int32}
theorem rm_statements (hM : SmM w tx n σ0 F) : SmM w tx n σ0 (F + 1) := by
  intro d σ x s a b b' p Q hd hH hS hab hb hb2 hb' hp h
  have loop : ∀ (f : Nat) (y : RS) (τ : Sg) (s1 : NS) (t : Tr), (∀ q, y = .ok q → n + 1 ≤ sF q + f) → MO n x y → StM tx n σ0 τ y s1 [] a b' → Fst s p (isO y) t s1 →
      (∀ σ', PoM tx n σ0 s [] p ((bdlP tx n (stmP tx n (F + 1)) f y).1, tap t (bdlP tx n (stmP tx n (F + 1)) f y).2) a b' σ' → Q σ') →
      ((¬ (τ.1 81 10) = 0 → Q τ) ∧ ((τ.1 81 10) = 0 → (((τ.1 81 6) = 1 → Bk w d 0 0 m_M_statements 0 0 (qv Q) 69 [oR 81, oI (nI p), none] [] τ) ∧ (¬ (τ.1 81 6) = 1 → OkI w (d - 1) m_M_isSign [vR 81, vI (59)] τ (fun r1 s1 => ((¬ r1 = 0 → Bk w d 0 0 m_M_statements 0 0 (qv Q) 69 [oR 81, oI (nI p), none] [] s1) ∧ (r1 = 0 → OkI w (d - 1) m_M_isWord [vR 81, vI (16)] s1 (fun r2 s2 => ((¬ r2 = 0 → Bk w d 0 0 m_M_statements 0 0 (qv Q) 69 [oR 81, oI (nI p), none] [] s2) ∧ (r2 = 0 → OkI w (d - 1) m_M_isWord [vR 81, vI (21)] s2 (fun r3 s3 => ((¬ r3 = 0 → Bk w d 0 0 m_M_statements 0 0 (qv Q) 69 [oR 81, oI (nI p), none] [] s3) ∧ (r3 = 0 → OkI w (d - 1) m_M_isWord [vR 81, vI (23)] s3 (fun r4 s4 => ((¬ r4 = 0 → Bk w d 0 0 m_M_statements 0 0 (qv Q) 69 [oR 81, oI (nI p), none] [] s4) ∧ (r4 = 0 → OkI w (d - 1) m_M_isWord [vR 81, vI (28)] s4 (fun r5 s5 => ((¬ r5 = 0 → Bk w d 0 0 m_M_statements 0 0 (qv Q) 69 [oR 81, oI (nI p), none] [] s5) ∧ (r5 = 0 → OkI w (d - 1) m_M_isWord [vR 81, vI (29)] s5 (fun r6 s6 => ((r6 = 0 → Q s6) ∧ (¬ r6 = 0 → Bk w d 0 0 m_M_statements 0 0 (qv Q) 69 [oR 81, oI (nI p), none] [] s6)))))))))))))))))))))) := by
    intro f
    induction f with
    | zero =>
      intro y τ s1 t hfu hmo hT hf hh
      cases y with
      | ok q => have := hfu q rfl; have := hT.inv.1; omega
      | error e =>
        refine ⟨fun _ => hh τ ⟨s1, hT, ?_⟩, fun q => absurd (hT.flt.mp q) (show ¬ false = true by decide)⟩
        exact hf.any rfl
    | succ f ih =>
      intro y τ s1 t hfu hmo hT hf hh
      have eN : bdlP tx n (stmP tx n (F + 1)) (f + 1) y = if begS y = true then ((bdlP tx n (stmP tx n (F + 1)) f (wtR tx n (isS (stmP tx n (F + 1) y).1 59) (stmP tx n (F + 1) y).1)).1, tap (stmP tx n (F + 1) y).2 (bdlP tx n (stmP tx n (F + 1)) f (wtR tx n (isS (stmP tx n (F + 1) y).1 59) (stmP tx n (F + 1) y).1)).2) else (y, .leaf) := rfl
      rw [eN] at hh
      have eS : stmP tx n (F + 1) y = if isK y 1 = true then namP tx n y else if isW y 16 = true then ifP tx n (stmP tx n F) y else if isW y 21 = true then caP tx n (stmP tx n F) y else if isW y 23 = true then foP tx n (stmP tx n F) y else if (isW y 28 || isW y 29) = true then (nxR tx n y, tN (if isW y 28 = true then 20 else 21, frI y, 0) .leaf .leaf) else (y, .leaf) := rfl
      have hm2 := hf.liv hp hp.1
      refine ⟨fun c => ?_, fun c => ?_⟩
      · cases y with
        | ok q => exact absurd (hT.flt.mpr rfl) c
        | error e =>
          refine hh τ ⟨s1, hT, ?_⟩
          exact hf.any rfl
      have ho := hT.flt.mp c
      have hT := hT.okb (b' := a) ho
      have hm1 := hT.many (Nat.le_refl _)
      have isw : isK y 2 = true → ∀ k, isW y k = true ↔ vaI y = k := by
        intro hk k
        refine ⟨fun q => (isW_k q).2, fun q => ?_⟩
        cases y with
        | error e => exact absurd ho (show ¬ false = true by decide)
        | ok u =>
          show (decide (sK u = 2) && decide (sV u = k)) = true
          rw [show decide (sK u = 2) = true from hk, show sV u = k from q]; simp
      have after : begS y = true → ∀ τ1, PoM tx n σ0 s1 [] p (stmP tx n (F + 1) y) a b' τ1 → OkV w (d - 1) m_M_wantSign [vR 81, vI 59] τ1 (fun s4 => Bk w d 0 0 m_M_statements 0 0 (qv Q) 0 [oR 81, oI (nI p), none] [] s4) := by
        intro hB τ1 ⟨s2, hT1, f1⟩
        rw [if_pos hB] at hh
        have hmy : MO n y (wtR tx n (isS (stmP tx n (F + 1) y).1 59) (stmP tx n (F + 1) y).1) := (MO.stm (F + 1)).trans MO.wt
        refine rm_sign (a' := a) (by omega) hT1 (by omega) (by omega) (fun τ2 hT2 => v_M_statements_0 _ _ ?_)
        exact ih _ τ2 s2 _ ((SL.wS (MO.stm (F + 1))).fuel hmy hT.invs hfu) (hmo.trans hmy) hT2 (Fst.cat hp.1 hf (f1.weak (fun o => MO.o MO.wt o)) (fun o => MO.o hmy o)) (fun σ' hσ' => hh σ' (by rw [tap_assoc] at hσ'; exact hσ'))
      have b119 : begS y = true → ¬ isK y 1 = true → (isK y 2 = true → (vaI y = 28 ∨ vaI y = 29)) → Bk w d 0 0 m_M_statements 0 0 (qv Q) 119 [oR 81, oI (nI p), none] [] τ := by
        intro hB hk1 hv
        refine v_M_statements_119 _ _ ?_
        rw [hT.knd ho, hT.fro ho]
        refine ⟨fun hk => after hB τ ?_, fun hk => ?_⟩
        · have nw : ∀ k, isW y k = false := fun k => Bool.eq_false_iff.mpr (fun q => hk (isW_k q).1)
          rw [eS, if_neg hk1, nw, nw, nw, nw, nw]
          exact PoM.nil (hT.weak (Nat.le_refl _) (by omega))
        · rw [hT.val hk (by decide)]
          have hv := hv hk
          have nw : ∀ k, k ≠ 28 → k ≠ 29 → isW y k = false := fun k h1 h2 => Bool.eq_false_iff.mpr (fun q => by
            have := (isW_k q).2
            rcases hv with r | r
            · exact h1 (this.symm.trans r)
            · exact h2 (this.symm.trans r))
          have hor : (isW y 28 || isW y 29) = true := by
            rw [Bool.or_eq_true, isw hk, isw hk]; exact hv
          have lf : ∀ k, k = (if isW y 28 = true then (20 : Int32) else 21) → OkI w (d - 1) m_M_add [vR 81, vI (nI p), vI k, vI (frI y), vI 0] τ (fun r2 s2 => OkV w (d - 1) m_M_next [vR 81] s2 (fun s3 => OkV w (d - 1) m_M_wantSign [vR 81, vI 59] s3 (fun s4 => Bk w d 0 0 m_M_statements 0 0 (qv Q) 0 [oR 81, oI (nI p), none] [] s4))) := by
            intro k hkk
            refine rm_leaf (b' := b') (by omega) hT (Nat.le_refl _) (by omega) (by omega) rfl hm2 hk (by decide) rfl (fun τ1 h1 => after hB τ1 ?_)
            rw [eS, if_neg hk1, nw 16 (by decide) (by decide), nw 21 (by decide) (by decide), nw 23 (by decide) (by decide), if_pos hor, ← hkk]
            exact h1
          refine ⟨fun c => lf 21 ?_, fun c => lf 20 ?_⟩
          · rw [if_neg (fun q => c ((isw hk 28).mp q))]
          · rw [if_pos ((isw hk 28).mpr c)]
      have b69 : begS y = true → Bk w d 0 0 m_M_statements 0 0 (qv Q) 69 [oR 81, oI (nI p), none] [] τ := by
        intro hB
        refine v_M_statements_69 _ _ ?_
        rw [hT.knd ho, hT.knd ho]
        refine ⟨fun hk1 => ⟨fun hk2 => b119 hB hk1 (fun q => absurd q hk2), fun hk2 => ?_⟩, fun hk1 => ?_⟩
        · rw [hT.val hk2 (by decide)]
          refine ⟨fun c => b119 hB hk1 (fun _ => Or.inl c), fun c1 => ⟨fun c => b119 hB hk1 (fun _ => Or.inr c), fun c2 => ?_⟩⟩
          refine rm_opened (b' := b') hM (by omega) (hH.mo hS.invs hmo) hT hk2 (by omega) hb' rfl hm2 (fun τ1 h1 => after hB τ1 ?_)
          rw [eS, if_neg hk1]
          unfold opnP at h1
          by_cases w16 : isW y 16 = true
          · rw [if_pos w16] at h1 ⊢; exact h1
          · rw [if_neg w16] at h1 ⊢
            by_cases w21 : isW y 21 = true
            · rw [if_pos w21] at h1 ⊢; exact h1
            · rw [if_neg w21] at h1 ⊢
              have w23 : isW y 23 = true := by
                unfold begS at hB
                have s59 : isS y 59 = false := Bool.eq_false_iff.mpr (fun q => absurd (isK_un hk2 (isS_k q).1) (by decide))
                have n28 : isW y 28 = false := Bool.eq_false_iff.mpr (fun q => c1 (isW_k q).2)
                have n29 : isW y 29 = false := Bool.eq_false_iff.mpr (fun q => c2 (isW_k q).2)
                rw [Bool.eq_false_iff.mpr hk1, Bool.eq_false_iff.mpr w16, Bool.eq_false_iff.mpr w21, n28, n29, s59] at hB
                simpa using hB
              rw [if_pos w23]; exact h1
        · refine rm_named (b' := b') (by omega) hT (by omega) hb' rfl hm2 (hH.mo hS.invs hmo).h0 hk1 (fun τ1 h1 => after hB τ1 ?_)
          rw [eS, if_pos hk1]; exact h1
      rw [hT.knd ho]
      refine ⟨fun k1 => b69 (by unfold begS; rw [k1]; rfl), fun k1 => rm_isS (by omega) hT ⟨fun r => b69 (by unfold begS; rw [b2_n0.mp r]; simp), fun r1 => rm_isW (by omega) hT ⟨fun r => b69 (by unfold begS; rw [b2_n0.mp r]; simp), fun r2 => rm_isW (by omega) hT ⟨fun r => b69 (by unfold begS; rw [b2_n0.mp r]; simp), fun r3 => rm_isW (by omega) hT ⟨fun r => b69 (by unfold begS; rw [b2_n0.mp r]; simp), fun r4 => rm_isW (by omega) hT ⟨fun r => b69 (by unfold begS; rw [b2_n0.mp r]; simp), fun r5 => rm_isW (by omega) hT ⟨fun r6 => ?_, fun r => b69 (by unfold begS; rw [b2_n0.mp r]; simp)⟩⟩⟩⟩⟩⟩⟩
      have hB : ¬ begS y = true := by
        unfold begS
        rw [Bool.eq_false_iff.mpr k1, b2_0.mp r1, b2_0.mp r2, b2_0.mp r3, b2_0.mp r4, b2_0.mp r5, b2_0.mp r6]; decide
      rw [if_neg hB] at hh
      refine hh τ ⟨s1, hT.weak (Nat.le_refl _) (by omega), ?_⟩
      rw [tap_leaf]; exact hf
  exact v_M_statements _ _ (by omega) (loop (n + 1) x σ s .leaf (fun q _ => by omega) MO.rfl' (hS.weak (Nat.le_refl _) hb) Fst.nil h)
theorem rm_statements0 : SmM w tx n σ0 0 := by
  intro d σ x s a b b' p Q hd hH hS hab hb hb2 hb' hp h
  cases x with
  | ok q =>
    have := (hH q rfl).1
    have := hS.inv.2.2.2.2.2.2
    omega
  | error e =>
    refine v_M_statements _ _ (by omega) ⟨fun _ => h σ (PoM.nil (hS.weak (Nat.le_refl _) hb)), fun q => absurd (hS.flt.mp q) (show ¬ false = true by decide)⟩
theorem rm_stm : ∀ F, SmM w tx n σ0 F
  | 0 => rm_statements0
  | F + 1 => rm_statements (rm_stm F)
end
