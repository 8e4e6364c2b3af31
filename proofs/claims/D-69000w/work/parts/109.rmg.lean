/-! 109: the reference reads expressions: the whole -/
section
variable {w : Wd} {d n F : Nat} {tx : Nat → Int32} {σ0 : Sg}
theorem rm_expression (hO : OpM w tx n σ0 F) : ExM w tx n σ0 F := by
  intro d σ x s op a b b' p Q hd hX hop hS hab hb hb2 hb3 hp h
  refine v_M_expression _ _ (by omega) ?_
  rw [hS.fle]
  cases x with
  | error e => exact ⟨fun o => absurd o (show ¬ false = true by decide), fun _ => h σ ⟨s, hS.weak (Nat.le_refl _) hb, (Fst.nil (o := false)).any rfl, fun o => absurd o (show ¬ false = true by decide)⟩⟩
  | ok q0 =>
    refine ⟨fun _ => ?_, fun o => absurd rfl o⟩
    obtain ⟨z1, z2, z3⟩ := hX q0 rfl
    have h9 := hS.2.2.2.2.2.2.2
    obtain ⟨i1, i2, i3, i4, i5, i6, i7, i8, i9, i10, i11⟩ := h9
    have hD60 := i10.2.2.2.2.2.2
    have h25 : σ.1 81 25 = nI op.length := hS.2.2.2.2.2.1
    have hS1 : StM tx n σ0 (wI σ 81 13 (σ.1 81 13 + 1)) (.ok (sDS q0 (sD q0) (sS q0 + 1))) s op a a := by
      refine (hS.okb (b' := a) rfl).dn (Fr.rfl'.wI rfl) (fun k j hk => by rw [wI_1, if_neg (by omega)]) (fun _ he => by cases he) (fun q hq => ?_)
      cases hq
      exact ⟨sD q0, sS q0 + 1, rfl, by rw [wI_1, if_neg (by omega)]; exact i8, by rw [wI_1, if_pos ⟨rfl, rfl⟩, i9, nI_1], hD60⟩
    have inv1 : InvS n (sDS q0 (sD q0) (sS q0 + 1)) := hS1.inv
    rw [h25, i8]
    have eE : exP tx n (opdP tx n F) (.ok q0) = (enX q0 (exlP tx n (opdP tx n F) (n + 1) (opdP tx n F (.ok (sDS q0 (sD q0) (sS q0 + 1)))).1).1, srT [] (opdP tx n F (.ok (sDS q0 (sD q0) (sS q0 + 1)))).2 (exlP tx n (opdP tx n F) (n + 1) (opdP tx n F (.ok (sDS q0 (sD q0) (sS q0 + 1)))).1).2) := rfl
    rw [eE] at h
    -- the loop over signs
    have loop : ∀ (f : Nat) (y : RS) (τ : Sg) (s1 : NS) (op1 : List Kp) (A : Nat) (T : Tr), (∀ q, y = .ok q → n + 1 ≤ sF q + f) → MO n (.ok (sDS q0 (sD q0) (sS q0 + 1))) y → StM tx n σ0 τ y s1 op1 A b' → A ≤ b' → s.1 ≤ s1.1 → (∀ k, k < s.1 → s1.2 k = s.2 k) →
        (isO y = true → ∃ l c t g, op1 = op ++ (l ++ [(c, t, g)]).map kpO ∧ KpR s s1 (l ++ [(c, t, g)]) ∧ A + l.length ≤ a ∧ (∀ q, y = .ok q → op.length + l.length ≤ sD q + sS q0 ∧ sD q0 + l.length ≤ sD q) ∧ T = fuT (l ++ [(c, t, g)]) (exlP tx n (opdP tx n F) f y).2) →
        (∀ σ', PoX tx n σ0 s op p (enX q0 (exlP tx n (opdP tx n F) f y).1, T) a b' σ' → Q σ') →
        Bk w d 0 0 m_M_expression 0 0 (qv Q) 38 [oR 81, oI (nI p), oI (nI op.length), oI (nI (sD q0)), oI (sgI y)] [] τ := by
      intro f
      -- no sign any more
      have stop : ∀ (y : RS) (τ : Sg) (s1 : NS) (op1 : List Kp) (A : Nat) (T : Tr), sgI y = -1 → MO n (.ok (sDS q0 (sD q0) (sS q0 + 1))) y → StM tx n σ0 τ y s1 op1 A b' → A ≤ b' → s.1 ≤ s1.1 → (∀ k, k < s.1 → s1.2 k = s.2 k) →
          (isO y = true → ∃ l c t g, op1 = op ++ (l ++ [(c, t, g)]).map kpO ∧ KpR s s1 (l ++ [(c, t, g)]) ∧ A + l.length ≤ a ∧ (∀ q, y = .ok q → op.length + l.length ≤ sD q + sS q0 ∧ sD q0 + l.length ≤ sD q) ∧ T = fuT (l ++ [(c, t, g)]) []) →
          (∀ σ', PoX tx n σ0 s op p (enX q0 y, T) a b' σ' → Q σ') →
          Bk w d 0 0 m_M_expression 0 0 (qv Q) 38 [oR 81, oI (nI p), oI (nI op.length), oI (nI (sD q0)), oI (sgI y)] [] τ := by
        intro y τ s1 op1 A T hsg hmo hT hAB hle hkk hok hh
        rw [hsg]
        refine v_M_expression_38 _ _ _ _ _ ⟨fun _ => ?_, fun c => absurd (by decide) c⟩
        cases y with
        | error e =>
          have fl : ¬ τ.1 81 10 = 0 := fun q => absurd (hT.flt.mp q) (show ¬ false = true by decide)
          have er : ∀ v5 v4, Q (wI (wI (wI τ 81 13 v5) 81 12 v4) 81 25 (nI op.length)) := by
            intro v5 v4
            refine hh _ ⟨s1, ?_, ?_, fun o => absurd o (show ¬ false = true by decide)⟩
            · have hT1 : StM tx n σ0 (wI (wI τ 81 13 v5) 81 12 v4) (.error e) s1 op1 A b' := hT.dn ((Fr.rfl'.wI rfl).wI rfl) (fun k j hk => by simp only [wI_1]; rw [if_neg (by omega), if_neg (by omega)]) (fun _ _ => rfl) (fun q hq => by cases hq)
              have := hT1.re (τ := wI (wI (wI τ 81 13 v5) 81 12 v4) 81 25 (nI op.length)) (s' := s1) (op' := op) (j := 0) (Fr.rfl'.wI rfl) (fun k i hk => by rw [wI_1 (j := 25), if_neg (by omega)]) (hT1.2.2.2.1.cong (fun i hi j _ => by rw [wI_1 (j := 25), if_neg (by omega)])) (by rw [wI_1 (j := 25), if_neg (by omega)]; exact hT1.2.2.2.2.1) (by simp [wI_1]) (fun o => absurd o (show ¬ false = true by decide)) (Nat.le_refl _)
              exact (this.erra rfl).weak (Nat.le_refl _) (Nat.le_refl _)
            · refine ⟨[], ⟨hle, fun k hk _ => hkk k hk, ?_⟩, fun o => absurd o (show ¬ false = true by decide)⟩
              rw [hkk p hp.1, List.append_nil]; rfl
          exact ⟨fun _ => ⟨fun _ => er _ _, fun q => absurd q fl⟩, fun _ => ⟨fun _ => er _ _, fun q => absurd q fl⟩⟩
        | ok q =>
          obtain ⟨l, c, t, g, e1, e2, e3, e4, e5⟩ := hok rfl
          have m := hmo.2 _ q rfl rfl inv1
          have m3 : sS q = sS q0 + 1 := m.2.2.1
          have m4 : sD q0 ≤ sD q := m.2.2.2
          have m60 := m.1.2.2.2.2.2.2
          have e4 := e4 q rfl
          have t13 : τ.1 81 13 - 1 = nI (sS q0) := by
            have : τ.1 81 13 = nI (sS q) := hT.2.2.2.2.2.2.2.2.2.2.2.2.2.2.2.1
            rw [this, m3, nI_pred]
          have t12 : τ.1 81 12 = nI (sD q) := hT.2.2.2.2.2.2.2.2.2.2.2.2.2.2.1
          have t25 : τ.1 81 25 - 1 = nI (op.length + ((l ++ [(c, t, g)]).length - 1)) := by
            have := hT.2.2.2.2.2.1
            rw [this, e1]
            have e6 : (op ++ (l ++ [(c, t, g)]).map kpO).length = op.length + l.length + 1 := by simp; omega
            rw [e6, nI_pred]
            congr 1
            simp
          have fl := hT.flt.mpr rfl
          rw [t13, t12, t25]
          have fin : ∀ v4, v4 = nI (if sS q0 = 0 then sD q0 else sD q) → OkI w (d - 1) m_M_split [vR 81, vI (nI op.length), vI (nI (op.length + ((l ++ [(c, t, g)]).length - 1)))] (wI (wI τ 81 13 (nI (sS q0))) 81 12 v4) (fun r1 t1 => OkV w (d - 1) m_M_hang [vR 81, vI r1, vI (nI p)] t1 (fun t2 => Q (wI t2 81 25 (nI op.length)))) := by
            intro v4 hv4
            have hT1 : StM tx n σ0 (wI (wI τ 81 13 (nI (sS q0))) 81 12 v4) (enX q0 (.ok q)) s1 op1 A b' := by
              refine hT.dn ((Fr.rfl'.wI rfl).wI rfl) (fun k j hk => by simp only [wI_1]; rw [if_neg (by omega), if_neg (by omega)]) (fun _ he => by cases he) (fun q' hq => ?_)
              cases hq
              exact ⟨if sS q0 = 0 then sD q0 else sD q, sS q0, rfl, by simp [wI_1, hv4], by simp [wI_1], by split <;> omega⟩
            rw [e1] at hT1
            refine xm_last (a := a) (b' := b') (s := s) (by simp; omega) rfl hT1 (by simp) (by simp; omega) (by omega) hb3 (by simp; omega) hle hkk e2 hp rfl rfl ?_
            rw [← fuT_nil, ← e5]
            exact hh
          refine ⟨fun c0 => ⟨fun q => absurd fl q, fun _ => fin _ ?_⟩, fun c0 => ⟨fun q => absurd fl q, fun _ => fin _ ?_⟩⟩
          · have : ¬ sS q0 = 0 := fun z => c0 (by rw [z]; rfl)
            rw [if_neg this]
          · have : sS q0 = 0 := by
              have c0 : nI (sS q0) = nI 0 := c0
              exact (nI_eq (by omega) (by decide)).mp c0
            rw [if_pos this]
      induction f with
      | zero =>
        intro y τ s1 op1 A T hfu hmo hT hAB hle hkk hok hh
        cases y with
        | ok q => have := hfu q rfl; have := hT.inv.1; omega
        | error e => exact stop (.error e) τ s1 op1 A T rfl hmo hT hAB hle hkk (fun o => absurd o (show ¬ false = true by decide)) hh
      | succ f ih =>
        intro y τ s1 op1 A T hfu hmo hT hAB hle hkk hok hh
        have eN : exlP tx n (opdP tx n F) (f + 1) y = if 0 ≤ sgI y then ((exlP tx n (opdP tx n F) f (opdP tx n F (nxR tx n (opR y))).1).1, ((sgI y, frI y), (opdP tx n F (nxR tx n (opR y))).2) :: (exlP tx n (opdP tx n F) f (opdP tx n F (nxR tx n (opR y))).1).2) else (y, []) := rfl
        by_cases hs : 0 ≤ sgI y
        · obtain ⟨j, hj, ej⟩ := sgI_in hs
          have hk := sgI_k hs
          rw [eN, if_pos hs] at hok hh
          obtain ⟨l, c, t, g, e1, e2, e3, e4, e5⟩ := hok hk.1
          obtain ⟨q1, eq1⟩ : ∃ q1, y = .ok q1 := by
            cases y with
            | error e => exact absurd hk.1 (show ¬ false = true by decide)
            | ok r => exact ⟨r, rfl⟩
          have e4 := e4 q1 eq1
          have m := hmo.2 _ q1 rfl eq1 inv1
          have m3 : sS q1 = sS q0 + 1 := m.2.2.1
          have m4 : sD q0 ≤ sD q1 := m.2.2.2
          have m60 := m.1.2.2.2.2.2.2
          have hk1 : sK q1 ≠ 0 := by have := hk.2; rw [eq1] at this; exact of_decide_eq_false this
          have eo1 : op1 = (op ++ l.map kpO) ++ [(c, g.1, g.2)] := by rw [e1, List.map_append, ← List.append_assoc]; rfl
          have lo1 : op1.length = op.length + l.length + 1 := by rw [eo1]; simp; omega
          have t25 : τ.1 81 25 - 1 = nI (op.length + l.length) := by rw [hT.2.2.2.2.2.1, lo1, nI_pred]
          refine v_M_expression_38 _ _ _ _ _ ⟨fun c0 => ?_, fun _ => ?_⟩
          · rw [ej] at c0; exact absurd c0 (nI_pos (by omega))
          · rw [t25, hT.fro hk.1, nI_clamp (by omega)]
            have hin : vp_in (nI (op.length + l.length)) 200 := vp_in_nI (by omega) (by omega)
            refine ⟨hin, hin, ?_⟩
            have hpay : s1.1 + 4 ≤ A := by rw [eq1] at hT; exact hT.pay hk1
            rw [eo1] at hT
            have lol : (op ++ l.map kpO).length = op.length + l.length := by simp
            have hT1 := (hT.okb (b' := A) hk.1).sgn (v := sgI y) (pl := frI y) (by rw [lol]; omega)
            rw [lol] at hT1
            refine rm_open (by omega) hT1 (Nat.le_refl _) (fun τ2 hT2 => ?_)
            have ok2 : ∀ q, opR y = .ok q → sK q ≠ 0 := by
              intro q hq
              rw [eq1] at hq
              unfold opR at hq
              dsimp only at hq
              split at hq
              · cases hq
              · cases hq; exact hk1
            refine rm_next2 (a' := A - 4) (by omega) hT2 (Nat.le_refl _) (fun q hq => ⟨by omega, fun k0 => absurd k0 (ok2 q hq)⟩) (fun τ3 hT3 => ?_)
            have hmn : MO n y (nxR tx n (opR y)) := MO.op.trans MO.nx
            have lop3 : (op ++ l.map kpO ++ [(c, sgI y, frI y)]).length = op.length + l.length + 1 := by rw [List.length_append, lol]; rfl
            refine hO (d - 1) τ3 _ s1 _ (A - 4) A b' _ (by omega) (fun q hq => ?_) (by rw [lop3]; omega) hT3 (by omega) (by omega) (by omega) hb3 (fun τ4 ⟨s4, op4, hT4, g1, g2, g3, g4, g5⟩ => ?_)
            · obtain ⟨u, hu⟩ : ∃ u, opR y = .ok u := by
                cases hq2 : opR y with
                | error e => rw [hq2] at hq; cases hq
                | ok u => exact ⟨u, rfl⟩
              have hu2 : sD u = sD q1 + 1 ∧ sS u = sS q1 := by
                rw [eq1] at hu
                unfold opR at hu
                dsimp only at hu
                split at hu
                · cases hu
                · cases hu; exact ⟨rfl, rfl⟩
              rw [hu] at hq
              have inu := MO.op.2 q1 u eq1 hu m.1
              have mm := MO.nx.2 u q rfl hq inu.1
              rw [lop3]
              omega
            refine rm_signAt (by omega) hT4 ?_
            have hmo2 : MO n y (opdP tx n F (nxR tx n (opR y))).1 := hmn.trans (MO.opd F)
            refine ih _ τ4 s4 op4 (A - 4) T ?_ (hmo.trans hmo2) hT4 (by omega) (by omega) (fun k hk' => by rw [g2 k (by omega)]; exact hkk k hk') (fun o => ?_) hh
            · have sl : SL n y (opdP tx n F (nxR tx n (opR y))).1 := by
                refine SL.mo (SL.nx MO.op ?_) (MO.opd F) hmn
                cases hq2 : opR y with
                | error e => rfl
                | ok u => exact decide_eq_false (ok2 u hq2)
              exact sl.fuel hmo2 (fun q hq => by rw [eq1] at hq; cases hq; exact m.1) hfu
            · obtain ⟨c', g', e6, hE⟩ := g5 o
              refine ⟨l ++ [(c, t, sgI y, frI y)], c', (opdP tx n F (nxR tx n (opR y))).2, g', ?_, ?_, by simp; omega, fun q hq => ?_, ?_⟩
              · rw [e6]
                simp [kpO]
              · intro z hz
                rw [List.mem_append, List.mem_singleton] at hz
                rcases hz with hz | hz
                · have hz2 : ∃ z2, z2 ∈ l ++ [(c, t, g)] ∧ z2.1 = z.1 ∧ z2.2.1 = z.2.1 := by
                    rw [List.mem_append, List.mem_singleton] at hz
                    rcases hz with hz | hz
                    · exact ⟨z, by simp [hz], rfl, rfl⟩
                    · subst hz; exact ⟨(c, t, g), by simp, rfl, rfl⟩
                  obtain ⟨z2, h6, h7, h8⟩ := hz2
                  have := e2 z2 h6
                  rw [h7, h8] at this
                  exact ⟨this.1, this.2.mono (Nat.le_refl _) g1 (fun k _ hk' => by rw [g2 k hk']; exact ⟨rfl, rfl⟩)⟩
                · subst hz
                  exact ⟨by have := hE.1; show s.1 ≤ c'; omega, (hE.2.2.2.2 rfl).mono hle (Nat.le_refl _) (fun k _ _ => ⟨rfl, rfl⟩)⟩
              · have mq := hmo2.2 q1 q eq1 hq m.1
                obtain ⟨u, hu⟩ : ∃ u, opR y = .ok u := by
                  cases hq2 : opR y with
                  | error e =>
                    have := ((MO.nx (tx := tx) (n := n)).trans (MO.opd (tx := tx) F)).1 e hq2
                    rw [this] at hq; cases hq
                  | ok u => exact ⟨u, rfl⟩
                have hu2 : sD u = sD q1 + 1 := by
                  rw [eq1] at hu
                  unfold opR at hu
                  dsimp only at hu
                  split at hu
                  · cases hu
                  · cases hu; rfl
                have inu := MO.op.2 q1 u eq1 hu m.1
                have mm := ((MO.nx (tx := tx)).trans (MO.opd F)).2 u q hu hq inu.1
                rw [List.length_append, List.length_singleton]
                omega
              · rw [e5]
                exact fuT_step
        · rw [eN, if_neg hs] at hok hh
          rcases sgI_or y with e | ⟨j, hj, e⟩
          · exact stop y τ s1 op1 A T e hmo hT hAB hle hkk hok hh
          · rw [e] at hs
            exact absurd (Int32.not_lt.mp (nI_pos (by omega))) hs
    refine hO (d - 1) _ _ s op a a b' _ (by omega) (fun q hq => ?_) (by omega) hS1 (Nat.le_refl _) (by omega) (by omega) hb3 (fun τ1 ⟨s1, op1, hT1, g1, g2, g3, g4, g5⟩ => ?_)
    · cases hq
      exact ⟨z1, by show op.length + 1 ≤ sD q0 + (sS q0 + 1); omega, by show sS q0 + 1 ≤ sD q0 + 1; omega⟩
    refine rm_signAt (by omega) hT1 ?_
    have hmo := MO.opd (tx := tx) (n := n) F (x := .ok (sDS q0 (sD q0) (sS q0 + 1)))
    refine loop (n + 1) _ τ1 s1 op1 a _ (fun q hq => by omega) hmo hT1 (by omega) g1 g2 (fun o => ?_) h
    obtain ⟨c', g', e6, hE⟩ := g5 o
    refine ⟨[], c', _, g', by rw [e6]; rfl, fun z hz => ?_, by simp, fun q hq => ?_, rfl⟩
    · have hz : z = (c', (opdP tx n F (.ok (sDS q0 (sD q0) (sS q0 + 1)))).2, g') := by simpa using hz
      subst hz
      exact ⟨hE.1, hE.2.2.2.2 rfl⟩
    · have mq := hmo.2 _ q rfl hq inv1
      have m4 : sD q0 ≤ sD q := mq.2.2.2
      show op.length + 0 ≤ _ ∧ sD q0 + 0 ≤ _
      omega
end
