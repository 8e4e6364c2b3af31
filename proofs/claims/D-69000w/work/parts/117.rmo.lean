/-! 117: the reference reads ladders: rows -/
section
variable {w : Wd} {d n F : Nat} {tx : Nat → Int32} {σ0 σ : Sg} {x : RS} {s : NS} {a b b' p : Nat} {x1 : Int32} {Q : Sg → Prop}
theorem rm_row (hd : 18 ≤ d) (hS : StM tx n σ0 σ x s [] a b) (hab : a ≤ b) (hb : b + 8 ≤ b') (hb' : b' ≤ 32000) (h1 : x1 = nI p) (hp : Liv s p) (h : ∀ σ', PoM tx n σ0 s [] p (rowP tx n x) a b' σ' → Q σ') : OkV w d m_M_row [vR 81, vI x1] σ Q := by
  have hmx := hS.many hab
  unfold rowP at h
  dsimp only at h
  refine v_M_row _ _ (by omega) (rm_add (by omega) hS hab (by omega) h1 hp (fun σ1 hS1 => ?_))
  have hq0 := hS.fro
  generalize σ.1 81 7 = q0 at hS1 hq0
  have hm1 := add_liv (k := 24) (q := q0) (v := 0) hp.1 (by omega : s.1 < 2 ^ 30)
  generalize es : putN (addN s 24 q0 0) p s.1 = s0 at hS1 hm1
  refine rm_cell (b' := b + 6) (by omega) hS1 (by omega) (by omega) (by omega) rfl hm1 (fun σ2 ⟨s2, hS2, f2⟩ => ?_)
  have hmC : MO n x (celP tx n x).1 := MO.cel
  generalize celP tx n x = C at h hS2 f2 hmC
  have hm2 := f2.liv hm1 hm1.1
  have loop : ∀ (f : Nat) (y : RS) (τ : Sg) (s1 : NS) (t : Tr) (B : Nat), (∀ q, y = .ok q → n + 1 ≤ sF q + f) → MO n C.1 y → StM tx n σ0 τ y s1 [] (a + 1) B → a + 1 ≤ B → B ≤ b' → Fst s2 s.1 (isO y) t s1 →
      (∀ σ', PoM tx n σ0 s [] p (wtR tx n (isS (rwlP tx n f y).1 59) (rwlP tx n f y).1, tN (24, frI x, 0) (tap C.2 (tap t (rwlP tx n f y).2)) .leaf) a b' σ' → Q σ') →
      Bk w d 0 0 m_M_row 0 0 (qv Q) 18 [oR 81, none, oI (nI s.1), none] [] τ := by
    intro f
    have stop : ∀ (y : RS) (τ : Sg) (s1 : NS) (t : Tr) (B : Nat), MO n C.1 y → StM tx n σ0 τ y s1 [] (a + 1) B → a + 1 ≤ B → B ≤ b' → Fst s2 s.1 (isO y) t s1 →
        (∀ σ', PoM tx n σ0 s [] p (wtR tx n (isS y 59) y, tN (24, frI x, 0) (tap C.2 (tap t .leaf)) .leaf) a b' σ' → Q σ') → OkV w (d - 1) m_M_wantSign [vR 81, vI 59] τ (fun s1 => Q s1) := by
      intro y τ s1 t B hmo hT hB1 hB2 hf hh
      refine rm_sign (a' := a) (by omega) hT hB1 (by omega) (fun τ1 hT1 => hh τ1 ⟨s1, hT1.weak (Nat.le_refl _) hB2, ?_⟩)
      have fz := Fst.cat hm1.1 f2 hf (fun o => MO.o hmo o)
      subst es
      rw [tap_leaf]
      exact Fst.node hp.1 (fz.weak (fun o => MO.o MO.wt o)) (fun o => hq0 (MO.o ((hmC.trans hmo).trans MO.wt) o))
    induction f with
    | zero =>
      intro y τ s1 t B hfu hmo hT hB1 hB2 hf hh
      cases y with
      | ok q => have := hfu q rfl; have := hT.inv.1; omega
      | error e => exact v_M_row_18 _ _ ⟨fun _ => stop _ τ s1 t B hmo hT hB1 hB2 hf hh, fun c => absurd (hT.flt.mp c) (show ¬ false = true by decide)⟩
    | succ f ih =>
      intro y τ s1 t B hfu hmo hT hB1 hB2 hf hh
      have hm3 := hf.liv hm2 hm2.1
      have eN : rwlP tx n (f + 1) y = if isO y = true ∧ isS y 59 = false then ((rwlP tx n f (celP tx n (if isS y 124 = true then nxR tx n y else y)).1).1, tap (if isS y 124 = true then tN (29, frI y, 0) .leaf .leaf else .leaf) (tap (celP tx n (if isS y 124 = true then nxR tx n y else y)).2 (rwlP tx n f (celP tx n (if isS y 124 = true then nxR tx n y else y)).1).2)) else (y, .leaf) := rfl
      rw [eN] at hh
      refine v_M_row_18 _ _ ⟨fun c => ?_, fun c => rm_isS (by omega) hT ⟨fun r => ?_, fun r => ?_⟩⟩
      · have ho : ¬ (isO y = true ∧ isS y 59 = false) := fun q => c (hT.flt.mpr q.1)
        rw [if_neg ho] at hh
        exact stop _ τ s1 t B hmo hT hB1 hB2 hf hh
      · have ho : ¬ (isO y = true ∧ isS y 59 = false) := fun q => by rw [b2_n0.mp r] at q; exact absurd q.2 (by decide)
        rw [if_neg ho] at hh
        exact stop _ τ s1 t B hmo hT hB1 hB2 hf hh
      · have ho := hT.flt.mp c
        rw [if_pos ⟨ho, b2_0.mp r⟩] at hh
        have hT' := hT.okb (b' := a + 1) ho
        have go : ∀ (z : RS) (u : Tr) (τ1 : Sg) (s3 : NS), (if isS y 124 = true then nxR tx n y else y) = z → (if isS y 124 = true then tN (29, frI y, 0) .leaf .leaf else .leaf) = u → MO n y z → StM tx n σ0 τ1 z s3 [] (a + 1) (a + 2) → Fst s1 s.1 (isO z) u s3 → OkV w (d - 1) m_M_readCell [vR 81, vI (nI s.1)] τ1 (fun s5 => Bk w d 0 0 m_M_row 0 0 (qv Q) 18 [oR 81, none, oI (nI s.1), none] [] s5) := by
          intro z u τ1 s3 ez eu hyz hT1 f3
          rw [ez, eu] at hh
          have hm4 := f3.liv hm3 hm3.1
          refine rm_cell (b' := b') (by omega) hT1 (by omega) (by omega) (by omega) rfl hm4 (fun τ2 ⟨s4, hT2, f4⟩ => ?_)
          have hmz : MO n y (celP tx n z).1 := hyz.trans MO.cel
          refine ih _ τ2 s4 _ b' ((SL.pre hyz SL.cel MO.cel).fuel hmz hT.invs hfu) (hmo.trans hmz) hT2 (by omega) (Nat.le_refl _) (Fst.cat hm2.1 hf (Fst.cat hm3.1 f3 f4 (fun o => MO.o MO.cel o)) (fun o => MO.o hmz o)) (fun σ' hσ' => hh σ' (by simpa only [tap_assoc] using hσ'))
        refine rm_isS (by omega) hT' ⟨fun r2 => ?_, fun r2 => ?_⟩
        · have r2 := b2_0.mp r2
          exact go y .leaf τ s1 (if_neg (by rw [r2]; decide)) (if_neg (by rw [r2]; decide)) MO.rfl' (hT'.weak (Nat.le_refl _) (by omega)) Fst.nil
        · have r2 := b2_n0.mp r2
          refine rm_leaf (b' := a + 2) (by omega) hT' (Nat.le_refl _) (by omega) (by omega) rfl hm3 (isS_k r2).1 (by decide) (hT'.fro ho) (fun τ1 ⟨s3, hT1, f3⟩ => ?_)
          exact go _ _ τ1 s3 (if_pos r2) (if_pos r2) MO.nx hT1 f3
  exact loop (n + 1) C.1 σ2 s2 .leaf (b + 6) (fun q _ => by omega) MO.rfl' hS2 (by omega) (by omega) Fst.nil h
theorem rm_ladder (hd : 19 ≤ d) (hS : StM tx n σ0 σ x s [] a b) (hk : isW x 37 = true) (hb : a + 20 ≤ b') (hb' : b' ≤ 32000) (h1 : x1 = nI p) (hp : Liv s p) (h : ∀ σ', PoM tx n σ0 s [] p (ladP tx n x) a b' σ' → Q σ') : OkV w d m_M_ladder [vR 81, vI x1] σ Q := by
  have ho := isW_o hk
  have hS := hS.okb (b' := a) ho
  have hmx := hS.many (Nat.le_refl _)
  unfold ladP at h
  dsimp only at h
  refine v_M_ladder _ _ (by omega) (rm_add (by omega) hS (Nat.le_refl _) (by omega) h1 hp (fun σ1 hS1 => ?_))
  rw [hS.fro ho] at hS1
  have hm1 := add_liv (k := 22) (q := frI x) (v := 0) hp.1 (by omega : s.1 < 2 ^ 30)
  generalize es : putN (addN s 22 (frI x) 0) p s.1 = s0 at hS1 hm1
  refine rm_next (a' := a) (by omega) hS1 (by omega) (fun q hq => ⟨by omega, fun k0 => absurd k0 ((isK_0 (isW_k hk).1 (by decide)).2 q hq)⟩) (fun σ2 hS2 => ?_)
  have loop : ∀ (f : Nat) (y : RS) (τ : Sg) (s1 : NS) (t : Tr) (B : Nat), (∀ q, y = .ok q → n + 1 ≤ sF q + f) → StM tx n σ0 τ y s1 [] a B → a ≤ B → B ≤ b' → Fst s0 s.1 (isO y) t s1 →
      (∀ σ', PoM tx n σ0 s [] p (wtR tx n (isW (lalP tx n f y).1 38) (lalP tx n f y).1, tN (22, frI x, 0) (tap t (lalP tx n f y).2) .leaf) a b' σ' → Q σ') →
      Bk w d 0 0 m_M_ladder 0 0 (qv Q) 17 [oR 81, none, oI (nI s.1), none] [] τ := by
    intro f
    have stop : ∀ (y : RS) (τ : Sg) (s1 : NS) (t : Tr) (B : Nat), StM tx n σ0 τ y s1 [] a B → a ≤ B → B ≤ b' → Fst s0 s.1 (isO y) t s1 →
        (∀ σ', PoM tx n σ0 s [] p (wtR tx n (isW y 38) y, tN (22, frI x, 0) (tap t .leaf) .leaf) a b' σ' → Q σ') → OkV w (d - 1) m_M_wantWord [vR 81, vI 38] τ (fun s1 => Q s1) := by
      intro y τ s1 t B hT hB1 hB2 hf hh
      refine rm_word (a' := a) (by omega) hT hB1 (by omega) (fun τ1 hT1 => hh τ1 ⟨s1, hT1.weak (Nat.le_refl _) hB2, ?_⟩)
      subst es
      rw [tap_leaf]
      exact Fst.node hp.1 (hf.weak (fun o => MO.o MO.wt o)) (fun _ => rfl)
    induction f with
    | zero =>
      intro y τ s1 t B hfu hT hB1 hB2 hf hh
      cases y with
      | ok q => have := hfu q rfl; have := hT.inv.1; omega
      | error e => exact v_M_ladder_17 _ _ (rm_isW (by omega) hT ⟨fun _ => stop _ τ s1 t B hT hB1 hB2 hf hh, fun c => absurd rfl c⟩)
    | succ f ih =>
      intro y τ s1 t B hfu hT hB1 hB2 hf hh
      have hm2 := hf.liv hm1 hm1.1
      have eN : lalP tx n (f + 1) y = if isW y 39 = true then ((lalP tx n f (rngP tx n y).1).1, tap (rngP tx n y).2 (lalP tx n f (rngP tx n y).1).2) else (y, .leaf) := rfl
      rw [eN] at hh
      refine v_M_ladder_17 _ _ (rm_isW (by omega) hT ⟨fun r => ?_, fun r => ?_⟩)
      · rw [if_neg (by rw [b2_0.mp r]; decide)] at hh
        exact stop _ τ s1 t B hT hB1 hB2 hf hh
      · have r := b2_n0.mp r
        rw [if_pos r] at hh
        have hoy := isW_o r
        have hT' := hT.okb (b' := a) hoy
        have hmy := hT'.many (Nat.le_refl _)
        refine rm_add (by omega) hT' (Nat.le_refl _) (by omega) rfl hm2 (fun τ1 hT1 => ?_)
        rw [hT'.fro hoy] at hT1
        have hm3 := add_liv (k := 23) (q := frI y) (v := 0) hm2.1 (by omega : s1.1 < 2 ^ 30)
        generalize es1 : putN (addN s1 23 (frI y) 0) s.1 s1.1 = s1' at hT1 hm3
        refine rm_next (a' := a) (by omega) hT1 (by omega) (fun q hq => ⟨by omega, fun k0 => absurd k0 ((isK_0 (isW_k r).1 (by decide)).2 q hq)⟩) (fun τ2 hT2 => ?_)
        -- rows
        have eR : rngP tx n y = (wtR tx n (isW (rnlP tx n (n + 1) (nxR tx n y)).1 40) (rnlP tx n (n + 1) (nxR tx n y)).1, tN (23, frI y, 0) (rnlP tx n (n + 1) (nxR tx n y)).2 .leaf) := rfl
        have inner : ∀ (g : Nat) (z : RS) (τ3 : Sg) (s3 : NS) (u : Tr), (∀ q, z = .ok q → n + 1 ≤ sF q + g) → MO n y z → StM tx n σ0 τ3 z s3 [] a (a + 1) → Fst s1' s1.1 (isO z) u s3 →
            ((rnlP tx n (n + 1) (nxR tx n y)).1 = (rnlP tx n g z).1) → ((rnlP tx n (n + 1) (nxR tx n y)).2 = tap u (rnlP tx n g z).2 ∨ isO (rnlP tx n g z).1 = false) →
            OkV w (d - 1) m_M_row [vR 81, vI (nI s1.1)] τ3 (fun s5 => Bk w d 0 0 m_M_ladder 0 0 (qv Q) 48 [oR 81, none, oI (nI s.1), oI (nI s1.1)] [] s5) := by
          have done : ∀ (z : RS) (τ3 : Sg) (s3 : NS) (u : Tr), MO n y z → StM tx n σ0 τ3 z s3 [] a (a + 12) → Fst s1' s1.1 (isO z) u s3 → (rnlP tx n (n + 1) (nxR tx n y)).1 = z → ((rnlP tx n (n + 1) (nxR tx n y)).2 = u ∨ isO z = false) →
              OkV w (d - 1) m_M_wantWord [vR 81, vI 40] τ3 (fun s2 => Bk w d 0 0 m_M_ladder 0 0 (qv Q) 17 [oR 81, none, oI (nI s.1), none] [] s2) := by
            intro z τ3 s3 u hyz hT3 f3 e1 e2
            rw [eR, e1] at hh
            dsimp only at hh
            have hmw : MO n y (wtR tx n (isW z 40) z) := hyz.trans MO.wt
            refine rm_word (a' := a) (by omega) hT3 (by omega) (by omega) (fun τ4 hT4 => ?_)
            refine ih _ τ4 s3 (tap t (tN (23, frI y, 0) (rnlP tx n (n + 1) (nxR tx n y)).2 .leaf)) (a + 12) ((SL.wW hyz).fuel hmw hT.invs hfu) hT4 (by omega) (by omega) ?_ (fun σ' hσ' => hh σ' (by simpa only [tap_assoc] using hσ'))
            have f4 : Fst s1' s1.1 (isO (wtR tx n (isW z 40) z)) (rnlP tx n (n + 1) (nxR tx n y)).2 s3 := by
              rcases e2 with e2 | e2
              · rw [e2]; exact f3.weak (fun o => MO.o MO.wt o)
              · refine f3.any ?_
                cases z with
                | ok q => exact absurd e2 (show ¬ true = false by decide)
                | error e => rfl
            have f5 : Fst s1 s.1 (isO (wtR tx n (isW z 40) z)) (tN (23, frI y, 0) (rnlP tx n (n + 1) (nxR tx n y)).2 .leaf) s3 := by
              subst es1
              exact Fst.node hm2.1 f4 (fun _ => rfl)
            exact Fst.cat hm1.1 hf f5 (fun o => MO.o hmw o)
          intro g
          induction g with
          | zero =>
            intro z τ3 s3 u hfg hyz hT3 f3 e1 e2
            have hm4 := f3.liv hm3 hm3.1
            cases z with
            | ok q => have := hfg q rfl; have := hT3.inv.1; omega
            | error e =>
              refine rm_row (b' := a + 12) (by omega) hT3 (by omega) (by omega) (by omega) rfl hm4 (fun τ4 ⟨s4, hT4, f4⟩ => ?_)
              have er : (rowP tx n (.error e)).1 = .error e := MO.row.1 e rfl
              rw [er] at hT4 f4
              refine v_M_ladder_48 _ _ _ ⟨fun _ => done (.error e) τ4 s4 .leaf hyz hT4 ((Fst.cat hm3.1 f3 f4 (fun o => o)).any rfl) e1 (Or.inr rfl), fun c => absurd (hT4.flt.mp c) (show ¬ false = true by decide)⟩
          | succ g ihg =>
            intro z τ3 s3 u hfg hyz hT3 f3 e1 e2
            have hm4 := f3.liv hm3 hm3.1
            have eN : rnlP tx n (g + 1) z = if isO (rowP tx n z).1 = true ∧ isW (rowP tx n z).1 40 = false then ((rnlP tx n g (rowP tx n z).1).1, tap (rowP tx n z).2 (rnlP tx n g (rowP tx n z).1).2) else rowP tx n z := rfl
            rw [eN] at e1 e2
            refine rm_row (b' := a + 12) (by omega) hT3 (by omega) (by omega) (by omega) rfl hm4 (fun τ4 ⟨s4, hT4, f4⟩ => ?_)
            have hmr : MO n z (rowP tx n z).1 := MO.row
            have slr : SL n z (rowP tx n z).1 := SL.wS (MO.cel.trans (MO.rwl _))
            have f6 := Fst.cat hm3.1 f3 f4 (fun o => MO.o hmr o)
            have stopR : ¬ (isO (rowP tx n z).1 = true ∧ isW (rowP tx n z).1 40 = false) → OkV w (d - 1) m_M_wantWord [vR 81, vI 40] τ4 (fun s2 => Bk w d 0 0 m_M_ladder 0 0 (qv Q) 17 [oR 81, none, oI (nI s.1), none] [] s2) := by
              intro c
              rw [if_neg c] at e1 e2
              exact done _ τ4 s4 _ (hyz.trans hmr) hT4 f6 e1 e2
            refine v_M_ladder_48 _ _ _ ⟨fun c => stopR (fun q => c (hT4.flt.mpr q.1)), fun c => rm_isW (by omega) hT4 ⟨fun r4 => stopR (fun q => by rw [b2_n0.mp r4] at q; exact absurd q.2 (by decide)), fun r4 => ?_⟩⟩
            have ho4 := hT4.flt.mp c
            rw [if_pos ⟨ho4, b2_0.mp r4⟩] at e1 e2
            refine ihg _ τ4 s4 _ (slr.fuel hmr hT3.invs hfg) (hyz.trans hmr) (hT4.okb ho4) f6 e1 ?_
            rw [tap_assoc]; exact e2
        exact inner (n + 1) (nxR tx n y) τ2 s1' .leaf (fun q _ => by omega) MO.nx (hT2.weak (Nat.le_refl _) (by omega)) Fst.nil rfl (Or.inl rfl)
  exact loop (n + 1) _ σ2 s0 .leaf (a + 1) (fun q _ => by omega) hS2 (by omega) (by omega) Fst.nil h
end
