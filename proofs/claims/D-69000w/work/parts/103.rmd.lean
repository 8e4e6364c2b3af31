/-! 103: the reference reads types and declarations -/
section
variable {w : Wd} {d n : Nat} {tx : Nat → Int32} {σ0 σ : Sg} {x : RS} {s : NS} {op : List Kp} {a b b' p : Nat} {x1 : Int32} {Q : Sg → Prop}
theorem isK_un {k j : Int32} (h1 : isK x k = true) (h2 : isK x j = true) : k = j := by
  cases x with
  | ok u => exact (of_decide_eq_true h1).symm.trans (of_decide_eq_true h2)
  | error e => exact absurd h1 (show ¬ false = true by decide)
theorem rm_readType (hd : 14 ≤ d) (hS : StM tx n σ0 σ x s op a b) (ho : isO x = true) (hab : a ≤ b) (hb : b + 4 ≤ b') (hb' : b' ≤ 33400) (h1 : x1 = nI p) (hp : Liv s p) (h : ∀ σ', PoM tx n σ0 s op p (typP tx n x) a b' σ' → Q σ') : OkV w d m_M_readType [vR 81, vI x1] σ Q := by
  have hmx := hS.many hab
  unfold typP at h
  refine v_M_readType _ _ (by omega) (rm_isW (by omega) hS ⟨fun r => ?_, fun r => ?_⟩)
  · have r := b2_0.mp r
    rw [hS.knd ho]
    refine ⟨fun c => ?_, fun c => ?_⟩
    · rw [if_neg c, if_neg (by rw [r]; decide)] at h
      exact rm_simple (by omega) hS hab (by omega) hb' h1 hp h
    · rw [if_pos c] at h
      rw [hS.val c (by decide)]
      exact rm_leaf (by omega) hS hab (by omega) hb' h1 hp c (by decide) (hS.fro ho) h
  · have r := b2_n0.mp r
    have hk1 : ¬ isK x 1 = true := fun q => absurd (isK_un q (isW_k r).1) (by decide)
    rw [if_neg hk1, if_pos r] at h
    rw [hS.fro ho]
    refine rm_add (by omega) hS hab (by omega) h1 hp (fun σ1 hS1 => ?_)
    have hm1 := add_liv (k := 9) (q := frI x) (v := 0) hp.1 (by omega : s.1 < 2 ^ 30)
    refine rm_next (a' := a) (by omega) hS1 (by omega) (fun q' e => ⟨by omega, fun k0 => absurd k0 ((isK_0 (isW_k r).1 (by decide)).2 q' e)⟩) (fun σ2 hS2 => ?_)
    refine rm_sign (a' := a) (by omega) hS2 (by omega) (by omega) (fun σ3 hS3 => ?_)
    refine rm_constant (b' := b + 2) (by omega) hS3 (by omega) (by omega) (by omega) rfl hm1 (fun σ4 ⟨s4, hS4, f4⟩ => ?_)
    refine rm_sign (a' := a) (by omega) hS4 (by omega) (by omega) (fun σ5 hS5 => ?_)
    refine rm_constant (b' := b + 3) (by omega) hS5 (by omega) (by omega) (by omega) rfl (f4.liv hm1 hm1.1) (fun σ6 ⟨s6, hS6, f6⟩ => ?_)
    refine rm_sign (a' := a) (by omega) hS6 (by omega) (by omega) (fun σ7 hS7 => ?_)
    refine rm_word (a' := a) (by omega) hS7 (by omega) (by omega) (fun σ8 hS8 => ?_)
    refine rm_simple (b' := b') (by omega) hS8 (by omega) (by omega) (by omega) rfl (f6.liv (f4.liv hm1 hm1.1) (f4.liv hm1 hm1.1).1) (fun σ9 ⟨s9, hS9, f9⟩ => h σ9 ?_)
    refine ⟨s9, hS9, Fst.node hp.1 (Fst.cat hm1.1 f4 (Fst.cat (f4.liv hm1 hm1.1).1 f6 f9 ?_) ?_) (fun _ => rfl)⟩
    · exact fun o => MO.o ((MO.wt.trans MO.wt).trans MO.sim) o
    · exact fun o => MO.o ((((MO.wt.trans MO.con).trans MO.wt).trans MO.wt).trans MO.sim) o
theorem rm_declaration (hd : 15 ≤ d) (hS : StM tx n σ0 σ x s op a b) (hab : a ≤ b) (hb : b + 10 ≤ b') (hb' : b' ≤ 33400) (h1 : x1 = nI p) (hp : Liv s p) (hk : isK x 1 = true) (h : ∀ σ', PoM tx n σ0 s op p (decP tx n x) a b' σ' → Q σ') : OkV w d m_M_declaration [vR 81, vI x1] σ Q := by
  have ho := isK_o hk
  have hmx := hS.many hab
  unfold decP at h
  rw [if_pos hk] at h
  dsimp only at h
  refine v_M_declaration _ _ (by omega) ?_
  rw [hS.fro ho]
  refine rm_add (by omega) hS hab (by omega) h1 hp (fun σ1 hS1 => ?_)
  have hm1 := add_liv (k := 5) (q := frI x) (v := 0) hp.1 (by omega : s.1 < 2 ^ 30)
  generalize es : putN (addN s 5 (frI x) 0) p s.1 = s0 at hS1 hm1
  -- behind the place
  have T1 : ∀ (τ : Sg) (y : RS) (s1 : NS) (t : Tr) (B : Nat), StM tx n σ0 τ y s1 op a B → a ≤ B → B + 5 ≤ b' → Fst s0 s.1 (isO y) t s1 →
      (∀ σ', PoM tx n σ0 s op p (wtR tx n (isS (iniP tx n (typP tx n (wtR tx n (isS y 58) y)).1).1 59) (iniP tx n (typP tx n (wtR tx n (isS y 58) y)).1).1, tN (5, frI x, 0) (tap t (tap (typP tx n (wtR tx n (isS y 58) y)).2 (iniP tx n (typP tx n (wtR tx n (isS y 58) y)).1).2)) .leaf) a b' σ' → Q σ') →
      OkV w (d - 1) m_M_wantSign [vR 81, vI 58] τ (fun s2 => ((¬ (s2.1 81 10) = 0 → OkI w (d - 1) m_M_isSign [vR 81, vI 256] s2 (fun r3 s3 => ((r3 = 0 → OkV w (d - 1) m_M_wantSign [vR 81, vI 59] s3 (fun s4 => Q s4)) ∧ (¬ r3 = 0 → OkV w (d - 1) m_M_next [vR 81] s3 (fun s5 => OkV w (d - 1) m_M_constant [vR 81, vI (nI s.1)] s5 (fun s6 => OkV w (d - 1) m_M_wantSign [vR 81, vI 59] s6 (fun s7 => Q s7))))))) ∧ ((s2.1 81 10) = 0 → OkV w (d - 1) m_M_readType [vR 81, vI (nI s.1)] s2 (fun s8 => OkI w (d - 1) m_M_isSign [vR 81, vI 256] s8 (fun r9 s9 => ((r9 = 0 → OkV w (d - 1) m_M_wantSign [vR 81, vI 59] s9 (fun s10 => Q s10)) ∧ (¬ r9 = 0 → OkV w (d - 1) m_M_next [vR 81] s9 (fun s11 => OkV w (d - 1) m_M_constant [vR 81, vI (nI s.1)] s11 (fun s12 => OkV w (d - 1) m_M_wantSign [vR 81, vI 59] s12 (fun s13 => Q s13)))))))))) := by
    intro τ y s1 t B hT haB hB hf hh
    have hm2 := hf.liv hm1 hm1.1
    refine rm_sign (a' := a) (by omega) hT (by omega) (by omega) (fun τ1 hT1 => ?_)
    unfold iniP at hh
    have fin : ∀ (T : RS × Tr) (τ2 : Sg) (s2 : NS) (B2 : Nat), T = typP tx n (wtR tx n (isS y 58) y) → StM tx n σ0 τ2 T.1 s2 op a B2 → a ≤ B2 → B2 + 1 ≤ b' → Fst s1 s.1 (isO T.1) T.2 s2 → OkI w (d - 1) m_M_isSign [vR 81, vI 256] τ2 (fun r9 s9 => ((r9 = 0 → OkV w (d - 1) m_M_wantSign [vR 81, vI 59] s9 (fun s10 => Q s10)) ∧ (¬ r9 = 0 → OkV w (d - 1) m_M_next [vR 81] s9 (fun s11 => OkV w (d - 1) m_M_constant [vR 81, vI (nI s.1)] s11 (fun s12 => OkV w (d - 1) m_M_wantSign [vR 81, vI 59] s12 (fun s13 => Q s13)))))) := by
      intro T τ2 s2 B2 eT hT2 h3 h4 f2
      rw [← eT] at hh
      have hmT : MO n y T.1 := by rw [eT]; exact MO.wt.trans MO.typ
      have hm3 := f2.liv hm2 hm2.1
      have last : ∀ (z : RS) (u : Tr) (τ' : Sg) (s3 : NS) (B' : Nat), StM tx n σ0 τ' z s3 op a B' → a ≤ B' → B' ≤ b' → Fst s2 s.1 (isO z) u s3 → MO n T.1 z → (∀ σ', PoM tx n σ0 s op p (wtR tx n (isS z 59) z, tN (5, frI x, 0) (tap t (tap T.2 u)) .leaf) a b' σ' → Q σ') → OkV w (d - 1) m_M_wantSign [vR 81, vI 59] τ' (fun s8 => Q s8) := by
        intro z u τ' s3 B' hT3 hB1 hB2 f3 hmo hh
        refine rm_sign (a' := a) (by omega) hT3 hB1 (by omega) (fun τ4 hT4 => hh τ4 ⟨s3, hT4.weak (Nat.le_refl _) hB2, ?_⟩)
        subst es
        refine Fst.node hp.1 (Fst.weak (Fst.cat hm1.1 hf (Fst.cat hm2.1 f2 f3 (fun o => MO.o hmo o)) (fun o => MO.o (hmT.trans hmo) o)) (fun o => MO.o MO.wt o)) (fun _ => rfl)
      refine rm_isS (by omega) hT2 ⟨fun r7 => ?_, fun r7 => ?_⟩
      · rw [if_neg (by rw [b2_0.mp r7]; decide)] at hh
        exact last _ .leaf τ2 s2 B2 hT2 h3 (by omega) Fst.nil MO.rfl' hh
      · have r7 := b2_n0.mp r7
        rw [if_pos r7] at hh
        refine rm_next (a' := a) (by omega) hT2 h3 (fun q' e => ⟨by omega, fun k0 => Nat.le_refl _⟩) (fun τ3 hT3 => ?_)
        refine rm_constant (b' := b') (by omega) hT3 (by omega) h4 hb' rfl hm3 (fun τ4 ⟨s4, hT4, f4⟩ => ?_)
        exact last _ _ τ4 s4 b' hT4 (by omega) (Nat.le_refl _) f4 (MO.nx.trans MO.con) hh
    refine ⟨fun c => ?_, fun c => ?_⟩
    · have ho2 : isO (wtR tx n (isS y 58) y) = false := by
        cases hq : isO (wtR tx n (isS y 58) y) with
        | true => exact absurd (hT1.flt.mpr hq) c
        | false => rfl
      cases hz : wtR tx n (isS y 58) y with
      | ok q => rw [hz] at ho2; exact absurd ho2 (show ¬ true = false by decide)
      | error e =>
        rw [hz] at hT1
        have et : (typP tx n (.error e)).1 = .error e := MO.typ.1 e rfl
        refine fin (typP tx n (wtR tx n (isS y 58) y)) τ1 s1 B rfl ?_ haB (by omega) ?_
        · rw [hz, et]; exact hT1
        · rw [hz, et]; exact (Fst.nil (o := false) (p := s.1)).any rfl
    · refine rm_readType (b' := B + 4) (by omega) hT1 (hT1.flt.mp c) haB (Nat.le_refl _) (by omega) rfl hm2 (fun τ2 ⟨s2, hT2, f2⟩ => fin _ τ2 s2 (B + 4) rfl hT2 (by omega) (by omega) f2)
  have T2 : ∀ (τ : Sg) (y : RS) (s1 : NS) (t : Tr), StM tx n σ0 τ y s1 op a (b + 2) → Fst s0 s.1 (isO y) t s1 →
      (∀ σ', PoM tx n σ0 s op p (wtR tx n (isS (iniP tx n (typP tx n (wtR tx n (isS (atP tx n y).1 58) (atP tx n y).1)).1).1 59) (iniP tx n (typP tx n (wtR tx n (isS (atP tx n y).1 58) (atP tx n y).1)).1).1, tN (5, frI x, 0) (tap t (tap (atP tx n y).2 (tap (typP tx n (wtR tx n (isS (atP tx n y).1 58) (atP tx n y).1)).2 (iniP tx n (typP tx n (wtR tx n (isS (atP tx n y).1 58) (atP tx n y).1)).1).2))) .leaf) a b' σ' → Q σ') →
      Bk w d 0 0 m_M_declaration 0 0 (qv Q) 77 [oR 81, none, oI (nI s.1), none, none] [] τ := by
    intro τ y s1 t hT hf hh
    have hm2 := hf.liv hm1 hm1.1
    unfold atP at hh
    refine v_M_declaration_77 _ _ (rm_isW (by omega) hT ⟨fun q => ?_, fun q => ?_⟩)
    · rw [if_neg (by rw [b2_0.mp q]; decide)] at hh
      exact T1 τ y s1 t (b + 2) hT (by omega) (by omega) hf (fun σ' hσ' => hh σ' hσ')
    · have q := b2_n0.mp q
      rw [if_pos q] at hh
      refine rm_next (a' := a) (by omega) hT (by omega) (fun q' e => ⟨by omega, fun k0 => Nat.le_refl _⟩) (fun τ1 hT1 => ?_)
      have hmz : MO n y (nxR tx n y) := MO.nx
      generalize nxR tx n y = z at hh hT1 hmz
      refine rm_add (by omega) hT1 (by omega) (by omega) rfl hm2 (fun τ2 hT2 => ?_)
      have go : ∀ y0, (isO z = true → y0 = b2 (isK z 4)) → Bk w d 0 0 m_M_declaration 0 0 (qv Q) 121 [oR 81, none, oI (nI s.1), none, none] [vI y0, vR 81] τ2 := by
        intro y0 hy0
        refine v_M_declaration_121 _ _ _ (rm_want (c := isK z 4) (a' := a) (by omega) hT2 (by omega) (by omega) hy0 (fun c => (isK_0 c (by decide)).1) (fun τ3 hT3 => ?_))
        have fN : Fst s1 s.1 (isO (wtR tx n (isK z 4) z)) (tN (7, frI z, vaI z) .leaf .leaf) (putN (addN s1 7 (τ1.1 81 7) (τ1.1 81 9)) s.1 s1.1) := by
          obtain ⟨o1, o2⟩ := FoN.one (s := s1) (p := s.1) (k := 7) (v := τ1.1 81 9) (q := τ1.1 81 7) hm2.1 rfl
          refine ⟨_, o1, fun o => ?_⟩
          have hk4 := wt_b o
          rw [hT1.fro (isK_o hk4), hT1.val hk4 (by decide)] at o2 ⊢
          exact o2
        have fA : Fst s0 s.1 (isO (wtR tx n (isK z 4) z)) (tap t (tN (7, frI z, vaI z) .leaf .leaf)) _ := Fst.cat hm1.1 hf fN (fun o => MO.o (hmz.trans MO.wt) o)
        by_cases hk4 : isK z 4 = true
        · rw [if_pos hk4] at hh
          have ew : wtR tx n (isK z 4) z = nxR tx n z := by rw [hk4]; rfl
          rw [ew] at hT3 fA
          exact T1 τ3 _ _ _ (b + 3) hT3 (by omega) (by omega) fA (fun σ' hσ' => hh σ' (by rw [tap_assoc] at hσ'; exact hσ'))
        · rw [if_neg hk4] at hh
          have hkf : isK z 4 = false := by rw [Bool.eq_false_iff]; exact hk4
          have ew : wtR tx n (isK z 4) z = flR 6 z := by rw [hkf]; rfl
          rw [ew] at hT3 fA
          exact T1 τ3 _ _ (tap t .leaf) (b + 3) hT3 (by omega) (by omega) (fA.any fl_no) (fun σ' hσ' => hh σ' (by rw [tap_assoc] at hσ'; exact hσ'))
      refine ⟨fun c => go 0 (fun o => ?_), fun c => go 1 (fun o => ?_)⟩
      · have : isK z 4 = false := by
          rw [Bool.eq_false_iff]
          exact fun q => c ((hT2.knd o).mpr q)
        rw [this]; rfl
      · rw [(hT2.knd o).mp c]; rfl
  have loop : ∀ (f : Nat) (y : RS) (τ : Sg) (s1 : NS) (t : Tr), (∀ q, y = .ok q → n + 1 ≤ sF q + f) → StM tx n σ0 τ y s1 op (a + 1) (b + 1) → Fst s0 s.1 (isO y) t s1 →
      (∀ σ', PoM tx n σ0 s op p (wtR tx n (isS (iniP tx n (typP tx n (wtR tx n (isS (atP tx n (nmlP tx n f y).1).1 58) (atP tx n (nmlP tx n f y).1).1)).1).1 59) (iniP tx n (typP tx n (wtR tx n (isS (atP tx n (nmlP tx n f y).1).1 58) (atP tx n (nmlP tx n f y).1).1)).1).1, tN (5, frI x, 0) (tap t (tap (nmlP tx n f y).2 (tap (atP tx n (nmlP tx n f y).1).2 (tap (typP tx n (wtR tx n (isS (atP tx n (nmlP tx n f y).1).1 58) (atP tx n (nmlP tx n f y).1).1)).2 (iniP tx n (typP tx n (wtR tx n (isS (atP tx n (nmlP tx n f y).1).1 58) (atP tx n (nmlP tx n f y).1).1)).1).2)))) .leaf) a b' σ' → Q σ') →
      Bk w d 0 0 m_M_declaration 0 0 (qv Q) 14 [oR 81, none, oI (nI s.1), oI 1, none] [] τ := by
    intro f
    induction f with
    | zero =>
      intro y τ s1 t hfu hT hf hh
      cases y with
      | ok q => have := hfu q rfl; have := hT.inv.1; omega
      | error e =>
        refine v_M_declaration_14 _ _ _ ⟨fun c => absurd c (by decide), fun _ => ⟨fun _ => ?_, fun c => absurd (hT.flt.mp c) (show ¬ false = true by decide)⟩⟩
        exact T2 τ (.error e) s1 (tap t .leaf) ((hT.erra rfl).weak (Nat.le_refl _) (by omega)) (hf.any rfl) (fun σ' hσ' => hh σ' (by rw [tap_assoc] at hσ'; exact hσ'))
    | succ f ih =>
      intro y τ s1 t hfu hT hf hh
      have hm2 := hf.liv hm1 hm1.1
      have hmy := hT.many (by omega)
      have eN : nmlP tx n (f + 1) y = if isS (wtR tx n (isK y 1) y) 44 = true then ((nmlP tx n f (nxR tx n (wtR tx n (isK y 1) y))).1, tap (tN (6, frI y, vaI y) .leaf .leaf) (nmlP tx n f (nxR tx n (wtR tx n (isK y 1) y))).2) else (wtR tx n (isK y 1) y, tN (6, frI y, vaI y) .leaf .leaf) := rfl
      rw [eN] at hh
      refine v_M_declaration_14 _ _ _ ⟨fun c => absurd c (by decide), fun _ => ⟨fun c => ?_, fun c => ?_⟩⟩
      · cases y with
        | ok q => exact absurd (hT.flt.mpr rfl) c
        | error e => exact T2 τ (.error e) s1 (tap t .leaf) ((hT.erra rfl).weak (Nat.le_refl _) (by omega)) (hf.any rfl) (fun σ' hσ' => hh σ' (by
            obtain ⟨s', k1, k2⟩ := hσ'
            have e1 : wtR tx n (isK (.error e) 1) (.error e) = .error e := rfl
            rw [e1, if_neg (show ¬ isS (.error e) 44 = true from fun q => absurd q (show ¬ false = true by decide))]
            refine ⟨s', k1, k2.any ?_⟩
            have m : MO n (.error e) (wtR tx n (isS (iniP tx n (typP tx n (wtR tx n (isS (atP tx n (.error e)).1 58) (atP tx n (.error e)).1)).1).1 59) (iniP tx n (typP tx n (wtR tx n (isS (atP tx n (.error e)).1 58) (atP tx n (.error e)).1)).1).1) := (((MO.at.trans MO.wt).trans MO.typ).trans MO.ini).trans MO.wt
            dsimp only
            rw [m.1 e rfl]; rfl))
      · have oy := hT.flt.mp c
        rw [hT.fro oy]
        refine rm_add (by omega) hT (by omega) (by omega) rfl hm2 (fun τ1 hT1 => ?_)
        have f3 : Fst s1 s.1 (isO (wtR tx n (isK y 1) y)) (tN (6, frI y, vaI y) .leaf .leaf) (putN (addN s1 6 (frI y) (τ.1 81 9)) s.1 s1.1) := by
          obtain ⟨o1, o2⟩ := FoN.one (s := s1) (p := s.1) (k := 6) (v := τ.1 81 9) (q := frI y) hm2.1 rfl
          refine ⟨_, o1, fun o => ?_⟩
          have hk1 := wt_b o
          rw [hT.val hk1 (by decide)] at o2 ⊢
          exact o2
        have f4 := Fst.cat hm1.1 hf f3 (fun o => MO.o MO.wt o)
        have after : ∀ (τ2 : Sg), StM tx n σ0 τ2 (wtR tx n (isK y 1) y) (putN (addN s1 6 (frI y) (τ.1 81 9)) s.1 s1.1) op a (b + 2) → OkI w (d - 1) m_M_isSign [vR 81, vI 44] τ2 (fun r3 s3 => ((r3 = 0 → Bk w d 0 0 m_M_declaration 0 0 (qv Q) 14 [oR 81, none, oI (nI s.1), oI r3, none] [] s3) ∧ (¬ r3 = 0 → OkV w (d - 1) m_M_next [vR 81] s3 (fun s4 => Bk w d 0 0 m_M_declaration 0 0 (qv Q) 14 [oR 81, none, oI (nI s.1), oI r3, none] [] s4)))) := by
          intro τ2 hT2
          refine rm_isS (by omega) hT2 ⟨fun r3 => ?_, fun r3 => ?_⟩
          · have r3' := b2_0.mp r3
            rw [if_neg (by rw [r3']; decide)] at hh
            refine v_M_declaration_14 _ _ _ ⟨fun _ => ?_, fun q => absurd r3 q⟩
            exact T2 _ _ _ _ hT2 f4 (fun σ' hσ' => hh σ' (by rw [tap_assoc] at hσ'; exact hσ'))
          · have r3' := b2_n0.mp r3
            rw [if_pos r3'] at hh
            rw [r3']
            refine rm_next (a' := a) (b := b + 1) (by omega) (hT2.okb (isS_o r3')) (by omega) (fun q' e => ⟨by omega, fun k0 => Nat.le_refl _⟩) (fun τ3 hT3 => ?_)
            refine ih _ τ3 _ _ ?_ (hT3.weak (by omega) (Nat.le_refl _)) (f4.weak (fun o => MO.o MO.nx o)) (fun σ' hσ' => hh σ' (by rw [tap_assoc] at hσ'; exact hσ'))
            exact nx_fuel (isK_0 (isS_k r3').1 (by decide)).1 hT2.invs (mo_fuel MO.wt hT.invs hfu)
        exact rm_wantK (K := fun τ2 => OkI w (d - 1) m_M_isSign [vR 81, vI 44] τ2 (fun r3 s3 => ((r3 = 0 → Bk w d 0 0 m_M_declaration 0 0 (qv Q) 14 [oR 81, none, oI (nI s.1), oI r3, none] [] s3) ∧ (¬ r3 = 0 → OkV w (d - 1) m_M_next [vR 81] s3 (fun s4 => Bk w d 0 0 m_M_declaration 0 0 (qv Q) 14 [oR 81, none, oI (nI s.1), oI r3, none] [] s4))))) (a' := a) (by omega) (by decide) hT1 (by omega) (by omega) (fun τ2 hT2 => after τ2 hT2)
  exact loop (n + 1) x σ1 s0 .leaf (fun q _ => by omega) hS1 Fst.nil h
end
