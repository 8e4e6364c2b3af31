/-! 118: the reference reads blocks -/
section
variable {w : Wd} {d n : Nat} {tx : Nat → Int32} {σ0 σ : Sg} {x : RS} {s : NS} {a b b' p : Nat} {x1 : Int32} {Q : Sg → Prop}
theorem rm_block (hd : 801 ≤ d) (hS : StM tx n σ0 σ x s [] a b) (ho : isO x = true) (hb : a + 10 * d + 30 ≤ b') (hb' : b' ≤ 32000) (h1 : x1 = nI p) (hp : Liv s p) (h0 : H0 x) (hk0 : isK x 0 = false) (h : ∀ σ', PoM tx n σ0 s [] p (blkP tx n x) a b' σ' → Q σ') : OkV w d m_M_readBlock [vR 81, vI x1] σ Q := by
  subst h1
  have hS := hS.okb (b' := a) ho
  have hmx := hS.many (Nat.le_refl _)
  have hpay : s.1 + 4 ≤ a := by
    cases x with
    | ok q => exact hS.pay (of_decide_eq_false hk0)
    | error e => exact absurd ho (show ¬ false = true by decide)
  unfold blkP at h
  dsimp only at h
  have bad : (isW x 0 || isW x 2 || isW x 4) = false → OkV w (d - 1) m_M_wrong [vR 81] σ (fun s1 => Q s1) := by
    intro c
    rw [if_neg (by rw [c]; decide)] at h
    exact rm_wrong (by omega) hS (Nat.le_refl _) (fun σ' hσ' => h σ' (PoM.nil (hσ'.weak (Nat.le_refl _) (by omega))))
  have good : ∀ (v k : Int32), isW x v = true → (isW x 0 || isW x 2 || isW x 4) = true → k = (if isW x 0 = true then (1 : Int32) else if isW x 2 = true then 2 else 3) → (v = 0 ↔ k = 1) →
      OkI w (d - 1) m_M_add [vR 81, vI (nI p), vI k, vI (σ.1 81 7), vI 0] σ (fun r1 s1 => OkV w (d - 1) m_M_next [vR 81] s1 (fun s2 => OkI w (d - 1) m_M_name [vR 81] s2 (fun r3 s3 => (vp_in r1 33500 ∧ ((¬ v = 0 → Bk w d 0 0 m_M_readBlock 0 0 (qv Q) 106 [oR 81, none, oI v, oI r1, oI (s2.1 81 7), none] [] (wI s3 87 (Int32.toNatClampNeg r1) r3)) ∧ (v = 0 → OkV w (d - 1) m_M_wantSign [vR 81, vI 58] (wI s3 87 (Int32.toNatClampNeg r1) r3) (fun s4 => OkV w (d - 1) m_M_simple [vR 81, vI r1] s4 (fun s5 => Bk w d 0 0 m_M_readBlock 0 0 (qv Q) 106 [oR 81, none, oI v, oI r1, oI (s4.1 81 7), none] [] s5)))))))) := by
    intro v k hw hc hk hvk
    rw [hvk]
    rw [if_pos hc, ← hk, (isW_k hw).2] at h
    rw [hS.fro ho]
    refine rm_add (by omega) hS (Nat.le_refl _) (by omega) rfl hp (fun σ1 hS1 => ?_)
    have hm1 := add_liv (k := k) (q := frI x) (v := 0) hp.1 (by omega : s.1 < 2 ^ 30)
    have ek := (Fst.nil (s := putN (addN s k (frI x) 0) p s.1) (p := s.1) (o := true)).key hp.1
    generalize es : putN (addN s k (frI x) 0) p s.1 = s0 at hS1 hm1 ek
    refine rm_next (a' := a) (by omega) hS1 (by omega) (fun q hq => ⟨by omega, fun kk => absurd kk ((isK_0 (isW_k hw).1 (by decide)).2 q hq)⟩) (fun σ2 hS2 => ?_)
    have hmy : MO n x (nxR tx n x) := MO.nx
    generalize nxR tx n x = y at h hS2 hmy
    refine rm_name (a' := a) (by omega) hS2 (by omega) (by omega) (fun σ3 v3 hv3 hS3 => ⟨vp_in_nI (by omega) (by omega), ?_⟩)
    rw [nI_clamp (by omega)]
    have hS3 := hS3.setV (v := v3) hm1 ek
    have hz : ∀ z, MO n (wtR tx n (isK y 1) y) z → isO z = true → ((k, frI x, v3) : Nd) = (k, frI x, vaI y) := fun z hz o => by rw [hv3 (wt_b (MO.o hz o))]
    have hmz : MO n y (wtR tx n (isK y 1) y) := MO.wt
    generalize wtR tx n (isK y 1) y = z at h hS3 hz hmz
    have hm1' : Liv (setN s0 s.1 (k, frI x, v3)) s.1 := ⟨hm1.1, by rw [setN_rp]; exact hm1.2⟩
    -- behind the head
    have rest : ∀ (f : Nat) (u : RS) (τ : Sg) (s1 : NS) (t : Tr) (bf bf' : Int32) (B : Nat), (∀ q, u = .ok q → n + 1 ≤ sF q + f) → MO n z u → StM tx n σ0 τ u s1 [] a B → a ≤ B → B ≤ a + 20 → Fst (setN s0 s.1 (k, frI x, v3)) s.1 (isO u) t s1 → (isO u = true → bf = bf') →
        (∀ σ', PoM tx n σ0 s [] p (wtR tx n (isW (lorP tx n (scsP tx n f u bf').1 (scsP tx n f u bf').2.2).1 (v + 1)) (lorP tx n (scsP tx n f u bf').1 (scsP tx n f u bf').2.2).1, tN (k, frI x, vaI y) (tap t (tap (scsP tx n f u bf').2.1 (lorP tx n (scsP tx n f u bf').1 (scsP tx n f u bf').2.2).2)) .leaf) a b' σ' → Q σ') →
        Bk w d 0 0 m_M_readBlock 0 0 (qv Q) 106 [oR 81, none, oI v, oI (nI s.1), oI bf, none] [] τ := by
      intro f
      -- no section any more
      have stop : ∀ (u : RS) (τ : Sg) (s1 : NS) (t : Tr) (bf bf' : Int32) (B : Nat), MO n z u → StM tx n σ0 τ u s1 [] a B → a ≤ B → B ≤ a + 20 → Fst (setN s0 s.1 (k, frI x, v3)) s.1 (isO u) t s1 → (isO u = true → bf = bf') →
          (∀ σ', PoM tx n σ0 s [] p (wtR tx n (isW (lorP tx n u bf').1 (v + 1)) (lorP tx n u bf').1, tN (k, frI x, vaI y) (tap t (lorP tx n u bf').2) .leaf) a b' σ' → Q σ') →
          OkI w (d - 1) m_M_isWord [vR 81, vI 37] τ (fun r8 s8 => ((r8 = 0 → OkI w (d - 1) m_M_add [vR 81, vI (nI s.1), vI (11), vI bf, vI (0)] s8 (fun r9 s9 => OkV w (d - 1) m_M_statements [vR 81, vI (r9)] s9 (fun s10 => OkV w (d - 1) m_M_wantWord [vR 81, vI (v + 1)] s10 (fun s11 => Q s11)))) ∧ (¬ r8 = 0 → OkV w (d - 1) m_M_ladder [vR 81, vI (nI s.1)] s8 (fun s12 => OkV w (d - 1) m_M_wantWord [vR 81, vI (v + 1)] s12 (fun s13 => Q s13))))) := by
        intro u τ s1 t bf bf' B hmu hT hB1 hB2 hf hbf hh
        have hm2 := hf.liv hm1' hm1'.1
        have fin : ∀ (L : RS × Tr) (τ2 : Sg) (s2 : NS) (a2 : Nat), L = lorP tx n u bf' → StM tx n σ0 τ2 L.1 s2 [] a2 b' → a2 ≤ a + 1 → Fst s1 s.1 (isO L.1) L.2 s2 → OkV w (d - 1) m_M_wantWord [vR 81, vI (v + 1)] τ2 (fun s8 => Q s8) := by
          intro L τ2 s2 a2 eL hT2 ha2 f2
          rw [← eL] at hh
          have hmL : MO n u L.1 := by rw [eL]; exact MO.lor
          refine rm_word (a' := a) (by omega) hT2 (by omega) (by omega) (fun τ3 hT3 => hh τ3 ⟨s2, hT3, ?_⟩)
          have fz := (Fst.cat hm1'.1 hf f2 (fun o => MO.o hmL o)).weak (o' := isO (wtR tx n (isW L.1 (v + 1)) L.1)) (fun o => MO.o MO.wt o)
          subst es
          exact Fst.node2 (o1 := true) (t1 := .leaf) hp.1 Fst.nil fz (fun _ => rfl) (fun o => hz _ ((hmu.trans hmL).trans MO.wt) o)
        refine rm_isW (by omega) hT ⟨fun c => ?_, fun c => ?_⟩
        · have hmT := hT.many hB1
          refine rm_add (by omega) hT hB1 (by omega) rfl hm2 (fun τ1 hT1 => ?_)
          have hm3 := add_liv (k := 11) (q := bf) (v := 0) hm2.1 (by omega : s1.1 < 2 ^ 30)
          refine rm_stm 70 (d - 1) τ1 u _ (a + 1) (B + 1) b' s1.1 _ (by omega) (fun q hq => ?_) hT1 (by omega) (by omega) (by omega) hb' hm3 (fun τ2 ⟨s2, hT2, f2⟩ => fin (bodP tx n (stmP tx n 70) u bf') τ2 s2 (a + 1) ?_ hT2 (Nat.le_refl _) ?_)
          · have := h0.mo hS.invs ((hmy.trans hmz).trans hmu) q hq
            omega
          · unfold lorP; rw [if_neg (by rw [b2_0.mp c]; decide)]
          · exact Fst.node hm2.1 f2 (fun o => hbf (MO.o (MO.bdl (tx := tx) (fun _ => MO.stm 70) _) o))
        · have c := b2_n0.mp c
          refine rm_ladder (b' := b') (by omega) hT c (by omega) hb' rfl hm2 (fun τ2 ⟨s2, hT2, f2⟩ => fin _ τ2 s2 a ?_ hT2 (by omega) f2)
          unfold lorP; rw [if_pos c]
      induction f with
      | zero =>
        intro u τ s1 t bf bf' B hfu hmu hT hB1 hB2 hf hbf hh
        cases u with
        | ok q => have := hfu q rfl; have := hT.inv.1; omega
        | error e =>
          refine v_M_readBlock_106 _ _ _ _ (rm_isW (by omega) hT ⟨fun c => absurd rfl c, fun _ => rm_isW (by omega) hT ⟨fun c => absurd rfl c, fun _ => rm_isW (by omega) hT ⟨fun _ => stop _ τ s1 t bf bf' B hmu hT hB1 hB2 hf hbf hh, fun c => absurd rfl c⟩⟩⟩)
      | succ f ih =>
        intro u τ s1 t bf bf' B hfu hmu hT hB1 hB2 hf hbf hh
        have hm2 := hf.liv hm1' hm1'.1
        have eN : scsP tx n (f + 1) u bf' = if (isW u 6 || isW u 7 || isW u 8) = true then ((scsP tx n f (secP tx n u).1 (secP tx n u).2.2).1, tap (secP tx n u).2.1 (scsP tx n f (secP tx n u).1 (secP tx n u).2.2).2.1, (scsP tx n f (secP tx n u).1 (secP tx n u).2.2).2.2) else (u, .leaf, bf') := rfl
        rw [eN] at hh
        have sect : (isW u 6 || isW u 7 || isW u 8) = true → OkI w (d - 1) m_M_add [vR 81, vI (nI s.1), vI (4), vI (τ.1 81 7), vI ((τ.1 81 9) - 6)] τ (fun r2 s2 => OkV w (d - 1) m_M_next [vR 81] s2 (fun s3 => Bk w d 0 0 m_M_readBlock 0 0 (qv Q) 156 [oR 81, none, oI v, oI (nI s.1), none, oI (r2)] [] s3)) := by
          intro c
          rw [if_pos c] at hh
          have hk2 : isK u 2 = true := by
            simp only [Bool.or_eq_true] at c
            rcases c with (c | c) | c <;> exact (isW_k c).1
          have hT' := hT.okb (b' := a) (isK_o hk2)
          have hmT := hT'.many (Nat.le_refl _)
          rw [hT.fro (isK_o hk2), hT.val hk2 (by decide)]
          refine rm_add (by omega) hT' (Nat.le_refl _) (by omega) rfl hm2 (fun τ1 hT1 => ?_)
          have hm3 := add_liv (k := 4) (q := frI u) (v := vaI u - 6) hm2.1 (by omega : s1.1 < 2 ^ 30)
          generalize es1 : putN (addN s1 4 (frI u) (vaI u - 6)) s.1 s1.1 = s1' at hT1 hm3
          refine rm_next (a' := a) (by omega) hT1 (by omega) (fun q hq => ⟨by omega, fun kk => absurd kk ((isK_0 hk2 (by decide)).2 q hq)⟩) (fun τ2 hT2 => ?_)
          have eS : secP tx n u = (wtR tx n (isW (dclP tx n (n + 1) (nxR tx n u)).1 9) (dclP tx n (n + 1) (nxR tx n u)).1, tN (4, frI u, vaI u - 6) (dclP tx n (n + 1) (nxR tx n u)).2 .leaf, frI (dclP tx n (n + 1) (nxR tx n u)).1) := rfl
          have hmS : MO n u (secP tx n u).1 := MO.sec
          -- the declarations
          have inner : ∀ (g : Nat) (y1 : RS) (τ3 : Sg) (s3 : NS) (r : Tr), (∀ q, y1 = .ok q → n + 1 ≤ sF q + g) → StM tx n σ0 τ3 y1 s3 [] a (a + 20) → Fst s1' s1.1 (isO y1) r s3 → (dclP tx n (n + 1) (nxR tx n u)).1 = (dclP tx n g y1).1 → (isO (dclP tx n g y1).1 = true → (dclP tx n (n + 1) (nxR tx n u)).2 = tap r (dclP tx n g y1).2) →
              Bk w d 0 0 m_M_readBlock 0 0 (qv Q) 156 [oR 81, none, oI v, oI (nI s.1), none, oI (nI s1.1)] [] τ3 := by
            have done : ∀ (y1 : RS) (τ3 : Sg) (s3 : NS) (r : Tr), StM tx n σ0 τ3 y1 s3 [] a (a + 20) → Fst s1' s1.1 (isO y1) r s3 → (dclP tx n (n + 1) (nxR tx n u)).1 = y1 → (isO y1 = true → (dclP tx n (n + 1) (nxR tx n u)).2 = r) →
                OkV w (d - 1) m_M_wantWord [vR 81, vI 9] τ3 (fun s4 => Bk w d 0 0 m_M_readBlock 0 0 (qv Q) 106 [oR 81, none, oI v, oI (nI s.1), oI (τ3.1 81 7), none] [] s4) := by
              intro y1 τ3 s3 r hT3 f3 e1 e2
              refine rm_word (a' := a) (by omega) hT3 (by omega) (by omega) (fun τ4 hT4 => ?_)
              have eS1 : (secP tx n u).1 = wtR tx n (isW y1 9) y1 := by rw [eS, ← e1]
              refine ih (secP tx n u).1 τ4 s3 _ (τ3.1 81 7) (secP tx n u).2.2 (a + 20) (SL.sec.fuel hmS hT.invs hfu) (hmu.trans hmS) (by rw [eS1]; exact hT4) (by omega) (Nat.le_refl _) (Fst.cat hm1'.1 hf (u := (secP tx n u).2.1) ?_ (fun o => MO.o hmS o)) (fun o => ?_) (fun σ' hσ' => hh σ' (by simpa only [tap_assoc] using hσ'))
              · rw [eS1, eS]
                subst es1
                refine Fst.node hm2.1 ?_ (fun _ => rfl)
                by_cases o : isO y1 = true
                · rw [e2 o]; exact f3.weak (fun q => MO.o MO.wt q)
                · refine f3.any (Bool.eq_false_iff.mpr (fun q => o (MO.o MO.wt q)))
              · rw [eS1] at o
                rw [eS, hT3.fro (MO.o MO.wt o), e1]
            intro g
            induction g with
            | zero =>
              intro y1 τ3 s3 r hfg hT3 f3 e1 e2
              cases y1 with
              | ok q => have := hfg q rfl; have := hT3.inv.1; omega
              | error e => exact v_M_readBlock_156 _ _ _ _ ⟨fun _ => done (.error e) τ3 s3 r hT3 f3 e1 (fun o => absurd o (show ¬ false = true by decide)), fun c => absurd (hT3.flt.mp c) (show ¬ false = true by decide)⟩
            | succ g ihg =>
              intro y1 τ3 s3 r hfg hT3 f3 e1 e2
              have hm4 := f3.liv hm3 hm3.1
              have eN : dclP tx n (g + 1) y1 = if isK y1 1 = true then ((dclP tx n g (decP tx n y1).1).1, tap (decP tx n y1).2 (dclP tx n g (decP tx n y1).1).2) else (y1, .leaf) := rfl
              rw [eN] at e1 e2
              have stopD : ¬ isK y1 1 = true → OkV w (d - 1) m_M_wantWord [vR 81, vI 9] τ3 (fun s4 => Bk w d 0 0 m_M_readBlock 0 0 (qv Q) 106 [oR 81, none, oI v, oI (nI s.1), oI (τ3.1 81 7), none] [] s4) := by
                intro q
                rw [if_neg q] at e1 e2
                refine done y1 τ3 s3 r hT3 f3 e1 (fun o => ?_)
                have := e2 o
                rw [tap_leaf] at this
                exact this
              refine v_M_readBlock_156 _ _ _ _ ⟨fun c => stopD (fun q => c (hT3.flt.mpr (isK_o q))), fun c => ?_⟩
              have o3 := hT3.flt.mp c
              rw [hT3.knd o3]
              refine ⟨stopD, fun q => ?_⟩
              rw [if_pos q] at e1 e2
              refine rm_declaration (b' := a + 20) (by omega) (hT3.okb (b' := a) o3) (Nat.le_refl _) (by omega) (by omega) rfl hm4 q (fun τ4 ⟨s4, hT4, f4⟩ => ?_)
              refine ihg _ τ4 s4 _ (SL.dec.fuel MO.dec hT3.invs hfg) hT4 (Fst.cat hm3.1 f3 f4 (fun o => MO.o MO.dec o)) e1 (fun o => ?_)
              rw [tap_assoc]; exact e2 o
          exact inner (n + 1) (nxR tx n u) τ2 s1' .leaf (fun q _ => by omega) (hT2.weak (Nat.le_refl _) (by omega)) Fst.nil rfl (fun _ => rfl)
        refine v_M_readBlock_106 _ _ _ _ (rm_isW (by omega) hT ⟨fun c => sect (by rw [b2_n0.mp c]; rfl), fun c1 => rm_isW (by omega) hT ⟨fun c => sect (by rw [b2_n0.mp c]; simp), fun c2 => rm_isW (by omega) hT ⟨fun c3 => ?_, fun c => sect (by rw [b2_n0.mp c]; simp)⟩⟩⟩)
        rw [if_neg (by rw [b2_0.mp c1, b2_0.mp c2, b2_0.mp c3]; decide)] at hh
        exact stop _ τ s1 t bf bf' B hmu hT hB1 hB2 hf hbf hh
    have e0 : isW x 0 = true ↔ k = 1 := by
      rw [hk]
      constructor
      · intro q; rw [if_pos q]
      · intro q
        cases hq : isW x 0 with
        | true => rfl
        | false =>
          rw [hq, if_neg (by decide)] at q
          split at q
          · exact absurd q (by decide)
          · exact absurd q (by decide)
    refine ⟨fun hk1 => ?_, fun hk1 => ?_⟩
    · have en : isW x 0 = false := by
        cases hq : isW x 0 with
        | true => exact absurd (e0.mp hq) hk1
        | false => rfl
      have ef : fnhP tx n z (isW x 0) (frI y) = (z, .leaf, frI y) := by unfold fnhP; rw [if_neg (by rw [en]; decide)]
      rw [ef] at h
      exact rest (n + 1) z _ _ .leaf _ (frI y) (a + 1) (fun q _ => by omega) MO.rfl' hS3 (by omega) (by omega) Fst.nil (fun o => hS2.fro (MO.o hmz o)) h
    · have en := e0.mpr hk1
      have ef : fnhP tx n z (isW x 0) (frI y) = ((simP tx n (wtR tx n (isS z 58) z)).1, (simP tx n (wtR tx n (isS z 58) z)).2, frI (wtR tx n (isS z 58) z)) := by unfold fnhP; rw [if_pos en]
      rw [ef] at h
      refine rm_sign (a' := a) (by omega) hS3 (by omega) (by omega) (fun σ4 hS4 => ?_)
      refine rm_simple (b' := a + 2) (by omega) hS4 (by omega) (by omega) (by omega) rfl hm1' (fun σ5 ⟨s5, hS5, f5⟩ => ?_)
      exact rest (n + 1) _ σ5 s5 _ _ _ (a + 2) (fun q _ => by omega) (MO.wt.trans MO.sim) hS5 (by omega) (by omega) f5 (fun o => hS4.fro (MO.o MO.sim o)) h
  have join : ∀ y0, (isK x 2 = true → y0 = vaI x) → (isK x 2 = false → y0 = -1) → Bk w d 0 0 m_M_readBlock 0 0 (qv Q) 16 [oR 81, oI (nI p), none, none, none, none] [vI y0] σ := by
    intro y0 hy1 hy2
    have isw : ∀ c, c ≠ -1 → (y0 = c ↔ isW x c = true) := by
      intro c hc
      cases hq : isK x 2 with
      | true =>
        rw [hy1 hq]
        refine ⟨fun q => ?_, fun q => (isW_k q).2⟩
        cases x with
        | ok r => unfold isW; rw [Bool.and_eq_true]; exact ⟨hq, decide_eq_true q⟩
        | error e => exact absurd ho (show ¬ false = true by decide)
      | false =>
        rw [hy2 hq]
        refine ⟨fun q => absurd q.symm hc, fun q => ?_⟩
        rw [(isW_k q).1] at hq; exact absurd hq (by decide)
    refine v_M_readBlock_16 _ _ _ ⟨fun c => ?_, fun c1 => ⟨fun c => ?_, fun c2 => ⟨fun c => ?_, fun c3 => ?_⟩⟩⟩
    · subst c
      have hw := (isw 0 (by decide)).mp rfl
      exact v_M_readBlock_36 _ _ _ ⟨fun q => absurd rfl q, fun _ => good 0 1 hw (by rw [hw]; rfl) (by rw [if_pos hw]) (by decide)⟩
    · subst c
      have hw := (isw 2 (by decide)).mp rfl
      have hw0 : ¬ isW x 0 = true := fun q => absurd ((isw 0 (by decide)).mpr q) (by decide)
      exact v_M_readBlock_36 _ _ _ ⟨fun _ => ⟨fun q => absurd rfl q, fun _ => good 2 2 hw (by rw [hw]; simp) (by rw [if_neg hw0, if_pos hw]) (by decide)⟩, fun q => absurd q (by decide)⟩
    · subst c
      have hw := (isw 4 (by decide)).mp rfl
      have hw0 : ¬ isW x 0 = true := fun q => absurd ((isw 0 (by decide)).mpr q) (by decide)
      have hw2 : ¬ isW x 2 = true := fun q => absurd ((isw 2 (by decide)).mpr q) (by decide)
      exact v_M_readBlock_36 _ _ _ ⟨fun _ => ⟨fun _ => good 4 3 hw (by rw [hw]; simp) (by rw [if_neg hw0, if_neg hw2]) (by decide), fun q => absurd q (by decide)⟩, fun q => absurd q (by decide)⟩
    · refine bad ?_
      rw [Bool.eq_false_iff]
      intro q
      simp only [Bool.or_eq_true] at q
      rcases q with (q | q) | q
      · exact c1 ((isw 0 (by decide)).mpr q)
      · exact c2 ((isw 2 (by decide)).mpr q)
      · exact c3 ((isw 4 (by decide)).mpr q)
  refine v_M_readBlock _ _ (by omega) ?_
  rw [hS.knd ho]
  exact ⟨fun c => join _ (fun q => absurd q c) (fun _ => rfl), fun c => join _ (fun _ => hS.val c (by decide)) (fun q => by rw [c] at q; exact absurd q (by decide))⟩
end
