/-! 094: the component reads blocks -/
section
variable {wd : Wd} {d n : Nat} {tx : Nat → Int32} {σ0 σ : Sg} {x : RS} {s : NS} {a b b' p : Nat} {x1 : Int32} {Q : Sg → Prop}
theorem SL.sec {y : RS} : SL n y (secP tx n y).1 := SL.wW (MO.nx.trans (MO.dcl _))
theorem rc_block (hd : 743 ≤ d) (hS : StC tx n σ0 σ x s [] [] a b) (ho : isO x = true) (hb : a + 10 * d + 30 ≤ b') (hb' : b' ≤ 32000) (h1 : x1 = nI p) (hp : Liv s p) (h0 : H0 x) (hk0 : isK x 0 = false) (h : ∀ σ', PoC tx n σ0 s [] [] p (blkP tx n x) a b' σ' → Q σ') : OkV wd d m_Reader_block [vR 17, vI x1] σ Q := by
  subst h1
  have hS := hS.okb (b' := a) ho
  have hmx := hS.many (Nat.le_refl _)
  have hpay : s.1 + 4 ≤ a := by
    cases x with
    | ok q => exact hS.pay (of_decide_eq_false hk0)
    | error e => exact absurd ho (show ¬ false = true by decide)
  have hval : σ.1 5 7 = vaI x := by
    cases x with
    | ok q => exact hS.2.2.2.2.2.2.2.2.2.2.2.2.1 (of_decide_eq_false hk0)
    | error e => exact absurd ho (show ¬ false = true by decide)
  have e55 : σ.1 5 5 = 2 ↔ isK x 2 = true := by
    cases x with
    | ok q =>
      have : σ.1 5 5 = sK q := hS.2.2.2.2.2.2.2.2.2.2.2.1
      rw [this]
      exact ⟨fun q => decide_eq_true q, fun q => of_decide_eq_true q⟩
    | error e => exact absurd ho (show ¬ false = true by decide)
  unfold blkP at h
  dsimp only at h
  have bad : (isW x 0 || isW x 2 || isW x 4) = false → OkV wd (d - 1) m_Reader_fail [vR 17, vI 6] σ (fun s1 => Q s1) := by
    intro c
    rw [if_neg (by rw [c]; decide)] at h
    exact rc_fail (by omega) hS (Nat.le_refl _) (by decide) (fun σ' hσ' => h σ' (PoC.nil (hσ'.weak (Nat.le_refl _) (by omega))))
  have good : ∀ (w k : Int32), isW x w = true → (isW x 0 || isW x 2 || isW x 4) = true → k = (if isW x 0 = true then (1 : Int32) else if isW x 2 = true then 2 else 3) →
      OkI wd (d - 1) m_Reader_add [vR 17, vI (nI p), vI k, vI 0] σ (fun r1 s1 => OkV wd (d - 1) m_Reader_next [vR 17] s1 (fun s2 => OkI wd (d - 1) m_Reader_name [vR 17] s2 (fun r3 s3 => (vp_in r1 33500 ∧ ((¬ k = 1 → Bk wd d 0 0 m_Reader_block 0 0 (qv Q) 125 [oR 17, none, oI w, none, oI r1, oI (s2.1 5 6)] [] (wI s3 10 (Int32.toNatClampNeg r1) r3)) ∧ (k = 1 → OkV wd (d - 1) m_Reader_sign [vR 17, vI 58] (wI s3 10 (Int32.toNatClampNeg r1) r3) (fun s4 => OkV wd (d - 1) m_Reader_simple [vR 17, vI r1] s4 (fun s5 => Bk wd d 0 0 m_Reader_block 0 0 (qv Q) 125 [oR 17, none, oI w, none, oI r1, oI (s4.1 5 6)] [] s5)))))))) := by
    intro w k hw hc hk
    rw [if_pos hc, ← hk, (isW_k hw).2] at h
    refine rc_add (by omega) hS (Nat.le_refl _) (by omega) rfl hp (fun σ1 q0 hq0 _ hS1 => ?_)
    have hq0 := hq0 ho
    subst hq0
    have hm1 := add_liv (k := k) (q := frI x) (v := 0) hp.1 (by omega : s.1 < 2 ^ 30)
    have ek := (Fst.nil (s := putN (addN s k (frI x) 0) p s.1) (p := s.1) (o := true)).key hp.1
    generalize es : putN (addN s k (frI x) 0) p s.1 = s0 at hS1 hm1 ek
    refine rc_next (a' := a) (by omega) hS1 (by omega) (fun q hq => ⟨by omega, fun kk => absurd kk ((isK_0 (isW_k hw).1 (by decide)).2 q hq)⟩) (fun σ2 hS2 => ?_)
    have hmy : MO n x (nxR tx n x) := MO.nx
    generalize nxR tx n x = y at h hS2 hmy
    refine rc_name (a' := a) (by omega) hS2 (by omega) (by omega) (fun σ3 v3 hv3 hS3 => ⟨vp_in_nI (by omega) (by omega), ?_⟩)
    rw [nI_clamp (by omega)]
    have hS3 := hS3.setV (v := v3) hm1 ek
    have hz : ∀ z, MO n (wtR tx n (isK y 1) y) z → isO z = true → ((k, frI x, v3) : Nd) = (k, frI x, vaI y) := fun z hz o => by rw [hv3 (wt_b (MO.o hz o))]
    have hmz : MO n y (wtR tx n (isK y 1) y) := MO.wt
    generalize wtR tx n (isK y 1) y = z at h hS3 hz hmz
    have hm1' : Liv (setN s0 s.1 (k, frI x, v3)) s.1 := ⟨hm1.1, by rw [setN_rp]; exact hm1.2⟩
    -- behind the head
    have rest : ∀ (f : Nat) (u : RS) (τ : Sg) (s1 : NS) (t : Tr) (bf bf' : Int32) (B : Nat), (∀ q, u = .ok q → n + 1 ≤ sF q + f) → MO n z u → StC tx n σ0 τ u s1 [] [] a B → a ≤ B → B ≤ a + 20 → Fst (setN s0 s.1 (k, frI x, v3)) s.1 (isO u) t s1 → (isO u = true → bf = bf') →
        (∀ σ', PoC tx n σ0 s [] [] p (wtR tx n (isW (lorP tx n (scsP tx n f u bf').1 (scsP tx n f u bf').2.2).1 (w + 1)) (lorP tx n (scsP tx n f u bf').1 (scsP tx n f u bf').2.2).1, tN (k, frI x, vaI y) (tap t (tap (scsP tx n f u bf').2.1 (lorP tx n (scsP tx n f u bf').1 (scsP tx n f u bf').2.2).2)) .leaf) a b' σ' → Q σ') →
        Bk wd d 0 0 m_Reader_block 0 0 (qv Q) 125 [oR 17, none, oI w, none, oI (nI s.1), oI bf] [] τ := by
      intro f
      -- no section any more
      have stop : ∀ (u : RS) (τ : Sg) (s1 : NS) (t : Tr) (bf bf' : Int32) (B : Nat), MO n z u → StC tx n σ0 τ u s1 [] [] a B → a ≤ B → B ≤ a + 20 → Fst (setN s0 s.1 (k, frI x, v3)) s.1 (isO u) t s1 → (isO u = true → bf = bf') →
          (∀ σ', PoC tx n σ0 s [] [] p (wtR tx n (isW (lorP tx n u bf').1 (w + 1)) (lorP tx n u bf').1, tN (k, frI x, vaI y) (tap t (lorP tx n u bf').2) .leaf) a b' σ' → Q σ') →
          OkI wd (d - 1) m_Reader_isWord [vR 17, vI 37] τ (fun r6 s6 => ((r6 = 0 → OkV wd (d - 1) m_Reader_body [vR 17, vI (nI s.1), vI bf] s6 (fun s7 => OkV wd (d - 1) m_Reader_word [vR 17, vI (w + 1)] s7 (fun s8 => Q s8))) ∧ (¬ r6 = 0 → OkV wd (d - 1) m_Reader_ladder [vR 17, vI (nI s.1)] s6 (fun s9 => OkV wd (d - 1) m_Reader_word [vR 17, vI (w + 1)] s9 (fun s10 => Q s10))))) := by
        intro u τ s1 t bf bf' B hmu hT hB1 hB2 hf hbf hh
        have hm2 := hf.liv hm1' hm1'.1
        have fin : ∀ (L : RS × Tr) (τ2 : Sg) (s2 : NS) (a2 : Nat), L = lorP tx n u bf' → StC tx n σ0 τ2 L.1 s2 [] [] a2 b' → a2 ≤ a + 1 → Fst s1 s.1 (isO L.1) L.2 s2 → OkV wd (d - 1) m_Reader_word [vR 17, vI (w + 1)] τ2 (fun s8 => Q s8) := by
          intro L τ2 s2 a2 eL hT2 ha2 f2
          rw [← eL] at hh
          have hmL : MO n u L.1 := by rw [eL]; exact MO.lor
          refine rc_word (a' := a) (by omega) hT2 (by omega) (by omega) (fun τ3 hT3 => hh τ3 ⟨s2, hT3, ?_⟩)
          have fz := (Fst.cat hm1'.1 hf f2 (fun o => MO.o hmL o)).weak (o' := isO (wtR tx n (isW L.1 (w + 1)) L.1)) (fun o => MO.o MO.wt o)
          subst es
          exact Fst.node2 (o1 := true) (t1 := .leaf) hp.1 Fst.nil fz (fun _ => rfl) (fun o => hz _ ((hmu.trans hmL).trans MO.wt) o)
        refine rc_isW (by omega) hT ⟨fun c => ?_, fun c => ?_⟩
        · refine rc_body (F := 70) (pl' := bf') (b' := b') (rc_stm 70) (by omega) (fun q hq => ?_) hT hB1 (by omega) (by omega) hb' rfl hm2 hbf (fun τ2 ⟨s2, hT2, f2⟩ => fin _ τ2 s2 (a + 1) ?_ hT2 (Nat.le_refl _) f2)
          · have := h0.mo hS.invs ((hmy.trans hmz).trans hmu) q hq
            omega
          · unfold lorP; rw [if_neg (by rw [b2_0.mp c]; decide)]
        · have c := b2_n0.mp c
          refine rc_ladder (b' := b') (by omega) hT c (by omega) hb' rfl hm2 (fun τ2 ⟨s2, hT2, f2⟩ => fin _ τ2 s2 a ?_ hT2 (by omega) f2)
          unfold lorP; rw [if_pos c]
      induction f with
      | zero =>
        intro u τ s1 t bf bf' B hfu hmu hT hB1 hB2 hf hbf hh
        cases u with
        | ok q => have := hfu q rfl; have := hT.inv.1; omega
        | error e =>
          refine v_Reader_block_125 _ _ _ _ (rc_isW (by omega) hT ⟨fun c => absurd rfl c, fun _ => rc_isW (by omega) hT ⟨fun c => absurd rfl c, fun _ => rc_isW (by omega) hT ⟨fun _ => stop _ τ s1 t bf bf' B hmu hT hB1 hB2 hf hbf hh, fun c => absurd rfl c⟩⟩⟩)
      | succ f ih =>
        intro u τ s1 t bf bf' B hfu hmu hT hB1 hB2 hf hbf hh
        have hm2 := hf.liv hm1' hm1'.1
        have eN : scsP tx n (f + 1) u bf' = if (isW u 6 || isW u 7 || isW u 8) = true then ((scsP tx n f (secP tx n u).1 (secP tx n u).2.2).1, tap (secP tx n u).2.1 (scsP tx n f (secP tx n u).1 (secP tx n u).2.2).2.1, (scsP tx n f (secP tx n u).1 (secP tx n u).2.2).2.2) else (u, .leaf, bf') := rfl
        rw [eN] at hh
        have sect : (isW u 6 || isW u 7 || isW u 8) = true → OkI wd (d - 1) m_Reader_section [vR 17, vI (nI s.1)] τ (fun r2 s2 => Bk wd d 0 0 m_Reader_block 0 0 (qv Q) 125 [oR 17, none, oI w, none, oI (nI s.1), oI r2] [] s2) := by
          intro c
          rw [if_pos c] at hh
          have hk2 : isK u 2 = true := by
            simp only [Bool.or_eq_true] at c
            rcases c with (c | c) | c <;> exact (isW_k c).1
          refine rc_section (b' := a + 20) (by omega) (hT.okb (b' := a) (isK_o hk2)) (Nat.le_refl _) (by omega) (by omega) rfl hm2 hk2 (fun τ2 v2 hv2 ⟨s2, hT2, f2⟩ => ?_)
          exact ih _ τ2 s2 _ v2 _ (a + 20) (SL.sec.fuel MO.sec hT.invs hfu) (hmu.trans MO.sec) hT2 (by omega) (by omega) (Fst.cat hm1'.1 hf f2 (fun o => MO.o MO.sec o)) hv2 (fun σ' hσ' => hh σ' (by simpa only [tap_assoc] using hσ'))
        refine v_Reader_block_125 _ _ _ _ (rc_isW (by omega) hT ⟨fun c => sect (by rw [b2_n0.mp c]; rfl), fun c1 => rc_isW (by omega) hT ⟨fun c => sect (by rw [b2_n0.mp c]; simp), fun c2 => rc_isW (by omega) hT ⟨fun c3 => ?_, fun c => sect (by rw [b2_n0.mp c]; simp)⟩⟩⟩)
        rw [if_neg (by rw [b2_0.mp c1, b2_0.mp c2, b2_0.mp c3]; decide)] at hh
        exact stop _ τ s1 t bf bf' B hmu hT hB1 hB2 hf hbf hh
    have e0 : isW x 0 = true ↔ k = 1 := by
      rw [hk]
      constructor
      · intro q; rw [if_pos q]
      · intro q
        cases hq : isW x 0 with
        | true => rfl
        | false =>
          rw [hq, if_neg (by decide)] at q
          split at q
          · exact absurd q (by decide)
          · exact absurd q (by decide)
    refine ⟨fun hk1 => ?_, fun hk1 => ?_⟩
    · have en : isW x 0 = false := by
        cases hq : isW x 0 with
        | true => exact absurd (e0.mp hq) hk1
        | false => rfl
      have ef : fnhP tx n z (isW x 0) (frI y) = (z, .leaf, frI y) := by unfold fnhP; rw [if_neg (by rw [en]; decide)]
      rw [ef] at h
      exact rest (n + 1) z _ _ .leaf _ (frI y) (a + 1) (fun q _ => by omega) MO.rfl' hS3 (by omega) (by omega) Fst.nil (fun o => hS2.fro (MO.o hmz o)) h
    · have en := e0.mpr hk1
      have ef : fnhP tx n z (isW x 0) (frI y) = ((simP tx n (wtR tx n (isS z 58) z)).1, (simP tx n (wtR tx n (isS z 58) z)).2, frI (wtR tx n (isS z 58) z)) := by unfold fnhP; rw [if_pos en]
      rw [ef] at h
      refine rc_sign (a' := a) (by omega) hS3 (by omega) (by omega) (fun σ4 hS4 => ?_)
      refine rc_simple (b' := a + 2) (by omega) hS4 (by omega) (by omega) (by omega) rfl hm1' (fun σ5 ⟨s5, hS5, f5⟩ => ?_)
      exact rest (n + 1) _ σ5 s5 _ _ _ (a + 2) (fun q _ => by omega) (MO.wt.trans MO.sim) hS5 (by omega) (by omega) f5 (fun o => hS4.fro (MO.o MO.sim o)) h
  have join : ∀ y0, (isK x 2 = true → y0 = vaI x) → (isK x 2 = false → y0 = -1) → Bk wd d 0 0 m_Reader_block 0 0 (qv Q) 22 [oR 17, oI (nI p), none, none, none, none] [vI y0] σ := by
    intro y0 hy1 hy2
    have isw : ∀ c, c ≠ -1 → (y0 = c ↔ isW x c = true) := by
      intro c hc
      cases hq : isK x 2 with
      | true =>
        rw [hy1 hq]
        refine ⟨fun q => ?_, fun q => (isW_k q).2⟩
        cases x with
        | ok r => unfold isW; rw [Bool.and_eq_true]; exact ⟨hq, decide_eq_true q⟩
        | error e => exact absurd ho (show ¬ false = true by decide)
      | false =>
        rw [hy2 hq]
        refine ⟨fun q => absurd q.symm hc, fun q => ?_⟩
        rw [(isW_k q).1] at hq; exact absurd hq (by decide)
    refine v_Reader_block_22 _ _ _ ⟨fun c => ?_, fun c1 => ⟨fun c => ?_, fun c2 => ⟨fun c => ?_, fun c3 => ?_⟩⟩⟩
    · subst c
      have hw := (isw 0 (by decide)).mp rfl
      exact v_Reader_block_44 _ _ _ ⟨fun q => absurd rfl q, fun _ => good 0 1 hw (by rw [hw]; rfl) (by rw [if_pos hw])⟩
    · subst c
      have hw := (isw 2 (by decide)).mp rfl
      have hw0 : ¬ isW x 0 = true := fun q => absurd ((isw 0 (by decide)).mpr q) (by decide)
      exact v_Reader_block_44 _ _ _ ⟨fun _ => ⟨fun q => absurd rfl q, fun _ => good 2 2 hw (by rw [hw]; simp) (by rw [if_neg hw0, if_pos hw])⟩, fun q => absurd q (by decide)⟩
    · subst c
      have hw := (isw 4 (by decide)).mp rfl
      have hw0 : ¬ isW x 0 = true := fun q => absurd ((isw 0 (by decide)).mpr q) (by decide)
      have hw2 : ¬ isW x 2 = true := fun q => absurd ((isw 2 (by decide)).mpr q) (by decide)
      exact v_Reader_block_44 _ _ _ ⟨fun _ => ⟨fun _ => good 4 3 hw (by rw [hw]; simp) (by rw [if_neg hw0, if_neg hw2]), fun q => absurd q (by decide)⟩, fun q => absurd q (by decide)⟩
    · refine bad ?_
      rw [Bool.eq_false_iff]
      intro q
      simp only [Bool.or_eq_true] at q
      rcases q with (q | q) | q
      · exact c1 ((isw 0 (by decide)).mpr q)
      · exact c2 ((isw 2 (by decide)).mpr q)
      · exact c3 ((isw 4 (by decide)).mpr q)
  refine v_Reader_block _ _ (by omega) ⟨fun c => join _ (fun q => absurd (e55.mpr q) c) (fun _ => rfl), fun c => join _ (fun _ => hval) (fun q => by rw [e55.mp c] at q; exact absurd q (by decide))⟩
end
