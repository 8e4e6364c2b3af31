/-! 092: the component reads CASE, FOR, and any statement -/
section
variable {wd : Wd} {d n F : Nat} {tx : Nat → Int32} {σ0 σ : Sg} {x : RS} {s : NS} {a b b' p : Nat} {x1 : Int32}
/-- the ranges of a choice c of the CASE m -/
theorem rc_ranges {Q : Sg → Prop} {m c : Nat} {s0 : NS} {K : Sg → Prop} (hd : 12 ≤ d) (hc : Liv s0 c) (hb : b ≤ 32000) (hab : a + 2 ≤ b)
    (hK : ∀ τ, K τ → OkV wd (d - 1) m_Reader_sign [vR 17, vI 58] τ (fun s5 => OkV wd (d - 1) m_Reader_body [vR 17, vI (nI c), vI (τ.1 5 6)] s5 (fun s6 => Bk wd d 0 0 m_Reader_select 0 0 (qv Q) 35 [oR 17, none, oI (nI m), none, none] [] s6))) :
    ∀ (f : Nat) (y : RS) (τ : Sg) (s1 : NS) (t : Tr), (∀ q, y = .ok q → n + 1 ≤ sF q + f) → StC tx n σ0 τ y s1 [] [] (a + 1) b → Fst s0 c (isO y) t s1 →
    (∀ τ' s2, StC tx n σ0 τ' (rglP tx n f y).1 s2 [] [] (a + 2) (b + 5) → Fst s0 c (isO (rglP tx n f y).1) (tap t (rglP tx n f y).2) s2 → K τ') →
    Bk wd d 0 0 m_Reader_select 0 0 (qv Q) 51 [oR 17, none, oI (nI m), oI (nI c), none] [] τ := by
  intro f
  induction f with
  | zero =>
    intro y τ s1 t hfu hT hf hh
    have hm2 := hf.liv hc hc.1
    have hmy := hT.many (by omega)
    cases y with
    | ok q => have := hfu q rfl; have := hT.inv.1; omega
    | error e =>
      have ei : rglP tx n 0 (.error e) = (.error e, .leaf) := rfl
      rw [ei] at hh
      dsimp only at hh
      refine v_Reader_select_51 _ _ _ (rc_add (by omega) hT (by omega) (by omega) rfl hm2 (fun τ1 q1 _ _ hT1 => ?_))
      have hm3 := add_liv (k := 18) (q := q1) (v := 0) hm2.1 (by omega : s1.1 < 2 ^ 30)
      refine rc_constant (b' := b + 2) (by omega) hT1 (by omega) (by omega) (by omega) rfl hm3 (fun τ2 ⟨s2, hT2, f2⟩ => ?_)
      have ec : (conP tx n (.error e)).1 = .error e := MO.con.1 e rfl
      rw [ec] at hT2 f2
      refine rc_takes (by omega) hT2 (by omega) (fun _ => ⟨fun _ => ?_, fun q => absurd rfl q⟩) (fun q => absurd q (show ¬ false = true by decide))
      refine rc_takes (by omega) hT2 (by omega) (fun _ => ⟨fun q => absurd rfl q, fun _ => hK _ (hh τ2 s2 (hT2.weak (by omega) (by omega)) ?_)⟩) (fun q => absurd q (show ¬ false = true by decide))
      exact (Fst.cat hc.1 hf ((Fst.node (q' := 0) hm2.1 (f2.any (o' := false) (u := .leaf) rfl) (fun o => absurd o (by decide))).any (o' := false) (u := .leaf) rfl) (fun o => absurd o (by decide))).any rfl
  | succ f ih =>
    intro y τ s1 t hfu hT hf hh
    have hm2 := hf.liv hc hc.1
    have hmy := hT.many (by omega)
    generalize ez : conP tx n y = z
    have hmz : MO n y z.1 := by rw [← ez]; exact MO.con
    generalize eu : rg2P tx n z.1 = u
    have hmu : MO n z.1 u.1 := by rw [← eu]; exact MO.rg2
    have eN : rglP tx n (f + 1) y = if isS u.1 44 = true then ((rglP tx n f (nxR tx n u.1)).1, tap (tN (18, frI y, 0) (tap z.2 u.2) .leaf) (rglP tx n f (nxR tx n u.1)).2) else (u.1, tN (18, frI y, 0) (tap z.2 u.2) .leaf) := by subst ez eu; rfl
    rw [eN] at hh
    refine v_Reader_select_51 _ _ _ (rc_add (by omega) hT (by omega) (by omega) rfl hm2 (fun τ1 q1 hq1 _ hT1 => ?_))
    have hm3 := add_liv (k := 18) (q := q1) (v := 0) hm2.1 (by omega : s1.1 < 2 ^ 30)
    refine rc_constant (b' := b + 2) (by omega) hT1 (by omega) (by omega) (by omega) rfl hm3 (fun τ2 ⟨s2, hT2, f2⟩ => ?_)
    rw [ez] at hT2 f2
    have hm4 := f2.liv hm3 hm3.1
    have rest : ∀ (τ3 : Sg) (s3 : NS), StC tx n σ0 τ3 u.1 s3 [] [] (a + 2) (b + 5) → Fst s2 s1.1 (isO u.1) u.2 s3 → OkI wd (d - 1) m_Reader_takes [vR 17, vI 44] τ3 (fun r4 s4 => ((¬ r4 = 0 → Bk wd d 0 0 m_Reader_select 0 0 (qv Q) 51 [oR 17, none, oI (nI m), oI (nI c), none] [] s4) ∧ (r4 = 0 → OkV wd (d - 1) m_Reader_sign [vR 17, vI 58] s4 (fun s5 => OkV wd (d - 1) m_Reader_body [vR 17, vI (nI c), vI (s4.1 5 6)] s5 (fun s6 => Bk wd d 0 0 m_Reader_select 0 0 (qv Q) 35 [oR 17, none, oI (nI m), none, none] [] s6))))) := by
      intro τ3 s3 hT3 f3
      have f5 : Fst s1 c (isO u.1) (tN (18, frI y, 0) (tap z.2 u.2) .leaf) s3 := Fst.node hm2.1 (Fst.cat hm3.1 f2 f3 (fun o => MO.o hmu o)) (fun o => hq1 (MO.o (hmz.trans hmu) o))
      have f6 := Fst.cat hc.1 hf f5 (fun o => MO.o (hmz.trans hmu) o)
      by_cases r3 : isS u.1 44 = true
      · rw [if_pos r3] at hh
        refine rc_takes (b := b) (a := a + 2) (by omega) (hT3.okb (b' := a + 2) (isS_o r3) |>.okb (isS_o r3)) (by omega) (fun q => by rw [r3] at q; exact absurd q (by decide)) (fun _ τ4 hT4 => ⟨fun _ => ?_, fun q => absurd q (by decide)⟩)
        exact ih _ τ4 s3 _ (nx_fuel (isK_0 (isS_k r3).1 (by decide)).1 hT3.invs (mo_fuel (hmz.trans hmu) hT.invs hfu)) (hT4.weak (by omega) (Nat.le_refl _)) (f6.weak (fun o => MO.o MO.nx o)) (fun τ' s' k1 k2 => hh τ' s' k1 (by rw [tap_assoc] at k2; exact k2))
      · rw [if_neg r3] at hh
        exact rc_takes (by omega) hT3 (by omega) (fun _ => ⟨fun q => absurd rfl q, fun _ => hK _ (hh τ3 s3 hT3 f6)⟩) (fun q => absurd q r3)
    unfold rg2P at eu
    by_cases r2 : isS z.1 257 = true
    · rw [if_pos r2] at eu
      refine rc_takes (b := b + 2) (by omega) hT2 (by omega) (fun q => by rw [r2] at q; exact absurd q (by decide)) (fun _ τ3 hT3 => ⟨fun q => absurd q (by decide), fun _ => ?_⟩)
      refine rc_constant (b' := b + 5) (a := a + 2) (by omega) (hT3.weak (by omega) (Nat.le_refl _)) (by omega) (by omega) (by omega) rfl hm4 (fun τ4 ⟨s4, hT4, f4⟩ => ?_)
      rw [eu] at hT4 f4
      exact rest τ4 s4 hT4 f4
    · rw [if_neg r2] at eu
      refine rc_takes (b := b + 2) (by omega) hT2 (by omega) (fun _ => ⟨fun _ => ?_, fun q => absurd rfl q⟩) (fun q => absurd q r2)
      subst eu
      exact rest τ2 s2 (hT2.weak (by omega) (by omega)) Fst.nil
theorem rc_select {Q : Sg → Prop} (hM : SmC wd tx n σ0 F) (hd : 4 * F + 463 ≤ d) (hH : HS (F + 1) x) (hS : StC tx n σ0 σ x s [] [] a b) (hk : isW x 21 = true) (hb2 : a + 10 * d + 8 ≤ b') (hb' : b' ≤ 32000) (h1 : x1 = nI p) (hp : Liv s p) (h : ∀ σ', PoC tx n σ0 s [] [] p (caP tx n (stmP tx n F) x) a b' σ' → Q σ') : OkV wd d m_Reader_select [vR 17, vI x1] σ Q := by
  have ho := isW_o hk
  have hS := hS.okb (b' := a) ho
  have hmx := hS.many (Nat.le_refl _)
  have hpay : s.1 + 4 ≤ a := by
    cases x with
    | ok q => exact hS.pay ((isK_0 (isW_k hk).1 (by decide)).2 q rfl)
    | error e => exact absurd hk (show ¬ false = true by decide)
  unfold caP at h
  dsimp only at h
  refine v_Reader_select _ _ (by omega) (rc_add (by omega) hS (Nat.le_refl _) (by omega) h1 hp (fun σ1 q0 hq0 _ hS1 => rc_open (by omega) hS1 (Nat.le_refl _) (fun σ2 hS2 => ?_)))
  have hq0 := hq0 ho
  subst hq0
  have hm1 := add_liv (k := 16) (q := frI x) (v := 0) hp.1 (by omega : s.1 < 2 ^ 30)
  generalize es : putN (addN s 16 (frI x) 0) p s.1 = s0 at hS2 hm1
  refine rc_next (a' := a) (by omega) hS2 (by omega) (fun q hq => ⟨by omega, fun k0 => absurd k0 (op_k (Or.inl (isW_k hk).1) (by decide) q hq)⟩) (fun σ3 hS3 => ?_)
  refine rc_expput (b' := a + 10 * (d - 1) + 4) (by omega) hS3 (by omega) (by omega) (by omega) (by omega) rfl hm1 (hH.h0.mo hS.invs (MO.op.trans MO.nx)) (fun σ4 ⟨s4, hS4, f4⟩ => ?_)
  have hm4 := f4.liv hm1 hm1.1
  refine rc_word (a' := a) (by omega) hS4 (by omega) (by omega) (fun σ5 hS5 => ?_)
  have hmE : MO n (opR x) (expP tx n (nxR tx n (opR x))).1 := MO.nx.trans MO.exp
  generalize expP tx n (nxR tx n (opR x)) = E at h hS4 f4 hS5 hmE
  have loop : ∀ (f : Nat) (y : RS) (τ : Sg) (s1 : NS) (t : Tr), (∀ q, y = .ok q → n + 1 ≤ sF q + f) → MO n (opR x) y → MO n E.1 y → StC tx n σ0 τ y s1 [] [] a (a + 10 * (d - 1) + 4) → Fst s4 s.1 (isO y) t s1 →
      (∀ σ', PoC tx n σ0 s [] [] p (clR (wtR tx n (isW (othP tx n (stmP tx n F) (calP tx n (stmP tx n F) f y).1).1 22) (othP tx n (stmP tx n F) (calP tx n (stmP tx n F) f y).1).1), tN (16, frI x, 0) (tap E.2 (tap t (tap (calP tx n (stmP tx n F) f y).2 (othP tx n (stmP tx n F) (calP tx n (stmP tx n F) f y).1).2))) .leaf) a b' σ' → Q σ') →
      Bk wd d 0 0 m_Reader_select 0 0 (qv Q) 35 [oR 17, none, oI (nI s.1), none, none] [] τ := by
    intro f
    have stop : ∀ (y : RS) (τ : Sg) (s1 : NS) (t : Tr), MO n (opR x) y → MO n E.1 y → StC tx n σ0 τ y s1 [] [] a (a + 10 * (d - 1) + 4) → Fst s4 s.1 (isO y) t s1 →
        (∀ σ', PoC tx n σ0 s [] [] p (clR (wtR tx n (isW (othP tx n (stmP tx n F) y).1 22) (othP tx n (stmP tx n F) y).1), tN (16, frI x, 0) (tap E.2 (tap t (othP tx n (stmP tx n F) y).2)) .leaf) a b' σ' → Q σ') → OkV wd (d - 1) m_Reader_otherwise [vR 17, vI (nI s.1)] τ (fun s2 => OkV wd (d - 1) m_Reader_word [vR 17, vI 22] s2 (fun s3 => Q (wI s3 17 4 ((s3.1 17 4) - 1)))) := by
      intro y τ s1 t hmo hmo2 hT hf hh
      refine rc_otherwise (b' := b') hM (by omega) (hH.op hS.invs hmo) hT (by omega) (by omega) (by omega) (by omega) rfl (hf.liv hm4 hm4.1) (fun τ5 ⟨s5, hT5, f5⟩ => ?_)
      refine rc_word (a' := a) (by omega) hT5 (by omega) (by omega) (fun τ6 hT6 => hh _ ⟨s5, hT6.close (cl_dep hS.invs ((hmo.trans (MO.oth (fun _ => MO.stm F))).trans MO.wt)), ?_⟩)
      have fy := Fst.cat hm1.1 f4 (Fst.cat hm4.1 hf f5 (fun o => MO.o (MO.oth (tx := tx) (fun _ => MO.stm F)) o)) (fun o => MO.o (hmo2.trans (MO.oth (tx := tx) (fun _ => MO.stm F))) o)
      subst es
      exact Fst.node hp.1 (fy.weak (fun o => MO.o MO.wt (cl_o o))) (fun _ => rfl)
    induction f with
    | zero =>
      intro y τ s1 t hfu hmo hmo2 hT hf hh
      cases y with
      | ok q => have := hfu q rfl; have := hT.inv.1; omega
      | error e =>
        refine v_Reader_select_35 _ _ (rc_isConstant (by omega) hT ⟨fun _ => stop _ τ s1 t hmo hmo2 hT hf (fun σ' hσ' => hh σ' hσ'), fun q => absurd rfl q⟩)
    | succ f ih =>
      intro y τ s1 t hfu hmo hmo2 hT hf hh
      have eN : calP tx n (stmP tx n F) (f + 1) y = if begC y = true then ((calP tx n (stmP tx n F) f (caoP tx n (stmP tx n F) y).1).1, tap (caoP tx n (stmP tx n F) y).2 (calP tx n (stmP tx n F) f (caoP tx n (stmP tx n F) y).1).2) else (y, .leaf) := rfl
      rw [eN] at hh
      have hm5 := hf.liv hm4 hm4.1
      refine v_Reader_select_35 _ _ (rc_isConstant (by omega) hT ⟨fun c => ?_, fun c => ?_⟩)
      · rw [if_neg (by rw [b2_0.mp c]; decide)] at hh
        exact stop _ τ s1 t hmo hmo2 hT hf hh
      · have c := b2_n0.mp c
        rw [if_pos c] at hh
        have hoy : isO y = true := by
          cases y with
          | ok q => rfl
          | error e => exact absurd c (show ¬ false = true by decide)
        have hT' := hT.okb (b' := a) hoy
        have hmy := hT'.many (Nat.le_refl _)
        have hge : s.1 + 1 ≤ s1.1 := hm5.1
        refine rc_add (by omega) hT' (Nat.le_refl _) (by omega) rfl hm5 (fun τ1 q1 hq1 _ hT1 => ?_)
        have hq1 := hq1 hoy
        subst hq1
        have hm6 := add_liv (k := 17) (q := frI y) (v := 0) hm5.1 (by omega : s1.1 < 2 ^ 30)
        generalize es1 : putN (addN s1 17 (frI y) 0) s.1 s1.1 = s1' at hT1 hm6
        generalize er : rglP tx n (n + 1) y = R
        have hmR : MO n y R.1 := by rw [← er]; exact MO.rgl _
        generalize ev : wtR tx n (isS R.1 58) R.1 = v
        have hmv : MO n R.1 v := by rw [← ev]; exact MO.wt
        generalize eb : bodP tx n (stmP tx n F) v (frI R.1) = bb
        have hmb : MO n v bb.1 := by rw [← eb]; exact MO.bod (fun _ => MO.stm F)
        have eC : caoP tx n (stmP tx n F) y = (bb.1, tN (17, frI y, 0) (tap R.2 bb.2) .leaf) := by subst er ev eb; rfl
        rw [eC] at hh
        dsimp only at hh
        refine rc_ranges (a := a) (b := a + 2) (s0 := s1') (c := s1.1) (m := s.1) (K := fun τ => ∃ s2, StC tx n σ0 τ R.1 s2 [] [] (a + 2) (a + 7) ∧ Fst s1' s1.1 (isO R.1) R.2 s2) (by omega) hm6 (by omega) (Nat.le_refl _) (fun τ2 ⟨s2, hT2, f2⟩ => ?_) (n + 1) y τ1 s1' .leaf (fun q _ => by omega) (hT1.weak (Nat.le_refl _) (by omega)) Fst.nil (fun τ' s2 k1 k2 => ⟨s2, by rw [er] at k1; exact k1, by rw [er] at k2; exact k2⟩)
        have hm7 := f2.liv hm6 hm6.1
        refine rc_sign (a' := a - 1) (by omega) hT2 (by omega) (by omega) (fun τ3 hT3 => ?_)
        rw [ev] at hT3
        refine rc_body (pl' := frI R.1) (b' := a + 10 * (d - 1) + 4) hM (by omega) (hH.op hS.invs ((hmo.trans hmR).trans hmv)) hT3 (by omega) (by omega) (by omega) (by omega) rfl hm7 (fun o => hT2.fro (MO.o hmv o)) (fun τ4 ⟨s6, hT4, f6⟩ => ?_)
        rw [eb] at hT4 f6
        have hT4 := hT4.weak (a' := a) (by omega) (Nat.le_refl _)
        have hmall : MO n y bb.1 := (hmR.trans hmv).trans hmb
        have f8 : Fst s1 s.1 (isO bb.1) (tN (17, frI y, 0) (tap R.2 bb.2) .leaf) s6 := by
          have f7 := Fst.cat hm6.1 f2 f6 (fun o => MO.o (hmv.trans hmb) o)
          subst es1
          exact Fst.node hm5.1 f7 (fun _ => rfl)
        have f9 := Fst.cat hm4.1 hf f8 (fun o => MO.o hmall o)
        have sl : SL n y bb.1 := by
          refine SL.mo (z := v) ?_ hmb (hmR.trans hmv)
          rw [← ev]
          exact SL.wS hmR
        refine ih bb.1 τ4 s6 _ (sl.fuel hmall hT.invs hfu) (hmo.trans hmall) (hmo2.trans hmall) hT4 f9 (fun σ' hσ' => hh σ' (by simpa only [tap_assoc] using hσ'))
  exact loop (n + 1) _ σ5 s4 .leaf (fun q _ => by omega) (hmE.trans MO.wt) MO.wt hS5 Fst.nil h
theorem rc_repeat {Q : Sg → Prop} (hM : SmC wd tx n σ0 F) (hd : 4 * F + 463 ≤ d) (hH : HS (F + 1) x) (hS : StC tx n σ0 σ x s [] [] a b) (hk : isW x 23 = true) (hb2 : a + 10 * d + 8 ≤ b') (hb' : b' ≤ 32000) (h1 : x1 = nI p) (hp : Liv s p) (h : ∀ σ', PoC tx n σ0 s [] [] p (foP tx n (stmP tx n F) x) a b' σ' → Q σ') : OkV wd d m_Reader_repeat [vR 17, vI x1] σ Q := by
  have ho := isW_o hk
  have hS := hS.okb (b' := a) ho
  have hmx := hS.many (Nat.le_refl _)
  have hpay : s.1 + 4 ≤ a := by
    cases x with
    | ok q => exact hS.pay ((isK_0 (isW_k hk).1 (by decide)).2 q rfl)
    | error e => exact absurd hk (show ¬ false = true by decide)
  unfold foP at h
  dsimp only at h
  refine v_Reader_repeat _ _ (by omega) (rc_add (by omega) hS (Nat.le_refl _) (by omega) h1 hp (fun σ1 q0 hq0 _ hS1 => rc_open (by omega) hS1 (Nat.le_refl _) (fun σ2 hS2 => ?_)))
  have hq0 := hq0 ho
  subst hq0
  have hm1 := add_liv (k := 19) (q := frI x) (v := 0) hp.1 (by omega : s.1 < 2 ^ 30)
  have ek := (Fst.nil (s := putN (addN s 19 (frI x) 0) p s.1) (p := s.1) (o := true)).key hp.1
  generalize es : putN (addN s 19 (frI x) 0) p s.1 = s0 at hS2 hm1 ek
  refine rc_next (a' := a) (by omega) hS2 (by omega) (fun q hq => ⟨by omega, fun k0 => absurd k0 (op_k (Or.inl (isW_k hk).1) (by decide) q hq)⟩) (fun σ3 hS3 => ?_)
  have hm3 : MO n (opR x) (nxR tx n (opR x)) := MO.nx
  generalize nxR tx n (opR x) = y at h hS3 hm3
  refine rc_name (a' := a) (by omega) hS3 (by omega) (by omega) (fun σ4 v4 hv4 hS4 => ⟨vp_in_nI (by omega) (by omega), ?_⟩)
  rw [nI_clamp (by omega)]
  have hS4 := hS4.setV (v := v4) hm1 ek
  have hz : ∀ z, MO n (wtR tx n (isK y 1) y) z → isO z = true → ((19, frI x, v4) : Nd) = (19, frI x, vaI y) := fun z hz o => by rw [hv4 (wt_b (MO.o hz o))]
  have hmz : MO n (opR x) (wtR tx n (isK y 1) y) := hm3.trans MO.wt
  generalize wtR tx n (isK y 1) y = z at h hS4 hz hmz
  have hm1' : Liv (setN s0 s.1 (19, frI x, v4)) s.1 := ⟨hm1.1, by rw [setN_rp]; exact hm1.2⟩
  refine rc_sign (a' := a) (by omega) hS4 (by omega) (by omega) (fun σ5 hS5 => ?_)
  refine rc_constant (b' := a + 2) (by omega) hS5 (by omega) (by omega) (by omega) rfl hm1' (fun σ6 ⟨s6, hS6, f6⟩ => ?_)
  have hmA : MO n z (conP tx n (wtR tx n (isS z 256) z)).1 := MO.wt.trans MO.con
  generalize conP tx n (wtR tx n (isS z 256) z) = A at h hS6 f6 hmA
  have hm6 := f6.liv hm1' hm1'.1
  refine rc_word (a' := a) (by omega) hS6 (by omega) (by omega) (fun σ7 hS7 => ?_)
  refine rc_constant (b' := a + 3) (by omega) hS7 (by omega) (by omega) (by omega) rfl hm6 (fun σ8 ⟨s8, hS8, f8⟩ => ?_)
  have hmB : MO n A.1 (conP tx n (wtR tx n (isW A.1 24) A.1)).1 := MO.wt.trans MO.con
  generalize conP tx n (wtR tx n (isW A.1 24) A.1) = B at h hS8 f8 hmB
  have hm8 := f8.liv hm6 hm6.1
  have tail : ∀ (C : RS × Tr) (τ : Sg) (s9 : NS), C = byP tx n B.1 → StC tx n σ0 τ C.1 s9 [] [] a (a + 5) → Fst s8 s.1 (isO C.1) C.2 s9 → OkV wd (d - 1) m_Reader_word [vR 17, vI 26] τ (fun s10 => OkV wd (d - 1) m_Reader_body [vR 17, vI (nI s.1), vI (τ.1 5 6)] s10 (fun s11 => OkV wd (d - 1) m_Reader_word [vR 17, vI 27] s11 (fun s12 => Q (wI s12 17 4 ((s12.1 17 4) - 1))))) := by
    intro C τ s9 eC hT f9
    rw [← eC] at h
    have hmC : MO n B.1 C.1 := by rw [eC]; exact MO.by
    have hm9 := f9.liv hm8 hm8.1
    refine rc_word (a' := a - 1) (by omega) hT (by omega) (by omega) (fun τ1 hT1 => ?_)
    have hmW : MO n C.1 (wtR tx n (isW C.1 26) C.1) := MO.wt
    generalize wtR tx n (isW C.1 26) C.1 = v at h hT1 hmW
    refine rc_body (pl' := frI C.1) (b' := b') hM (by omega) (hH.op hS.invs ((((hmz.trans hmA).trans hmB).trans hmC).trans hmW)) hT1 (by omega) (by omega) (by omega) (by omega) rfl hm9 (fun o => hT.fro (MO.o hmW o)) (fun τ2 ⟨s10, hT2, f10⟩ => ?_)
    have hmE : MO n v (bodP tx n (stmP tx n F) v (frI C.1)).1 := MO.bod (fun _ => MO.stm F)
    generalize bodP tx n (stmP tx n F) v (frI C.1) = E at h hT2 f10 hmE
    refine rc_word (a' := a) (by omega) (hT2.weak (a' := a) (by omega) (Nat.le_refl _)) (by omega) (by omega) (fun τ3 hT3 => h _ ⟨s10, hT3.close (cl_dep hS.invs ((((((hmz.trans hmA).trans hmB).trans hmC).trans hmW).trans hmE).trans MO.wt)), ?_⟩)
    have oE : ∀ o, isO (clR (wtR tx n (isW E.1 27) E.1)) = o → o = true → isO E.1 = true := fun o e ho => by rw [← e] at ho; exact MO.o MO.wt (cl_o ho)
    have fE : Fst (setN s0 s.1 (19, frI x, v4)) s.1 (isO (clR (wtR tx n (isW E.1 27) E.1))) (tap A.2 (tap B.2 (tap C.2 E.2))) s10 :=
      (Fst.cat hm1'.1 f6 (Fst.cat hm6.1 f8 (Fst.cat hm8.1 f9 f10 (fun o => MO.o (hmW.trans hmE) o)) (fun o => MO.o ((hmC.trans hmW).trans hmE) o)) (fun o => MO.o (((hmB.trans hmC).trans hmW).trans hmE) o)).weak (fun o => oE _ rfl o)
    subst es
    exact Fst.node2 (o1 := true) (t1 := .leaf) hp.1 Fst.nil fE (fun _ => rfl) (fun o => hz _ (((((hmA.trans hmB).trans hmC).trans hmW).trans hmE)) (oE _ rfl o))
  refine rc_isW (by omega) hS8 ⟨fun c => ?_, fun c => ?_⟩
  · refine tail (B.1, .leaf) σ8 s8 ?_ (hS8.weak (Nat.le_refl _) (by omega)) Fst.nil
    unfold byP; rw [if_neg (by rw [b2_0.mp c]; decide)]
  · have c := b2_n0.mp c
    refine rc_next (a' := a) (by omega) hS8 (by omega) (fun q hq => ⟨by omega, fun k0 => absurd k0 ((isK_0 (isW_k c).1 (by decide)).2 q hq)⟩) (fun σ9 hS9 => ?_)
    refine rc_constant (b' := a + 5) (by omega) hS9 (by omega) (by omega) (by omega) rfl hm8 (fun σ10 ⟨s10, hS10, f10⟩ => tail _ σ10 s10 ?_ hS10 f10)
    unfold byP; rw [if_pos c]
theorem rc_statement (hM : SmC wd tx n σ0 F) : SmC wd tx n σ0 (F + 1) := by
  intro d σ x s a b b' p Q hd hH hS hab hb hb2 hb' hp h0 h1
  have eN : stmP tx n (F + 1) x = if isK x 1 = true then namP tx n x else if isW x 16 = true then ifP tx n (stmP tx n F) x else if isW x 21 = true then caP tx n (stmP tx n F) x else if isW x 23 = true then foP tx n (stmP tx n F) x else if (isW x 28 || isW x 29) = true then (nxR tx n x, tN (if isW x 28 = true then 20 else 21, frI x, 0) .leaf .leaf) else (x, .leaf) := rfl
  have fin : begS x = true → ∀ τ, PoC tx n σ0 s [] [] p (stmP tx n (F + 1) x) a b' τ → OkV wd (d - 1) m_Reader_sign [vR 17, vI 59] τ (fun s9 => ((1 = (0 : Int32) ∨ 1 = (1 : Int32)) ∧ Q 1 s9)) := by
    intro hB τ ⟨s1, hT, f1⟩
    exact rc_sign (a' := a) (by omega) hT (by omega) (by omega) (fun τ1 hT1 => ⟨Or.inr rfl, h1 hB τ1 ⟨s1, hT1, f1.weak (fun o => MO.o MO.wt o)⟩⟩)
  have ex : ∀ k, isK x 1 = false → isW x 16 = false → isW x 21 = false → isW x 23 = false → (isW x 28 || isW x 29) = true → k = (if isW x 28 = true then (20 : Int32) else 21) → OkI wd (d - 1) m_Reader_add [vR 17, vI (nI p), vI k, vI 0] σ (fun r7 s7 => OkV wd (d - 1) m_Reader_next [vR 17] s7 (fun s8 => OkV wd (d - 1) m_Reader_sign [vR 17, vI 59] s8 (fun s9 => ((1 = (0 : Int32) ∨ 1 = (1 : Int32)) ∧ Q 1 s9)))) := by
    intro k c1 c2 c3 c4 c5 hk
    have hB : begS x = true := by
      unfold begS
      simp only [Bool.or_eq_true] at c5 ⊢
      rcases c5 with c | c <;> simp [c]
    have hk2 : isK x 2 = true := by
      simp only [Bool.or_eq_true] at c5
      rcases c5 with c | c <;> exact (isW_k c).1
    rw [eN, if_neg (by rw [c1]; decide), if_neg (by rw [c2]; decide), if_neg (by rw [c3]; decide), if_neg (by rw [c4]; decide), if_pos c5, ← hk] at fin
    exact rc_leaf (b' := b') (b := a) (by omega) (hS.okb (isK_o hk2)) (Nat.le_refl _) (by omega) (by omega) rfl hp hk2 (by decide) (fun τ hτ => fin hB τ hτ)
  refine v_Reader_statement _ _ (by omega) (rc_isK (by omega) hS ⟨fun r1 => rc_isW (by omega) hS ⟨fun r2 => rc_isW (by omega) hS ⟨fun r3 => rc_isW (by omega) hS ⟨fun r4 => rc_isW (by omega) hS ⟨fun r5 => rc_isW (by omega) hS ⟨fun r6 => ?_, fun r6 => ?_⟩, fun r5 => rc_isW (by omega) hS ⟨fun r6 => rc_isS (by omega) hS ⟨fun r7 => ?_, fun r7 => ?_⟩, fun r6 => rc_isW (by omega) hS ⟨fun r7 => ?_, fun r7 => ?_⟩⟩⟩, fun r4 => ?_⟩, fun r3 => ?_⟩, fun r2 => ?_⟩, fun r1 => ?_⟩)
  · exact absurd r6 r5
  · exact ex 20 (b2_0.mp r1) (b2_0.mp r2) (b2_0.mp r3) (b2_0.mp r4) (by rw [b2_n0.mp r5]; rfl) (by rw [if_pos (b2_n0.mp r5)])
  · have r7 := b2_n0.mp r7
    refine fin (by unfold begS; simp [r7]) σ ?_
    rw [eN, if_neg (by rw [b2_0.mp r1]; decide), if_neg (by rw [b2_0.mp r2]; decide), if_neg (by rw [b2_0.mp r3]; decide), if_neg (by rw [b2_0.mp r4]; decide), if_neg (by rw [b2_0.mp r5, b2_0.mp r6]; decide)]
    exact PoC.nil (hS.weak (Nat.le_refl _) hb)
  · refine ⟨Or.inl rfl, h0 ?_⟩
    unfold begS
    rw [b2_0.mp r1, b2_0.mp r2, b2_0.mp r3, b2_0.mp r4, b2_0.mp r5, b2_0.mp r6, b2_0.mp r7]; rfl
  · exact ex 21 (b2_0.mp r1) (b2_0.mp r2) (b2_0.mp r3) (b2_0.mp r4) (by rw [b2_n0.mp r6]; simp) (by rw [if_neg (by rw [b2_0.mp r5]; decide)])
  · exact absurd (b2_n0.mp r7) (by rw [b2_0.mp r5]; decide)
  · have r4 := b2_n0.mp r4
    refine rc_repeat (b' := b') hM (by omega) hH hS r4 (by omega) (by omega) rfl hp (fun τ hτ => fin (by unfold begS; simp [r4]) τ ?_)
    rw [eN, if_neg (by rw [b2_0.mp r1]; decide), if_neg (by rw [b2_0.mp r2]; decide), if_neg (by rw [b2_0.mp r3]; decide), if_pos r4]
    exact hτ
  · have r3 := b2_n0.mp r3
    refine rc_select (b' := b') hM (by omega) hH hS r3 (by omega) (by omega) rfl hp (fun τ hτ => fin (by unfold begS; simp [r3]) τ ?_)
    rw [eN, if_neg (by rw [b2_0.mp r1]; decide), if_neg (by rw [b2_0.mp r2]; decide), if_pos r3]
    exact hτ
  · have r2 := b2_n0.mp r2
    refine rc_choose (b' := b') hM (by omega) hH hS r2 (by omega) (by omega) rfl hp (fun τ hτ => fin (by unfold begS; simp [r2]) τ ?_)
    rw [eN, if_neg (by rw [b2_0.mp r1]; decide), if_pos r2]
    exact hτ
  · have r1 := b2_n0.mp r1
    refine rc_named (b' := b') (by omega) hS hab (by omega) (by omega) rfl hp hH.h0 r1 (fun τ hτ => fin (by unfold begS; simp [r1]) τ ?_)
    rw [eN, if_pos r1]
    exact hτ
theorem rc_statement0 : SmC wd tx n σ0 0 := by
  intro d σ x s a b b' p Q hd hH hS hab hb hb2 hb' hp h0 h1
  cases x with
  | ok q =>
    have := (hH q rfl).1
    have := hS.inv.2.2.2.2.2.2
    omega
  | error e =>
    have h0 := h0 rfl
    exact v_Reader_statement _ _ (by omega) (rc_isK (by omega) hS ⟨fun _ => rc_isW (by omega) hS ⟨fun _ => rc_isW (by omega) hS ⟨fun _ => rc_isW (by omega) hS ⟨fun _ => rc_isW (by omega) hS ⟨fun r => absurd rfl r, fun _ => rc_isW (by omega) hS ⟨fun _ => rc_isS (by omega) hS ⟨fun r => absurd rfl r, fun _ => ⟨Or.inl rfl, h0⟩⟩, fun r => absurd rfl r⟩⟩, fun r => absurd rfl r⟩, fun r => absurd rfl r⟩, fun r => absurd rfl r⟩, fun r => absurd rfl r⟩)
theorem rc_stm : ∀ F, SmC wd tx n σ0 F
  | 0 => rc_statement0
  | F + 1 => rc_statement (rc_stm F)
end
