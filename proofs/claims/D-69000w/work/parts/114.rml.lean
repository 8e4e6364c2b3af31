/-! 114: the reference reads statements: CASE, FOR, the whole -/
section
variable {w : Wd} {d n F : Nat} {tx : Nat → Int32} {σ0 σ : Sg} {x : RS} {s : NS} {a b b' p : Nat} {x1 : Int32}
/-- the ranges of a choice c of the CASE m -/
theorem rm_ranges {Q : Sg → Prop} {m c : Nat} {s0 : NS} {K : Sg → Prop} (hd : 14 ≤ d) (hc : Liv s0 c) (hb : b ≤ 32000) (hab : a + 2 ≤ b)
    (hK : ∀ τ, K τ → OkI w (d - 1) m_M_isSign [vR 81, vI 58] τ (fun r1 s1 => OkV w (d - 1) m_M_body [vR 81, vI (nI c), vI r1] s1 (fun s2 => Bk w d 0 0 m_M_cases 0 0 (qv Q) 28 [oR 81, none, oI (nI m), none, none, none] [] s2))) :
    ∀ (f : Nat) (y : RS) (τ : Sg) (s1 : NS) (t : Tr), (∀ q, y = .ok q → n + 1 ≤ sF q + f) → StM tx n σ0 τ y s1 [] (a + 1) b → Fst s0 c (isO y) t s1 →
    (∀ τ' s2, StM tx n σ0 τ' (rglP tx n f y).1 s2 [] (a + 2) (b + 5) → Fst s0 c (isO (rglP tx n f y).1) (tap t (rglP tx n f y).2) s2 → K τ') →
    Bk w d 0 0 m_M_cases 0 0 (qv Q) 51 [oR 81, none, oI (nI m), oI (nI c), oI 1, none] [] τ := by
  intro f
  have err : ∀ (f : Nat) (e : Int32 × Nat) (τ : Sg) (s1 : NS) (t : Tr), StM tx n σ0 τ (.error e) s1 [] (a + 1) b → Fst s0 c false t s1 → (∀ τ' s2, StM tx n σ0 τ' (rglP tx n f (.error e)).1 s2 [] (a + 2) (b + 5) → Fst s0 c (isO (rglP tx n f (.error e)).1) (tap t (rglP tx n f (.error e)).2) s2 → K τ') →
      Bk w d 0 0 m_M_cases 0 0 (qv Q) 51 [oR 81, none, oI (nI m), oI (nI c), oI 1, none] [] τ := by
    intro f e τ s1 t hT hf hh
    have e1 : (rglP tx n f (.error e)).1 = .error e := (MO.rgl f).1 e rfl
    rw [e1] at hh
    refine v_M_cases_51 _ _ _ _ ⟨fun q => absurd q (by decide), fun _ => ⟨fun _ => hK τ (hh τ s1 ((hT.erra rfl).weak (Nat.le_refl _) (by omega)) (hf.any rfl)), fun q => absurd (hT.flt.mp q) (show ¬ false = true by decide)⟩⟩
  induction f with
  | zero =>
    intro y τ s1 t hfu hT hf hh
    cases y with
    | ok q => have := hfu q rfl; have := hT.inv.1; omega
    | error e => exact err 0 e τ s1 t hT hf hh
  | succ f ih =>
    intro y τ s1 t hfu hT hf hh
    cases hy : y with
    | error e => rw [hy] at hT hf hh; exact err (f + 1) e τ s1 t hT hf hh
    | ok q0 =>
      have oy : isO y = true := by rw [hy]; rfl
      have hm2 := hf.liv hc hc.1
      have hmy := hT.many (by omega)
      generalize ez : conP tx n y = z
      have hmz : MO n y z.1 := by rw [← ez]; exact MO.con
      generalize eu : rg2P tx n z.1 = u
      have hmu : MO n z.1 u.1 := by rw [← eu]; exact MO.rg2
      have eN : rglP tx n (f + 1) y = if isS u.1 44 = true then ((rglP tx n f (nxR tx n u.1)).1, tap (tN (18, frI y, 0) (tap z.2 u.2) .leaf) (rglP tx n f (nxR tx n u.1)).2) else (u.1, tN (18, frI y, 0) (tap z.2 u.2) .leaf) := by subst ez eu; rfl
      rw [eN] at hh
      refine v_M_cases_51 _ _ _ _ ⟨fun q => absurd q (by decide), fun _ => ⟨fun q => absurd (hT.flt.mpr oy) q, fun _ => rm_add (by omega) hT (by omega) (by omega) rfl hm2 (fun τ1 hT1 => ?_)⟩⟩
      rw [hT.fro oy] at hT1
      have hm3 := add_liv (k := 18) (q := frI y) (v := 0) hm2.1 (by omega : s1.1 < 2 ^ 30)
      refine rm_constant (b' := b + 2) (by omega) hT1 (by omega) (by omega) (by omega) rfl hm3 (fun τ2 ⟨s2, hT2, f2⟩ => ?_)
      rw [ez] at hT2 f2
      have hm4 := f2.liv hm3 hm3.1
      have rest : ∀ (τ3 : Sg) (s3 : NS), StM tx n σ0 τ3 u.1 s3 [] (a + 2) (b + 5) → Fst s2 s1.1 (isO u.1) u.2 s3 → OkI w (d - 1) m_M_isSign [vR 81, vI 44] τ3 (fun r8 s8 => ((r8 = 0 → Bk w d 0 0 m_M_cases 0 0 (qv Q) 51 [oR 81, none, oI (nI m), oI (nI c), oI r8, none] [] s8) ∧ (¬ r8 = 0 → OkV w (d - 1) m_M_next [vR 81] s8 (fun s9 => Bk w d 0 0 m_M_cases 0 0 (qv Q) 51 [oR 81, none, oI (nI m), oI (nI c), oI r8, none] [] s9)))) := by
        intro τ3 s3 hT3 f3
        have f5 : Fst s1 c (isO u.1) (tN (18, frI y, 0) (tap z.2 u.2) .leaf) s3 := Fst.node hm2.1 (Fst.cat hm3.1 f2 f3 (fun o => MO.o hmu o)) (fun o => rfl)
        have f6 := Fst.cat hc.1 hf f5 (fun o => MO.o (hmz.trans hmu) o)
        refine rm_isS (by omega) hT3 ⟨fun r => ?_, fun r => ?_⟩
        · have r' := b2_0.mp r
          rw [if_neg (by rw [r']; decide)] at hh
          rw [r']
          exact v_M_cases_51 _ _ _ _ ⟨fun _ => hK _ (hh τ3 s3 hT3 f6), fun q => absurd rfl q⟩
        · have r3 := b2_n0.mp r
          rw [if_pos r3] at hh
          rw [r3]
          have hpay : 4 ≤ a + 2 := by
            cases hu : u.1 with
            | ok q => rw [hu] at hT3 r3; have := hT3.pay ((isK_0 (isS_k r3).1 (by decide)).2 q rfl); omega
            | error e => rw [hu] at r3; exact absurd r3 (show ¬ false = true by decide)
          refine rm_next (a' := a - 2) (b := b) (a := a + 2) (by omega) (hT3.okb (isS_o r3)) (by omega) (fun q e => ⟨by omega, fun k0 => absurd k0 ((isK_0 (isS_k r3).1 (by decide)).2 q e)⟩) (fun τ4 hT4 => ?_)
          exact ih _ τ4 s3 _ (nx_fuel (isK_0 (isS_k r3).1 (by decide)).1 hT3.invs (mo_fuel (hmz.trans hmu) hT.invs hfu)) (hT4.weak (by omega) (Nat.le_refl _)) (f6.weak (fun o => MO.o MO.nx o)) (fun τ' s' k1 k2 => hh τ' s' k1 (by rw [tap_assoc] at k2; exact k2))
      unfold rg2P at eu
      refine rm_isS (by omega) hT2 ⟨fun r => ?_, fun r => ?_⟩
      · rw [if_neg (by rw [b2_0.mp r]; decide)] at eu
        subst eu
        exact rest τ2 s2 (hT2.weak (by omega) (by omega)) Fst.nil
      · have r2 := b2_n0.mp r
        rw [if_pos r2] at eu
        refine rm_next (a' := a + 2) (by omega) hT2 (by omega) (fun q e => ⟨by omega, fun k0 => absurd k0 ((isK_0 (isS_k r2).1 (by decide)).2 q e)⟩) (fun τ3 hT3 => ?_)
        refine rm_constant (b' := b + 5) (by omega) hT3 (by omega) (by omega) (by omega) rfl hm4 (fun τ4 ⟨s4, hT4, f4⟩ => ?_)
        rw [eu] at hT4 f4
        exact rest τ4 s4 hT4 f4
theorem rm_cases {Q : Sg → Prop} (hM : SmM w tx n σ0 F) (hd : 4 * F + 522 ≤ d) (hH : HS F x) (hS : StM tx n σ0 σ x s [] a a) (hk0 : ∀ q, x = .ok q → sK q ≠ 0) (hb2 : a + 10 * d + 8 ≤ b') (hb' : b' ≤ 32000) (h1 : x1 = nI p) (hp : Liv s p) (h : ∀ σ', PoM tx n σ0 s [] p (let e := expP tx n (nxR tx n x); let c := calP tx n (stmP tx n F) (n + 1) (wtR tx n (isW e.1 15) e.1); let o := othP tx n (stmP tx n F) c.1; (wtR tx n (isW o.1 22) o.1, tN (16, frI x, 0) (tap e.2 (tap c.2 o.2)) .leaf)) a b' σ' → Q σ') : OkV w d m_M_cases [vR 81, vI x1] σ Q := by
  have hmx := hS.many (Nat.le_refl _)
  dsimp only at h
  refine v_M_cases _ _ (by omega) (rm_add (by omega) hS (Nat.le_refl _) (by omega) h1 hp (fun σ1 hS1 => ?_))
  have hm1 := add_liv (k := 16) (q := σ.1 81 7) (v := 0) hp.1 (by omega : s.1 < 2 ^ 30)
  have fr0 := hS.fro
  generalize es : putN (addN s 16 (σ.1 81 7) 0) p s.1 = s0 at hS1 hm1
  have hs0 : s0.1 = s.1 + 1 := by rw [← es]; rfl
  refine rm_next (a' := a) (by omega) hS1 (by omega) (fun q hq => ⟨by omega, fun k => absurd k (hk0 q hq)⟩) (fun σ2 hS2 => ?_)
  have hmz : MO n x (nxR tx n x) := MO.nx
  generalize nxR tx n x = z at h hS2 hmz
  refine rm_expput (b' := a + 10 * (d - 1) + 4) (by omega) hS2 (by omega) (by omega) (by omega) (by omega) rfl hm1 (hH.h0.mo hS.invs hmz) (fun σ3 ⟨s3, hS3, f3⟩ => ?_)
  have hmE : MO n z (expP tx n z).1 := MO.exp
  generalize expP tx n z = E at h hS3 f3 hmE
  have hm3 := f3.liv hm1 hm1.1
  refine rm_word (a' := a) (by omega) hS3 (by omega) (by omega) (fun σ4 hS4 => ?_)
  have hmV : MO n E.1 (wtR tx n (isW E.1 15) E.1) := MO.wt
  generalize wtR tx n (isW E.1 15) E.1 = V at h hS4 hmV
  have loop : ∀ (f : Nat) (y : RS) (τ : Sg) (s1 : NS) (t : Tr), (∀ q, y = .ok q → n + 1 ≤ sF q + f) → MO n V y → StM tx n σ0 τ y s1 [] a (a + 10 * (d - 1) + 10) → Fst s3 s.1 (isO y) t s1 →
      (∀ σ', PoM tx n σ0 s [] p (wtR tx n (isW (othP tx n (stmP tx n F) (calP tx n (stmP tx n F) f y).1).1 22) (othP tx n (stmP tx n F) (calP tx n (stmP tx n F) f y).1).1, tN (16, frI x, 0) (tap E.2 (tap t (tap (calP tx n (stmP tx n F) f y).2 (othP tx n (stmP tx n F) (calP tx n (stmP tx n F) f y).1).2))) .leaf) a b' σ' → Q σ') →
      Bk w d 0 0 m_M_cases 0 0 (qv Q) 28 [oR 81, none, oI (nI s.1), none, none, none] [] τ := by
    intro f
    have stop : ∀ (y : RS) (τ : Sg) (s1 : NS) (t : Tr), begC y = false → MO n V y → StM tx n σ0 τ y s1 [] a (a + 10 * (d - 1) + 10) → Fst s3 s.1 (isO y) t s1 →
        (∀ σ', PoM tx n σ0 s [] p (wtR tx n (isW (othP tx n (stmP tx n F) y).1 22) (othP tx n (stmP tx n F) y).1, tN (16, frI x, 0) (tap E.2 (tap t (othP tx n (stmP tx n F) y).2)) .leaf) a b' σ' → Q σ') →
        Bk w d 0 0 m_M_cases 0 0 (qv Q) 28 [oR 81, none, oI (nI s.1), none, none, none] [] τ := by
      intro y τ s1 t hc hmo hT hf hh
      have hmx2 : MO n x y := ((hmz.trans hmE).trans hmV).trans hmo
      refine v_M_cases_28 _ _ (rm_beginsConstant (by omega) hT ⟨fun _ => ?_, fun q => absurd (b2_n0.mp q) (by rw [hc]; decide)⟩)
      refine rm_else (b' := b') hM (by omega) (hH.mo hS.invs hmx2) hT (by omega) (by omega) (by omega) hb' rfl (hf.liv hm3 hm3.1) (fun σ5 ⟨s5, hS5, f5⟩ => hh σ5 ⟨s5, hS5, ?_⟩)
      have moO : MO n y (wtR tx n (isW (othP tx n (stmP tx n F) y).1 22) (othP tx n (stmP tx n F) y).1) := (MO.oth (tx := tx) (fun _ => MO.stm F)).trans MO.wt
      have fy := Fst.cat hm1.1 f3 (Fst.cat hm3.1 hf f5 (fun o => MO.o moO o)) (fun o => MO.o ((hmV.trans hmo).trans moO) o)
      subst es
      exact Fst.node hp.1 fy (fun o => fr0 (MO.o (hmx2.trans moO) o))
    induction f with
    | zero =>
      intro y τ s1 t hfu hmo hT hf hh
      cases y with
      | ok q => have := hfu q rfl; have := hT.inv.1; omega
      | error e => exact stop (.error e) τ s1 t rfl hmo hT hf hh
    | succ f ih =>
      intro y τ s1 t hfu hmo hT hf hh
      have eN : calP tx n (stmP tx n F) (f + 1) y = if begC y = true then ((calP tx n (stmP tx n F) f (caoP tx n (stmP tx n F) y).1).1, tap (caoP tx n (stmP tx n F) y).2 (calP tx n (stmP tx n F) f (caoP tx n (stmP tx n F) y).1).2) else (y, .leaf) := rfl
      rw [eN] at hh
      by_cases hc : begC y = true
      · rw [if_pos hc] at hh
        have hm5 := hf.liv hm3 hm3.1
        have hoy : isO y = true := by
          cases y with
          | ok q => rfl
          | error e => exact absurd hc (show ¬ false = true by decide)
        have hmx2 : MO n x y := ((hmz.trans hmE).trans hmV).trans hmo
        refine v_M_cases_28 _ _ (rm_beginsConstant (by omega) hT ⟨fun q => absurd (b2_0.mp q) (by rw [hc]; decide), fun _ => ?_⟩)
        have hT' := hT.okb (b' := a) hoy
        have hmy := hT'.many (Nat.le_refl _)
        have hge : s.1 + 1 ≤ s1.1 := hm5.1
        rw [hT.fro hoy]
        refine rm_add (by omega) hT' (Nat.le_refl _) (by omega) rfl hm5 (fun τ1 hT1 => ?_)
        have hm6 := add_liv (k := 17) (q := frI y) (v := 0) hm5.1 (by omega : s1.1 < 2 ^ 30)
        generalize es1 : putN (addN s1 17 (frI y) 0) s.1 s1.1 = s1' at hT1 hm6
        generalize er : rglP tx n (n + 1) y = R
        have hmR : MO n y R.1 := by rw [← er]; exact MO.rgl _
        generalize ev : wtR tx n (isS R.1 58) R.1 = v
        have hmv : MO n R.1 v := by rw [← ev]; exact MO.wt
        generalize eb : bodP tx n (stmP tx n F) v (frI R.1) = bb
        have hmb : MO n v bb.1 := by rw [← eb]; exact MO.bod (fun _ => MO.stm F)
        have eC : caoP tx n (stmP tx n F) y = (bb.1, tN (17, frI y, 0) (tap R.2 bb.2) .leaf) := by subst er ev eb; rfl
        rw [eC] at hh
        dsimp only at hh
        refine rm_ranges (a := a) (b := a + 2) (s0 := s1') (c := s1.1) (m := s.1) (K := fun τ => ∃ s2, StM tx n σ0 τ R.1 s2 [] (a + 2) (a + 7) ∧ Fst s1' s1.1 (isO R.1) R.2 s2) (by omega) hm6 (by omega) (Nat.le_refl _) (fun τ2 ⟨s2, hT2, f2⟩ => ?_) (n + 1) y τ1 s1' .leaf (fun q _ => by omega) (hT1.weak (Nat.le_refl _) (by omega)) Fst.nil (fun τ' s2 k1 k2 => ⟨s2, by rw [er] at k1; exact k1, by rw [er] at k2; exact k2⟩)
        have hm7 := f2.liv hm6 hm6.1
        refine rm_isS (by omega) hT2 ?_
        refine rm_body (c := isS R.1 58) (b' := a + 10 * (d - 1) + 10) hM (by omega) (hH.mo hS.invs (hmx2.trans hmR)) hT2 (by omega) (by omega) (by omega) (by omega) rfl hm7 (fun _ => rfl) (fun r => (isK_0 (isS_k r).1 (by decide)).1) (fun τ4 ⟨s6, hT4, f6⟩ => ?_)
        rw [ev, eb] at hT4 f6
        have hT4 := hT4.weak (a' := a) (by omega) (Nat.le_refl _)
        have hmall : MO n y bb.1 := (hmR.trans hmv).trans hmb
        have f8 : Fst s1 s.1 (isO bb.1) (tN (17, frI y, 0) (tap R.2 bb.2) .leaf) s6 := by
          have f7 := Fst.cat hm6.1 f2 f6 (fun o => MO.o (hmv.trans hmb) o)
          subst es1
          exact Fst.node hm5.1 f7 (fun _ => rfl)
        have f9 := Fst.cat hm3.1 hf f8 (fun o => MO.o hmall o)
        have sl : SL n y bb.1 := by
          refine SL.mo (z := v) ?_ hmb (hmR.trans hmv)
          rw [← ev]
          exact SL.wS hmR
        refine ih bb.1 τ4 s6 _ (sl.fuel hmall hT.invs hfu) (hmo.trans hmall) hT4 f9 (fun σ' hσ' => hh σ' (by simpa only [tap_assoc] using hσ'))
      · rw [if_neg hc] at hh
        exact stop y τ s1 t (Bool.eq_false_iff.mpr hc) hmo hT hf (fun σ' hσ' => hh σ' hσ')
  exact loop (n + 1) V σ4 s3 .leaf (fun q _ => by omega) MO.rfl' (hS4.weak (Nat.le_refl _) (by omega)) Fst.nil h
theorem rm_loop {Q : Sg → Prop} (hM : SmM w tx n σ0 F) (hd : 4 * F + 522 ≤ d) (hH : HS F x) (hS : StM tx n σ0 σ x s [] a a) (hk0 : ∀ q, x = .ok q → sK q ≠ 0) (hb2 : a + 10 * d + 8 ≤ b') (hb' : b' ≤ 32000) (h1 : x1 = nI p) (hp : Liv s p) (h : ∀ σ', PoM tx n σ0 s [] p (let y := nxR tx n x; let z := wtR tx n (isK y 1) y; let A := conP tx n (wtR tx n (isS z 256) z); let B := conP tx n (wtR tx n (isW A.1 24) A.1); let C := byP tx n B.1; let e := bodP tx n (stmP tx n F) (wtR tx n (isW C.1 26) C.1) (frI C.1); (wtR tx n (isW e.1 27) e.1, tN (19, frI x, vaI y) (tap A.2 (tap B.2 (tap C.2 e.2))) .leaf)) a b' σ' → Q σ') : OkV w d m_M_loop [vR 81, vI x1] σ Q := by
  have hmx := hS.many (Nat.le_refl _)
  dsimp only at h
  refine v_M_loop _ _ (by omega) (rm_add (by omega) hS (Nat.le_refl _) (by omega) h1 hp (fun σ1 hS1 => ?_))
  have hm1 := add_liv (k := 19) (q := σ.1 81 7) (v := 0) hp.1 (by omega : s.1 < 2 ^ 30)
  have ek := (Fst.nil (s := putN (addN s 19 (σ.1 81 7) 0) p s.1) (p := s.1) (o := true)).key hp.1
  have fr0 := hS.fro
  generalize σ.1 81 7 = v0 at hS1 hm1 ek fr0
  generalize es : putN (addN s 19 v0 0) p s.1 = s0 at hS1 hm1 ek
  refine rm_next (a' := a) (by omega) hS1 (by omega) (fun q hq => ⟨by omega, fun k => absurd k (hk0 q hq)⟩) (fun σ3 hS3 => ?_)
  have hm3 : MO n x (nxR tx n x) := MO.nx
  generalize nxR tx n x = y at h hS3 hm3
  refine rm_name (a' := a) (by omega) hS3 (by omega) (by omega) (fun σ4 v4 hv4 hS4 => ⟨vp_in_nI (by omega) (by omega), ?_⟩)
  rw [nI_clamp (by omega)]
  have hS4 := hS4.setV (v := v4) hm1 ek
  have hz : ∀ z, MO n (wtR tx n (isK y 1) y) z → isO z = true → ((19, v0, v4) : Nd) = (19, frI x, vaI y) := fun z hz o => by rw [hv4 (wt_b (MO.o hz o)), fr0 (MO.o ((hm3.trans MO.wt).trans hz) o)]
  have hmz : MO n x (wtR tx n (isK y 1) y) := hm3.trans MO.wt
  generalize wtR tx n (isK y 1) y = z at h hS4 hz hmz
  have hm1' : Liv (setN s0 s.1 (19, v0, v4)) s.1 := ⟨hm1.1, by rw [setN_rp]; exact hm1.2⟩
  refine rm_sign (a' := a) (by omega) hS4 (by omega) (by omega) (fun σ5 hS5 => ?_)
  refine rm_constant (b' := a + 2) (by omega) hS5 (by omega) (by omega) (by omega) rfl hm1' (fun σ6 ⟨s6, hS6, f6⟩ => ?_)
  have hmA : MO n z (conP tx n (wtR tx n (isS z 256) z)).1 := MO.wt.trans MO.con
  generalize conP tx n (wtR tx n (isS z 256) z) = A at h hS6 f6 hmA
  have hm6 := f6.liv hm1' hm1'.1
  refine rm_word (a' := a) (by omega) hS6 (by omega) (by omega) (fun σ7 hS7 => ?_)
  refine rm_constant (b' := a + 3) (by omega) hS7 (by omega) (by omega) (by omega) rfl hm6 (fun σ8 ⟨s8, hS8, f8⟩ => ?_)
  have hmB : MO n A.1 (conP tx n (wtR tx n (isW A.1 24) A.1)).1 := MO.wt.trans MO.con
  generalize conP tx n (wtR tx n (isW A.1 24) A.1) = B at h hS8 f8 hmB
  have hm8 := f8.liv hm6 hm6.1
  have tail : ∀ (C : RS × Tr) (τ : Sg) (s9 : NS), C = byP tx n B.1 → StM tx n σ0 τ C.1 s9 [] a (a + 5) → Fst s8 s.1 (isO C.1) C.2 s9 → OkI w (d - 1) m_M_isWord [vR 81, vI 26] τ (fun r9 s9 => OkV w (d - 1) m_M_body [vR 81, vI (nI s.1), vI r9] s9 (fun s10 => OkV w (d - 1) m_M_wantWord [vR 81, vI 27] s10 (fun s11 => Q s11))) := by
    intro C τ s9 eC hT f9
    rw [← eC] at h
    have hmC : MO n B.1 C.1 := by rw [eC]; exact MO.by
    have hm9 := f9.liv hm8 hm8.1
    refine rm_isW (by omega) hT ?_
    have hmW : MO n C.1 (wtR tx n (isW C.1 26) C.1) := MO.wt
    refine rm_body (c := isW C.1 26) (b' := b') hM (by omega) (hH.mo hS.invs (((hmz.trans hmA).trans hmB).trans hmC)) hT (by omega) (by omega) (by omega) (by omega) rfl hm9 (fun _ => rfl) (fun r => (isK_0 (isW_k r).1 (by decide)).1) (fun τ2 ⟨s10, hT2, f10⟩ => ?_)
    generalize wtR tx n (isW C.1 26) C.1 = v at h hT2 f10 hmW
    have hmE : MO n v (bodP tx n (stmP tx n F) v (frI C.1)).1 := MO.bod (fun _ => MO.stm F)
    generalize bodP tx n (stmP tx n F) v (frI C.1) = E at h hT2 f10 hmE
    refine rm_word (a' := a) (by omega) (hT2.weak (a' := a) (by omega) (Nat.le_refl _)) (by omega) (by omega) (fun τ3 hT3 => h _ ⟨s10, hT3, ?_⟩)
    have fE : Fst (setN s0 s.1 (19, v0, v4)) s.1 (isO (wtR tx n (isW E.1 27) E.1)) (tap A.2 (tap B.2 (tap C.2 E.2))) s10 :=
      (Fst.cat hm1'.1 f6 (Fst.cat hm6.1 f8 (Fst.cat hm8.1 f9 f10 (fun o => MO.o (hmW.trans hmE) o)) (fun o => MO.o ((hmC.trans hmW).trans hmE) o)) (fun o => MO.o (((hmB.trans hmC).trans hmW).trans hmE) o)).weak (fun o => MO.o MO.wt o)
    subst es
    exact Fst.node2 (o1 := true) (t1 := .leaf) hp.1 Fst.nil fE (fun _ => rfl) (fun o => hz _ (((((hmA.trans hmB).trans hmC).trans hmW).trans hmE)) (MO.o MO.wt o))
  refine rm_isW (by omega) hS8 ⟨fun c => ?_, fun c => ?_⟩
  · refine tail (B.1, .leaf) σ8 s8 ?_ (hS8.weak (Nat.le_refl _) (by omega)) Fst.nil
    unfold byP; rw [if_neg (by rw [b2_0.mp c]; decide)]
  · have c := b2_n0.mp c
    refine rm_next (a' := a) (by omega) hS8 (by omega) (fun q hq => ⟨by omega, fun k0 => absurd k0 ((isK_0 (isW_k c).1 (by decide)).2 q hq)⟩) (fun σ9 hS9 => ?_)
    refine rm_constant (b' := a + 5) (by omega) hS9 (by omega) (by omega) (by omega) rfl hm8 (fun σ10 ⟨s10, hS10, f10⟩ => tail _ σ10 s10 ?_ hS10 f10)
    unfold byP; rw [if_pos c]
/-- IF, CASE or FOR -/
def opnP (tx : Nat → Int32) (n F : Nat) (x : RS) : RS × Tr := if isW x 16 = true then ifP tx n (stmP tx n F) x else if isW x 21 = true then caP tx n (stmP tx n F) x else foP tx n (stmP tx n F) x
theorem opR_fr (h : isO (opR x) = true) : frI (opR x) = frI x := by
  cases x with
  | error e => rfl
  | ok q =>
    unfold opR at h ⊢
    dsimp only at h ⊢
    split at h
    · exact absurd h (show ¬ false = true by decide)
    · rename_i c; rw [if_neg c]; rfl
theorem rm_opened {Q : Sg → Prop} (hM : SmM w tx n σ0 F) (hd : 4 * F + 523 ≤ d) (hH : HS (F + 1) x) (hS : StM tx n σ0 σ x s [] a b) (hk : isK x 2 = true) (hb2 : a + 10 * d + 8 ≤ b') (hb' : b' ≤ 32000) (h1 : x1 = nI p) (hp : Liv s p) (h : ∀ σ', PoM tx n σ0 s [] p (opnP tx n F x) a b' σ' → Q σ') : OkV w d m_M_opened [vR 81, vI x1] σ Q := by
  have ho := isK_o hk
  have hS := hS.okb (b' := a) ho
  refine v_M_opened _ _ (by omega) (rm_open (by omega) hS (Nat.le_refl _) (fun σ1 hS1 => ?_))
  rw [hS.val hk (by decide)]
  have hk0 := op_k (Or.inl hk) (by decide : (2 : Int32) ≠ 0)
  have isw : ∀ k, isW x k = true ↔ vaI x = k := by
    intro k
    refine ⟨fun q => (isW_k q).2, fun q => ?_⟩
    cases x with
    | error e => exact absurd ho (show ¬ false = true by decide)
    | ok u =>
      show (decide (sK u = 2) && decide (sV u = k)) = true
      rw [show decide (sK u = 2) = true from hk, show sV u = k from q]; simp
  unfold opnP at h
  have fin : ∀ (y : RS) (T T' : Tr) (τ : Sg), MO n (opR x) y → (isO y = true → T = T') → (∀ σ', PoM tx n σ0 s [] p (clR y, T') a b' σ' → Q σ') → PoM tx n σ0 s [] p (y, T) a b' τ → Q (wI τ 81 12 (τ.1 81 12 - 1)) := by
    intro y T T' τ hmo hT hh hτ
    obtain ⟨s1, hS1, f1⟩ := hτ
    refine hh _ ⟨s1, hS1.close (cl_dep hS.invs hmo), ?_⟩
    by_cases o : isO y = true
    · rw [← hT o]; exact f1.weak (fun q => cl_o q)
    · refine f1.any ?_
      rw [Bool.eq_false_iff]
      exact fun q => o (cl_o q)
  refine ⟨fun c1 => ⟨fun c2 => ?_, fun c2 => ?_⟩, fun c1 => ?_⟩
  · rw [if_neg (fun q => c1 ((isw 16).mp q)), if_neg (fun q => c2 ((isw 21).mp q))] at h
    have hmo : MO n (opR x) (let y := nxR tx n (opR x); let z := wtR tx n (isK y 1) y; let A := conP tx n (wtR tx n (isS z 256) z); let B := conP tx n (wtR tx n (isW A.1 24) A.1); let C := byP tx n B.1; let e := bodP tx n (stmP tx n F) (wtR tx n (isW C.1 26) C.1) (frI C.1); wtR tx n (isW e.1 27) e.1) := ((((((((MO.nx.trans MO.wt).trans MO.wt).trans MO.con).trans MO.wt).trans MO.con).trans MO.by).trans MO.wt).trans (MO.bod (fun _ => MO.stm F))).trans MO.wt
    refine rm_loop (b' := b') hM (by omega) (hH.op hS.invs MO.rfl') hS1 hk0 (by omega) hb' h1 hp (fun σ2 h2 => fin _ _ _ σ2 hmo (fun o => ?_) h h2)
    rw [opR_fr (MO.o hmo o)]
  · rw [if_neg (fun q => c1 ((isw 16).mp q)), if_pos ((isw 21).mpr c2)] at h
    have hmo : MO n (opR x) (let e := expP tx n (nxR tx n (opR x)); let c := calP tx n (stmP tx n F) (n + 1) (wtR tx n (isW e.1 15) e.1); let o := othP tx n (stmP tx n F) c.1; wtR tx n (isW o.1 22) o.1) := ((((MO.nx.trans MO.exp).trans MO.wt).trans (MO.cal (fun _ => MO.stm F) _)).trans (MO.oth (fun _ => MO.stm F))).trans MO.wt
    refine rm_cases (b' := b') hM (by omega) (hH.op hS.invs MO.rfl') hS1 hk0 (by omega) hb' h1 hp (fun σ2 h2 => fin _ _ _ σ2 hmo (fun o => ?_) h h2)
    rw [opR_fr (MO.o hmo o)]
  · rw [if_pos ((isw 16).mpr c1)] at h
    have hmo : MO n (opR x) (wtR tx n (isW (othP tx n (stmP tx n F) (iflP tx n (stmP tx n F) (n + 1) (opR x)).1).1 20) (othP tx n (stmP tx n F) (iflP tx n (stmP tx n F) (n + 1) (opR x)).1).1) := ((MO.ifl (fun _ => MO.stm F) _).trans (MO.oth (fun _ => MO.stm F))).trans MO.wt
    refine rm_choose (b' := b') hM (by omega) (hH.op hS.invs MO.rfl') hS1 hk0 (by omega) hb' h1 hp (fun σ2 h2 => fin _ _ _ σ2 hmo (fun o => ?_) h h2)
    rw [opR_fr (MO.o hmo o)]
end
