/-! 112: the reference reads statements: names -/
section
variable {w : Wd} {d n F : Nat} {tx : Nat → Int32} {σ0 σ : Sg} {x : RS} {s : NS} {a b b' p : Nat} {x1 : Int32}
theorem H0.exM (h : H0 x) : ∀ q, x = .ok q → 61 ≤ 70 + sD q ∧ ([] : List Kp).length ≤ sD q + sS q ∧ sS q ≤ sD q := by
  intro q hq
  have := h q hq
  exact ⟨by omega, by simp, by omega⟩
theorem rm_expput {Q : Sg → Prop} (hd : 512 ≤ d) (hS : StM tx n σ0 σ x s [] a b) (hab : a ≤ b) (hb : b ≤ b') (hb2 : a + 10 * d + 2 ≤ b') (hb' : b' ≤ 32000) (h1 : x1 = nI p) (hp : Liv s p) (h0 : H0 x) (h : ∀ σ', PoM tx n σ0 s [] p (expP tx n x) a b' σ' → Q σ') : OkV w d m_M_expression [vR 81, vI x1] σ Q := by
  subst h1
  exact rm_exp 70 d σ x s [] a b b' p _ (by omega) h0.exM (by simp) hS hab hb hb2 hb' hp (fun σ1 h1 => h σ1 h1.m)
theorem rm_invoke {Q : Sg → Prop} (hd : 514 ≤ d) (hS : StM tx n σ0 σ x s [] a b) (hab : a ≤ b) (hb : b + 6 ≤ b') (hb2 : a + 10 * d + 6 ≤ b') (hb' : b' ≤ 32000) (h1 : x1 = nI p) (hp : Liv s p) (h0 : H0 x) (hx : isS x 40 = true) (h : ∀ σ', PoM tx n σ0 s [] p (invP tx n x) a b' σ' → Q σ') : OkV w d m_M_invoke [vR 81, vI x1] σ Q := by
  subst h1
  unfold invP at h
  dsimp only at h
  have hmx := hS.many hab
  refine v_M_invoke _ _ (by omega) (rm_open (by omega) hS hab (fun σ1 hS1 => rm_sign (a' := a) (by omega) hS1 hab (by omega) (fun σ2 hS2 => ?_)))
  rw [wt_op hx] at hS2
  have stop : ∀ (y : RS) (τ : Sg) (s1 : NS) (t : Tr) (x2 : Int32), x2 = 0 → MO n (opR x) y → StM tx n σ0 τ y s1 [] a b' → Fst s p (isO y) t s1 → (∀ σ', PoM tx n σ0 s [] p (clR (wtR tx n (isS y 41) y), t) a b' σ' → Q σ') → Bk w d 0 0 m_M_invoke 0 0 (qv Q) 32 [oR 81, oI (nI p), oI x2, none, none] [] τ := by
    intro y τ s1 t x2 hx2 hmo hT hf hh
    subst hx2
    refine v_M_invoke_32 _ _ _ ⟨fun _ => ?_, fun c => absurd rfl c⟩
    exact rm_sign (a' := a) (by omega) hT (by omega) (by omega) (fun σ4 hS4 => hh _ ⟨s1, hS4.close (cl_dep hS.invs (hmo.trans MO.wt)), hf.weak (fun o => MO.o MO.wt (cl_o o))⟩)
  have loop : ∀ (f : Nat) (y : RS) (τ : Sg) (s1 : NS) (t : Tr), (∀ q, y = .ok q → n + 1 ≤ sF q + f) → MO n (opR x) y → StM tx n σ0 τ y s1 [] a b → Fst s p (isO y) t s1 →
      (∀ σ', PoM tx n σ0 s [] p (clR (wtR tx n (isS (prlP tx n f y).1 41) (prlP tx n f y).1), tap t (prlP tx n f y).2) a b' σ' → Q σ') →
      Bk w d 0 0 m_M_invoke 0 0 (qv Q) 32 [oR 81, oI (nI p), oI 1, none, none] [] τ := by
    intro f
    induction f with
    | zero =>
      intro y τ s1 t hfu hmo hT hf hh
      have hm2 := hf.liv hp hp.1
      have hmy := hT.many hab
      cases y with
      | ok q => have := hfu q rfl; have := hT.inv.1; omega
      | error e =>
        refine v_M_invoke_32 _ _ _ ⟨fun c => absurd c (by decide), fun _ => rm_name (a' := a) (by omega) hT hab (by omega) (fun σ3 v3 hv3 hS3 => ?_)⟩
        refine rm_add (by omega) hS3 hab (by omega) rfl hm2 (fun σ4 hS4 => ?_)
        have hm3 := add_liv (k := 14) (q := τ.1 81 7) (v := v3) hm2.1 (by omega : s1.1 < 2 ^ 30)
        refine rm_sign (a' := a) (by omega) hS4 (by omega) (by omega) (fun σ5 hS5 => ?_)
        refine rm_expput (b' := b') (by omega) hS5 (by omega) (by omega) (by omega) hb' rfl hm3 (fun q hq => by cases hq) (fun σ6 ⟨s6, hS6, f6⟩ => ?_)
        have f7 : Fst s1 p false .leaf s6 := (Fst.node (q' := 0) hm2.1 (f6.any (o' := false) (u := .leaf) rfl) (fun o => absurd o (by decide))).any rfl
        refine rm_isS (by omega) hS6 ⟨fun c => ?_, fun c => absurd rfl c⟩
        exact stop (.error e) σ6 s6 _ _ rfl hmo hS6 ((Fst.cat hp.1 hf f7 (fun o => absurd o (by decide))).any rfl) hh
    | succ f ih =>
      intro y τ s1 t hfu hmo hT hf hh
      have hm2 := hf.liv hp hp.1
      have hmy := hT.many hab
      generalize ez : wtR tx n (isK y 1) y = z
      have hmz : MO n y z := by rw [← ez]; exact MO.wt
      generalize eu : wtR tx n (isS z 256) z = u
      have hmu : MO n z u := by rw [← eu]; exact MO.wt
      have eN : prlP tx n (f + 1) y = if isS (expP tx n u).1 44 = true then ((prlP tx n f (nxR tx n (expP tx n u).1)).1, tap (tN (14, frI y, vaI y) (expP tx n u).2 .leaf) (prlP tx n f (nxR tx n (expP tx n u).1)).2) else ((expP tx n u).1, tN (14, frI y, vaI y) (expP tx n u).2 .leaf) := by subst ez eu; rfl
      rw [eN] at hh
      refine v_M_invoke_32 _ _ _ ⟨fun c => absurd c (by decide), fun _ => rm_name (a' := a - 4) (by omega) hT hab (by omega) (fun σ3 v3 hv3 hS3 => ?_)⟩
      rw [ez] at hS3
      refine rm_add (by omega) hS3 (by omega) (by omega) rfl hm2 (fun σ4 hS4 => ?_)
      have hm3 := add_liv (k := 14) (q := τ.1 81 7) (v := v3) hm2.1 (by omega : s1.1 < 2 ^ 30)
      refine rm_sign (a' := a) (by omega) (hS4.weak (a' := a + 1) (b' := b + 1) (by omega) (Nat.le_refl _)) (by omega) (by omega) (fun σ5 hS5 => ?_)
      rw [eu] at hS5
      refine rm_expput (b' := b') (by omega) hS5 (by omega) (by omega) (by omega) hb' rfl hm3 (h0.mo hS.invs (((MO.op.trans hmo).trans hmz).trans hmu)) (fun σ6 ⟨s6, hS6, f6⟩ => ?_)
      have f7 : Fst s1 p (isO (expP tx n u).1) (tN (14, frI y, vaI y) (expP tx n u).2 .leaf) s6 := by
        obtain ⟨L, q1, q2⟩ := f6
        refine ⟨[s1.1], q1.node' hm2.1, fun o => ?_⟩
        have oz : isO z = true := MO.o (hmu.trans MO.exp) o
        have ok1 : isK y 1 = true := by rw [← ez] at oz; exact wt_b oz
        have := FoN.node' hm2.1 q1 (q2 o)
        rw [hT.fro (isK_o ok1), hv3 ok1] at this
        exact this
      have f5 := Fst.cat hp.1 hf f7 (fun o => MO.o ((hmz.trans hmu).trans MO.exp) o)
      have hmA := ((hmo.trans hmz).trans hmu).trans (MO.exp (tx := tx))
      refine rm_isS (by omega) hS6 ⟨fun r3 => ?_, fun r3 => ?_⟩
      · have r' := b2_0.mp r3
        rw [if_neg (by rw [r']; decide)] at hh
        exact stop _ σ6 s6 _ _ r3 hmA hS6 f5 hh
      · have r' := b2_n0.mp r3
        rw [if_pos r'] at hh
        rw [r']
        refine rm_next (a' := a) (by omega) (hS6.okb (b' := b) (isS_o r')) hab (fun q e => ⟨by omega, fun _ => Nat.le_refl _⟩) (fun σ7 hS7 => ?_)
        exact ih _ σ7 _ _ (nx_fuel (isK_0 (isS_k r').1 (by decide)).1 hS6.invs (mo_fuel ((hmz.trans hmu).trans MO.exp) hT.invs hfu)) (hmA.trans MO.nx) hS7 (f5.weak (fun o => MO.o MO.nx o)) (fun σ' hσ' => hh σ' (by rw [tap_assoc] at hσ'; exact hσ'))
  rw [hS2.flt]
  refine ⟨fun c => ?_, fun c => rm_isS (by omega) hS2 ⟨fun r => ?_, fun r => ?_⟩⟩
  · obtain ⟨e, he⟩ : ∃ e, nxR tx n (opR x) = .error e := by
      cases hq : nxR tx n (opR x) with
      | ok q => rw [hq] at c; exact absurd rfl c
      | error e => exact ⟨e, rfl⟩
    have hmo : MO n (opR x) (nxR tx n (opR x)) := MO.nx
    rw [he] at hS2 h hmo
    rw [if_neg (show ¬ isS (.error e) 41 = true from fun q => absurd q (show ¬ false = true by decide))] at h
    refine stop (.error e) σ2 s .leaf 0 rfl hmo (hS2.weak (Nat.le_refl _) (by omega)) Fst.nil (fun σ' hσ' => h σ' ?_)
    obtain ⟨s', k1, k2⟩ := hσ'
    have m := (MO.prl (tx := tx) (n := n) (n + 1) (x := .error e)).1 e rfl
    rw [m]
    exact ⟨s', k1, k2.any rfl⟩
  · have r' := b2_n0.mp r
    rw [if_pos r'] at h
    exact stop _ σ2 s .leaf 0 rfl MO.nx (hS2.weak (Nat.le_refl _) (by omega)) Fst.nil h
  · have r' := b2_0.mp r
    rw [if_neg (by rw [r']; decide)] at h
    exact loop (n + 1) _ σ2 s .leaf (fun q _ => by omega) MO.nx hS2 Fst.nil h
theorem rm_named {Q : Sg → Prop} (hd : 515 ≤ d) (hS : StM tx n σ0 σ x s [] a b) (hb2 : a + 10 * d + 4 ≤ b') (hb' : b' ≤ 32000) (h1 : x1 = nI p) (hp : Liv s p) (h0 : H0 x) (hk : isK x 1 = true) (h : ∀ σ', PoM tx n σ0 s [] p (namP tx n x) a b' σ' → Q σ') : OkV w d m_M_named [vR 81, vI x1] σ Q := by
  have hS := hS.okb (b' := a) (isK_o hk)
  have hmx := hS.many (Nat.le_refl _)
  have ho := isK_o hk
  unfold namP at h
  dsimp only at h
  have hpay : s.1 + 4 ≤ a := by
    cases x with
    | ok q => exact hS.pay ((isK_0 hk (by decide)).2 q rfl)
    | error e => exact absurd hk (show ¬ false = true by decide)
  refine v_M_named _ _ (by omega) (rm_name (a' := a - 4) (by omega) hS (Nat.le_refl _) (by omega) (fun σ1 v1 hv1 hS1 => ?_))
  have hv1 := hv1 hk
  subst hv1
  have ey : wtR tx n (isK x 1) x = nxR tx n x := by rw [hk]; rfl
  rw [ey] at hS1
  rw [hS.fro ho]
  generalize eyy : nxR tx n x = y at hS1 h
  have hxy : MO n x y := by rw [← eyy]; exact MO.nx
  have h0y := h0.mo hS.invs hxy
  refine rm_isS (by omega) hS1 ⟨fun r => ?_, fun r => ?_⟩
  · have r := b2_0.mp r
    rw [if_neg (by rw [r]; decide)] at h
    refine rm_add (by omega) hS1 (by omega) (by omega) h1 hp (fun σ2 hS2 => ?_)
    have hm2 := add_liv (k := 12) (q := 0) (v := 0) hp.1 (by omega : s.1 < 2 ^ 30)
    generalize es2 : putN (addN s 12 0 0) p s.1 = s2 at hS2 hm2
    have hs2 : s2.1 = s.1 + 1 := by rw [← es2]; rfl
    have e12 : rk (s2.2 s.1) = (12, 0, 0) := by
      rw [← es2]
      exact (Fst.nil (o := true)).key hp.1
    have tail : ∀ (z : RS) (t : Tr) (τ : Sg) (s3 : NS) (B : Nat), StM tx n σ0 τ z s3 [] a B → a ≤ B → B + 2 ≤ b' → Fst s2 s.1 (isO z) t s3 → MO n y z →
        (∀ σ', PoM tx n σ0 s [] p ((expP tx n (wtR tx n (isS z 256) z)).1, tN (12, frI z, 0) (tap t (expP tx n (wtR tx n (isS z 256) z)).2) .leaf) a b' σ' → Q σ') →
        (vp_in (nI s.1) 33500 ∧ OkV w (d - 1) m_M_wantSign [vR 81, vI 256] (wI τ 86 (Int32.toNatClampNeg (nI s.1)) (τ.1 81 7)) (fun s6 => OkV w (d - 1) m_M_expression [vR 81, vI (nI s.1)] s6 (fun s7 => Q s7))) := by
      intro z t τ s3 B hT haB hB hf hmz hh
      have hm3 := hf.liv hm2 hm2.1
      have ek : rk (s3.2 s.1) = (12, 0, 0) := by
        obtain ⟨L, q1, q2⟩ := hf
        rw [q1.2.2]; exact e12
      refine ⟨vp_in_nI (by omega) (by omega), ?_⟩
      rw [nI_clamp (by omega)]
      have hT2 := hT.setP (p := τ.1 81 7) hm3 ek
      refine rm_sign (a' := a) (by omega) hT2 haB (by omega) (fun σ5 hS5 => ?_)
      refine rm_expput (b' := b') (by omega) hS5 (by omega) (by omega) (by omega) hb' rfl ⟨hm3.1, by rw [setN_rp]; exact hm3.2⟩ (h0y.mo hS1.invs (hmz.trans MO.wt)) (fun σ6 ⟨s6, hS6, f6⟩ => hh σ6 ⟨s6, hS6, ?_⟩)
      subst es2
      refine Fst.node2 hp.1 hf f6 (fun o => MO.o (MO.wt.trans MO.exp) o) (fun o => ?_)
      rw [hT.fro (MO.o (MO.wt.trans MO.exp) o)]
    unfold tgtP at h
    refine rm_isS (by omega) hS2 ⟨fun r2 => ?_, fun r2 => ?_⟩
    · have r2 := b2_0.mp r2
      rw [if_neg (by rw [r2]; decide)] at h
      refine rm_add (by omega) hS2 (by omega) (by omega) rfl hm2 (fun σ3 hS3 => ?_)
      have f3 := FoN.one (s := s2) (p := s.1) (k := 6) (v := vaI x) (q := frI x) hm2.1 rfl
      exact tail y _ σ3 _ (a + 2) (hS3.weak (by omega) (by omega)) (by omega) (by omega) ⟨_, f3.1, fun _ => f3.2⟩ MO.rfl' h
    · have r2 := b2_n0.mp r2
      rw [if_pos r2] at h
      refine rm_add (by omega) hS2 (by omega) (by omega) rfl hm2 (fun σ3 hS3 => ?_)
      have hm3 := add_liv (s := s2) (k := 32) (q := frI x) (v := vaI x) hm2.1 (by omega)
      refine rm_element (F := 70) (b' := a + 10 * (d - 1) + 4) (rm_exp 70) (by omega) ((hS3.okb (b' := a) (isS_o r2)).weak (a' := a) (by omega) (Nat.le_refl _)) (Nat.le_refl _) (by omega) (by omega) (by omega) rfl hm3 (fun q hq => ?_) (by simp) r2 (fun σ4 ⟨s4, hS4, f4⟩ => ?_)
      · have := h0y q hq
        exact ⟨by omega, by simp, by omega⟩
      · exact tail _ _ σ4 s4 _ hS4 (by omega) (by omega) (Fst.node hm2.1 f4 (fun _ => rfl)) (MO.ix (fun _ => MO.exp)) h
  · have r := b2_n0.mp r
    rw [if_pos r] at h
    refine rm_add (by omega) hS1 (by omega) (by omega) h1 hp (fun σ2 hS2 => ?_)
    have hm2 := add_liv (k := 13) (q := frI x) (v := vaI x) hp.1 (by omega : s.1 < 2 ^ 30)
    refine rm_invoke (b' := b') (by omega) hS2 (by omega) (by omega) (by omega) hb' rfl hm2 h0y r (fun σ3 ⟨s3, hS3, f3⟩ => h σ3 ⟨s3, hS3.weak (by omega) (Nat.le_refl _), Fst.node hp.1 f3 (fun _ => rfl)⟩)
end
