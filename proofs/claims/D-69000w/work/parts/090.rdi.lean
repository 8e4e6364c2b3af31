/-! 090: the component reads statements: names, bodies -/
section
variable {wd : Wd} {d n F : Nat} {tx : Nat → Int32} {σ0 σ : Sg} {x : RS} {s : NS} {sg : List (Int32 × Int32)} {op : List Nat} {a b b' p : Nat} {x1 : Int32}
/-- a node told anew between its children -/
theorem Fst.node2 {s3 s4 : NS} {k v q : Int32} {z z' : Nd} {o1 o2 : Bool} {t1 t2 : Tr} (hp : p < s.1) (h1 : Fst (putN (addN s k q v) p s.1) s.1 o1 t1 s3) (h2 : Fst (setN s3 s.1 z) s.1 o2 t2 s4) (ho : o2 = true → o1 = true) (hz : o2 = true → z = z') : Fst s p o2 (tN z' (tap t1 t2) .leaf) s4 := by
  obtain ⟨L1, e1, f1⟩ := h1
  obtain ⟨L2, e2, f2⟩ := h2
  have b1 : s.1 + 1 ≤ s3.1 := e1.1
  have b2 : s3.1 ≤ s4.1 := e2.1
  have en := Ext.node (q := z) hp e1
  have ekey : (setN s3 s.1 z).2 s.1 = (z.1, z.2.1, z.2.2, rp (s3.2 s.1), rc (s3.2 s.1)) := by show upR s3.2 s.1 _ s.1 = _; rw [upR_at, if_pos rfl]
  have e3 : rc (s3.2 s.1) = L1 := by
    rw [e1.2.2]
    have : (putN (addN s k q v) p s.1).2 s.1 = (k, q, v, nI p, []) := by
      show upR (upR (upR s.2 s.1 _) s.1 _) p _ s.1 = _
      rw [upR_at, if_neg (by omega), upR_at, if_pos rfl, addN_top]; rfl
    rw [this]; rfl
  refine ⟨[s.1], ⟨by omega, fun j hj hn => ?_, ?_⟩, fun o => ?_⟩
  · rw [e2.2.1 j (by show j < s3.1; omega) (by omega)]; exact en.2.1 j hj hn
  · rw [e2.2.1 p (by show p < s3.1; omega) (by omega)]; exact en.2.2
  · rw [← hz o]
    refine ⟨s.1, [], rfl, Nat.le_refl _, by omega, by rw [e2.2.2, ekey]; rfl, ?_, rfl⟩
    have ec : rc (s4.2 s.1) = L1 ++ L2 := by
      rw [e2.2.2, ekey]
      show rc (s3.2 s.1) ++ L2 = _
      rw [e3]
    rw [ec]
    refine FoN.app ((f1 (ho o)).mono (by show s.1 ≤ s.1 + 1; omega) b2 (fun j h3 h4 => ?_)) ((f2 o).mono (by show s.1 ≤ s3.1; omega) (Nat.le_refl _) (fun j _ _ => ⟨rfl, rfl⟩))
    have h3 : s.1 + 1 ≤ j := h3
    rw [e2.2.1 j h4 (by omega)]
    have : (setN s3 s.1 z).2 j = s3.2 j := by show upR s3.2 s.1 _ j = _; rw [upR_at, if_neg (by omega)]
    rw [this]; exact ⟨rfl, rfl⟩
/-- a node that is added and put below another one -/
theorem nc_addput {K : Int32 → Sg → Prop} {k q v : Int32} (hd : 1 ≤ d) (hS : StC tx n σ0 σ x s sg op a b) (hab : a ≤ b) (hb : b < 33400) (h1 : x1 = nI p) (hp : Liv s p) (h : ∀ σ', StC tx n σ0 σ' x (putN (addN s k q v) p s.1) sg op (a + 1) (b + 1) → K (nI s.1) σ') : OkI wd d m_Nodes_add [vR 7, vI k, vI q, vI v] σ (fun r s1 => OkV wd d m_Nodes_put [vR 7, vI x1, vI r] s1 (fun s2 => K r s2)) := by
  have hq := hS.opl
  exact nc_add hd hS hab (by omega) (fun σ1 hS1 => nc_put hd hS1 (by omega) (by omega) h1 rfl ⟨Nat.lt_succ_of_lt hp.1, by rw [addN_lt hp.1]; exact hp.2⟩ (Nat.lt_succ_self _) (by have := hp.1; omega) (by rw [addN_top]; rfl) (fun r => by have := hq _ r; omega) (fun σ2 hS2 => h σ2 hS2))
/-- where statements stand: no expression is open -/
def H0 (x : RS) : Prop := ∀ q, x = .ok q → sS q = 0
theorem H0.mo {y : RS} (h : H0 x) (hi : ∀ q, x = .ok q → InvS n q) (hm : MO n x y) : H0 y := by
  intro q hq
  cases x with
  | error e => rw [hm.1 e rfl] at hq; cases hq
  | ok r => rw [(hm.2 r q rfl hq (hi r rfl)).2.2.1]; exact h r rfl
theorem H0.ex (h : H0 x) : ∀ q, x = .ok q → 61 ≤ 70 + sD q ∧ ([] : List (Int32 × Int32)).length ≤ sD q ∧ ([] : List Nat).length ≤ ([] : List (Int32 × Int32)).length + sS q ∧ sS q ≤ sD q := by
  intro q hq
  have := h q hq
  exact ⟨by omega, by simp, by simp, by omega⟩
/-- an expression at a statement, put below p -/
theorem rc_expput {Q : Sg → Prop} (hd : 441 ≤ d) (hS : StC tx n σ0 σ x s [] [] a b) (hab : a ≤ b) (hb : b + 2 ≤ b') (hb2 : a + 10 * d + 2 ≤ b') (hb' : b' ≤ 33000) (h1 : x1 = nI p) (hp : Liv s p) (h0 : H0 x) (h : ∀ σ', PoC tx n σ0 s [] [] p (expP tx n x) a b' σ' → Q σ') : OkI wd d m_Reader_expression [vR 17] σ (fun r s1 => OkV wd d m_Nodes_put [vR 7, vI x1, vI r] s1 (fun s2 => Q s2)) :=
  rc_exp 70 d σ x s [] [] a b b' _ (by omega) h0.ex (by simp) (by simp) hS hab hb hb2 hb' (fun σ1 v ⟨s1, c, ev, hS1, hE⟩ => nc_putE (by omega) hS1 (by omega) (by omega) h1 ev hp hS.opl hE (fun σ2 hS2 f2 => h σ2 ⟨_, hS2, f2⟩))
theorem rc_isConstant {Q : Int32 → Sg → Prop} (hd : 2 ≤ d) (hS : StC tx n σ0 σ x s sg op a b) (h : Q (b2 (begC x)) σ) : OkI wd d m_Reader_isConstant [vR 17] σ Q := by
  unfold begC at h
  refine v_Reader_isConstant _ (by omega) (rc_isS (by omega) hS ⟨fun r => ⟨Or.inr rfl, ?_⟩, fun r => rc_isK (by omega) hS ⟨fun r2 => ⟨Or.inr rfl, ?_⟩, fun r2 => rc_isW (by omega) hS ⟨fun r3 => ⟨Or.inr rfl, ?_⟩, fun r3 => rc_isW (by omega) hS ⟨fun r4 => ⟨Or.inl rfl, ?_⟩, fun r4 => ⟨Or.inr rfl, ?_⟩⟩⟩⟩⟩)
  · rw [b2_n0.mp r] at h; exact h
  · rw [b2_n0.mp r2, Bool.or_true] at h; exact h
  · rw [b2_n0.mp r3, Bool.or_true] at h; exact h
  · rw [b2_0.mp r, b2_0.mp r2, b2_0.mp r3, b2_0.mp r4] at h; exact h
  · rw [b2_n0.mp r4, Bool.or_true] at h; exact h
theorem rc_invoke {Q : Sg → Prop} (hd : 443 ≤ d) (hS : StC tx n σ0 σ x s [] [] a b) (hab : a ≤ b) (hb : b + 6 ≤ b') (hb2 : a + 10 * d + 6 ≤ b') (hb' : b' ≤ 33000) (h1 : x1 = nI p) (hp : Liv s p) (h0 : H0 x) (h : ∀ σ', PoC tx n σ0 s [] [] p (invP tx n x) a b' σ' → Q σ') : OkV wd d m_Reader_invoke [vR 17, vI x1] σ Q := by
  subst h1
  unfold invP at h
  dsimp only at h
  have hmx := hS.many hab
  refine v_Reader_invoke _ _ (by omega) (rc_open (by omega) hS hab (fun σ1 hS1 => ?_))
  refine rc_next (a' := a) (by omega) hS1 hab (fun q e => ⟨by omega, fun k0 => Nat.le_refl _⟩) (fun σ2 hS2 => rc_isS (by omega) hS2 ⟨fun r => ?_, fun r => ?_⟩)
  · have r := b2_n0.mp r
    rw [if_pos r] at h
    refine rc_sign (a' := a) (by omega) hS2 (by omega) (by omega) (fun σ5 hS5 => h _ ⟨_, (hS5.weak (Nat.le_refl _) (by omega)).close (cl_dep hS.invs (MO.nx.trans MO.wt)), Fst.nil⟩)
  · have r := b2_0.mp r
    rw [if_neg (by rw [r]; decide)] at h
    have loop : ∀ (f : Nat) (y : RS) (τ : Sg) (s1 : NS) (t : Tr), (∀ q, y = .ok q → n + 1 ≤ sF q + f) → MO n (opR x) y → StC tx n σ0 τ y s1 [] [] a b → Fst s p (isO y) t s1 →
        (∀ σ', PoC tx n σ0 s [] [] p (clR (wtR tx n (isS (prlP tx n f y).1 41) (prlP tx n f y).1), tap t (prlP tx n f y).2) a b' σ' → Q σ') →
        Bk wd d 0 0 m_Reader_invoke 0 0 (qv Q) 17 [oR 17, oI (nI p), none, none] [] τ := by
      intro f
      induction f with
      | zero =>
        intro y τ s1 t hfu hmo hT hf hh
        have hm2 := hf.liv hp hp.1
        have hmy := hT.many hab
        cases y with
        | ok q => have := hfu q rfl; have := hT.inv.1; omega
        | error e =>
          refine v_Reader_invoke_17 _ _ (rc_name (a' := a) (by omega) hT hab (by omega) (fun σ3 v3 hv3 hS3 => ?_))
          refine nc_addput (by omega) hS3 hab (by omega) rfl hm2 (fun σ4 hS4 => ?_)
          have hm3 := add_liv (k := 14) (q := τ.1 5 6) (v := v3) hm2.1 (by omega : s1.1 < 2 ^ 30)
          have e0 : Fst (putN (addN s1 14 (τ.1 5 6) v3) p s1.1) s1.1 false .leaf (putN (addN s1 14 (τ.1 5 6) v3) p s1.1) := Fst.nil
          refine rc_sign (a' := a) (by omega) hS4 (by omega) (by omega) (fun σ5 hS5 => ?_)
          refine rc_expput (b' := b') (by omega) hS5 (by omega) (by omega) (by omega) hb' rfl hm3 (fun q hq => by cases hq) (fun σ6 ⟨s6, hS6, f6⟩ => ?_)
          refine rc_takes (by omega) hS6 (by omega) (fun _ => ⟨fun c => absurd rfl c, fun _ => ?_⟩) (fun c => absurd c (show ¬ false = true by decide))
          have f7 : Fst s1 p false .leaf s6 := (Fst.node (q' := 0) hm2.1 (f6.any (o' := false) (u := .leaf) rfl) (fun o => absurd o (by decide))).any rfl
          refine rc_sign (a' := a) (by omega) hS6 (by omega) (by omega) (fun σ7 hS7 => hh _ ⟨_, hS7.close (cl_dep hS.invs (hmo.trans MO.wt)), (Fst.cat hp.1 hf f7 (fun o => absurd o (by decide))).any rfl⟩)
      | succ f ih =>
        intro y τ s1 t hfu hmo hT hf hh
        have hm2 := hf.liv hp hp.1
        have hmy := hT.many hab
        generalize ez : wtR tx n (isK y 1) y = z
        have hmz : MO n y z := by rw [← ez]; exact MO.wt
        generalize eu : wtR tx n (isS z 256) z = u
        have hmu : MO n z u := by rw [← eu]; exact MO.wt
        have eN : prlP tx n (f + 1) y = if isS (expP tx n u).1 44 = true then ((prlP tx n f (nxR tx n (expP tx n u).1)).1, tap (tN (14, frI y, vaI y) (expP tx n u).2 .leaf) (prlP tx n f (nxR tx n (expP tx n u).1)).2) else ((expP tx n u).1, tN (14, frI y, vaI y) (expP tx n u).2 .leaf) := by subst ez eu; rfl
        rw [eN] at hh
        refine v_Reader_invoke_17 _ _ (rc_name (a' := a - 4) (by omega) hT hab (by omega) (fun σ3 v3 hv3 hS3 => ?_))
        rw [ez] at hS3
        refine nc_addput (by omega) hS3 (by omega) (by omega) rfl hm2 (fun σ4 hS4 => ?_)
        have hm3 := add_liv (k := 14) (q := τ.1 5 6) (v := v3) hm2.1 (by omega : s1.1 < 2 ^ 30)
        refine rc_sign (a' := a) (by omega) (hS4.weak (a' := a + 1) (b' := b + 1) (by omega) (Nat.le_refl _)) (by omega) (by omega) (fun σ5 hS5 => ?_)
        rw [eu] at hS5
        refine rc_expput (b' := b') (by omega) hS5 (by omega) (by omega) (by omega) hb' rfl hm3 (h0.mo hS.invs (((MO.op.trans hmo).trans hmz).trans hmu)) (fun σ6 ⟨s6, hS6, f6⟩ => ?_)
        have f7 : Fst s1 p (isO (expP tx n u).1) (tN (14, frI y, vaI y) (expP tx n u).2 .leaf) s6 := by
          obtain ⟨L, q1, q2⟩ := f6
          refine ⟨[s1.1], q1.node' hm2.1, fun o => ?_⟩
          have oz : isO z = true := MO.o (hmu.trans MO.exp) o
          have ok1 : isK y 1 = true := by rw [← ez] at oz; exact wt_b oz
          have := FoN.node' hm2.1 q1 (q2 o)
          rw [hT.fro (isK_o ok1), hv3 ok1] at this
          exact this
        have f5 := Fst.cat hp.1 hf f7 (fun o => MO.o ((hmz.trans hmu).trans MO.exp) o)
        by_cases r3 : isS (expP tx n u).1 44 = true
        · rw [if_pos r3] at hh
          refine rc_takes (b := b) (by omega) (hS6.okb (isS_o r3)) hab (fun c => by rw [r3] at c; exact absurd c (by decide)) (fun _ σ7 hS7 => ⟨fun _ => ?_, fun c => absurd c (by decide)⟩)
          refine ih _ σ7 _ _ (nx_fuel (isK_0 (isS_k r3).1 (by decide)).1 hS6.invs (mo_fuel ((hmz.trans hmu).trans MO.exp) hT.invs hfu)) ((((hmo.trans hmz).trans hmu).trans MO.exp).trans MO.nx) (hS7.weak (by omega) (Nat.le_refl _)) (f5.weak (fun o => MO.o MO.nx o)) (fun σ' hσ' => hh σ' (by rw [tap_assoc] at hσ'; exact hσ'))
        · rw [if_neg r3] at hh
          refine rc_takes (b := b') (by omega) hS6 (by omega) (fun _ => ⟨fun c => absurd rfl c, fun _ => ?_⟩) (fun c => absurd c r3)
          refine rc_sign (a' := a) (by omega) hS6 (by omega) (by omega) (fun σ7 hS7 => hh _ ⟨_, hS7.close (cl_dep hS.invs ((((hmo.trans hmz).trans hmu).trans MO.exp).trans MO.wt)), f5.weak (fun o => MO.o MO.wt (cl_o o))⟩)
    exact loop (n + 1) _ σ2 s .leaf (fun q _ => by omega) MO.nx hS2 Fst.nil h
theorem rc_named {Q : Sg → Prop} (hd : 444 ≤ d) (hS : StC tx n σ0 σ x s [] [] a b) (hab : a ≤ b) (hb2 : a + 10 * d + 4 ≤ b') (hb' : b' ≤ 33000) (h1 : x1 = nI p) (hp : Liv s p) (h0 : H0 x) (hk : isK x 1 = true) (h : ∀ σ', PoC tx n σ0 s [] [] p (namP tx n x) a b' σ' → Q σ') : OkV wd d m_Reader_named [vR 17, vI x1] σ Q := by
  have hS := hS.okb (b' := a) (isK_o hk)
  have hmx := hS.many (Nat.le_refl _)
  have ho := isK_o hk
  unfold namP at h
  dsimp only at h
  have hpay : s.1 + 4 ≤ a := by
    cases x with
    | ok q => exact hS.pay ((isK_0 hk (by decide)).2 q rfl)
    | error e => exact absurd hk (show ¬ false = true by decide)
  refine v_Reader_named _ _ (by omega) (rc_name (a' := a - 4) (by omega) hS (Nat.le_refl _) (by omega) (fun σ1 v1 hv1 hS1 => ?_))
  have hv1 := hv1 hk
  subst hv1
  have ey : wtR tx n (isK x 1) x = nxR tx n x := by rw [hk]; rfl
  rw [ey] at hS1
  rw [hS.fro ho]
  generalize eyy : nxR tx n x = y at hS1 h
  have hxy : MO n x y := by rw [← eyy]; exact MO.nx
  have h0y := h0.mo hS.invs hxy
  refine rc_isS (by omega) hS1 ⟨fun r => ?_, fun r => ?_⟩
  · have r := b2_0.mp r
    rw [if_neg (by rw [r]; decide)] at h
    refine nc_addput (by omega) hS1 (by omega) (by omega) h1 hp (fun σ2 hS2 => ?_)
    have hm2 := add_liv (k := 12) (q := 0) (v := 0) hp.1 (by omega : s.1 < 2 ^ 30)
    generalize es2 : putN (addN s 12 0 0) p s.1 = s2 at hS2 hm2
    have hs2 : s2.1 = s.1 + 1 := by rw [← es2]; rfl
    have e12 : rk (s2.2 s.1) = (12, 0, 0) := by
      rw [← es2]
      exact (Fst.nil (o := true)).key hp.1
    -- behind the target
    have tail : ∀ (z : RS) (t : Tr) (τ : Sg) (s3 : NS) (B : Nat), StC tx n σ0 τ z s3 [] [] a B → a ≤ B → B + 2 ≤ b' → Fst s2 s.1 (isO z) t s3 → MO n y z →
        (∀ σ', PoC tx n σ0 s [] [] p ((expP tx n (wtR tx n (isS z 256) z)).1, tN (12, frI z, 0) (tap t (expP tx n (wtR tx n (isS z 256) z)).2) .leaf) a b' σ' → Q σ') →
        (vp_in (nI s.1) 33500 ∧ OkV wd (d - 1) m_Reader_sign [vR 17, vI 256] (wI τ 9 (Int32.toNatClampNeg (nI s.1)) (τ.1 5 6)) (fun s9 => OkI wd (d - 1) m_Reader_expression [vR 17] s9 (fun r10 s10 => OkV wd (d - 1) m_Nodes_put [vR 7, vI (nI s.1), vI r10] s10 (fun s11 => Q s11)))) := by
      intro z t τ s3 B hT haB hB hf hmz hh
      have hm3 := hf.liv hm2 hm2.1
      have ek : rk (s3.2 s.1) = (12, 0, 0) := by
        obtain ⟨L, q1, q2⟩ := hf
        rw [q1.2.2]; exact e12
      refine ⟨vp_in_nI (by omega) (by omega), ?_⟩
      rw [nI_clamp (by omega)]
      have hT2 := hT.setP (p := τ.1 5 6) hm3 ek
      refine rc_sign (a' := a) (by omega) hT2 haB (by omega) (fun σ5 hS5 => ?_)
      refine rc_expput (b' := b') (by omega) hS5 (by omega) (by omega) (by omega) hb' rfl ⟨hm3.1, by rw [setN_rp]; exact hm3.2⟩ (h0y.mo hS1.invs (hmz.trans MO.wt)) (fun σ6 ⟨s6, hS6, f6⟩ => hh σ6 ⟨s6, hS6, ?_⟩)
      subst es2
      refine Fst.node2 hp.1 hf f6 (fun o => MO.o (MO.wt.trans MO.exp) o) (fun o => ?_)
      rw [hT.fro (MO.o (MO.wt.trans MO.exp) o)]
    have adt : ∀ (k : Int32) (K : Int32 → Sg → Prop), (∀ σ', StC tx n σ0 σ' y (putN (addN s2 k (frI x) (vaI x)) s.1 s2.1) [] [] (a - 4 + 1 + 1) (a + 1 + 1) → K (nI s2.1) σ') → OkI wd (d - 1) m_Nodes_add [vR 7, vI k, vI (frI x), vI (vaI x)] σ2 (fun r6 s6 => OkV wd (d - 1) m_Nodes_put [vR 7, vI (nI s.1), vI r6] s6 (fun s7 => K r6 s7)) := by
      intro k K hK
      exact nc_addput (by omega) hS2 (by omega) (by omega) rfl hm2 hK
    unfold tgtP at h
    refine rc_isS (by omega) hS2 ⟨fun r2 => ?_, fun r2 => ?_⟩
    · have r2 := b2_0.mp r2
      rw [if_neg (by rw [r2]; decide)] at h
      refine adt 6 _ (fun σ3 hS3 => rc_isS (by omega) hS3 ⟨fun _ => ?_, fun c => absurd (b2_n0.mp c) (by rw [r2]; decide)⟩)
      have f3 := FoN.one (s := s2) (p := s.1) (k := 6) (v := vaI x) (q := frI x) hm2.1 rfl
      exact tail y _ σ3 _ (a + 2) (hS3.weak (by omega) (by omega)) (by omega) (by omega) ⟨_, f3.1, fun _ => f3.2⟩ MO.rfl' h
    · have r2 := b2_n0.mp r2
      rw [if_pos r2] at h
      refine adt 32 _ (fun σ3 hS3 => rc_isS (by omega) hS3 ⟨fun c => absurd (b2_0.mp c) (by rw [r2]; decide), fun _ => ?_⟩)
      have hm3 := add_liv (s := s2) (k := 32) (q := frI x) (v := vaI x) hm2.1 (by omega)
      refine rc_index (F := 70) (b' := a + 10 * (d - 1) + 4) (rc_exp 70) (by omega) ((hS3.okb (b' := a) (isS_o r2)).weak (a' := a) (by omega) (Nat.le_refl _)) (Nat.le_refl _) (by omega) (by omega) (by omega) rfl hm3 (fun q hq => ?_) (by simp) (by simp) (Or.inl r2) (fun σ4 ⟨s4, hS4, f4⟩ => ?_)
      · have := h0y q hq
        exact ⟨by omega, by simp, by simp, by omega⟩
      · exact tail _ _ σ4 s4 _ hS4 (by omega) (by omega) (Fst.node hm2.1 f4 (fun _ => rfl)) (MO.ix (fun _ => MO.exp)) h
  · have r := b2_n0.mp r
    rw [if_pos r] at h
    refine nc_addput (by omega) hS1 (by omega) (by omega) h1 hp (fun σ2 hS2 => ?_)
    have hm2 := add_liv (k := 13) (q := frI x) (v := vaI x) hp.1 (by omega : s.1 < 2 ^ 30)
    exact rc_invoke (b' := b') (by omega) ((hS2.okb (b' := a) (isS_o r)).weak (a' := a) (by omega) (Nat.le_refl _)) (Nat.le_refl _) (by omega) (by omega) hb' rfl hm2 h0y (fun σ3 ⟨s3, hS3, f3⟩ => h σ3 ⟨s3, hS3, Fst.node hp.1 f3 (fun _ => rfl)⟩)
end
