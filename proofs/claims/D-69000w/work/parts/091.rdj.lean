/-! 091: the component reads statements -/
/-- statements at a depth -/
def HS (F : Nat) (x : RS) : Prop := ∀ q, x = .ok q → 61 ≤ F + sD q ∧ sS q = 0
def SmC (wd : Wd) (tx : Nat → Int32) (n : Nat) (σ0 : Sg) (F : Nat) : Prop := ∀ (d : Nat) (σ : Sg) (x : RS) (s : NS) (a b b' p : Nat) (Q : Int32 → Sg → Prop), 4 * F + 460 ≤ d → HS F x → StC tx n σ0 σ x s [] [] a b → a ≤ b → b ≤ b' → a + 10 * d + 8 ≤ b' → b' ≤ 32000 → Liv s p → (begS x = false → Q 0 σ) →
  (begS x = true → ∀ σ', PoC tx n σ0 s [] [] p (wtR tx n (isS (stmP tx n F x).1 59) (stmP tx n F x).1, (stmP tx n F x).2) a b' σ' → Q 1 σ') → OkI wd d m_Reader_statement [vR 17, vI (nI p)] σ Q
section
variable {wd : Wd} {d n F : Nat} {tx : Nat → Int32} {σ0 σ : Sg} {x : RS} {s : NS} {a b b' p : Nat} {x1 : Int32}
theorem HS.h0 (h : HS F x) : H0 x := fun q hq => (h q hq).2
theorem HS.mo {y : RS} (h : HS F x) (hi : ∀ q, x = .ok q → InvS n q) (hm : MO n x y) : HS F y := by
  intro q hq
  cases x with
  | error e => rw [hm.1 e rfl] at hq; cases hq
  | ok r =>
    have m := hm.2 r q rfl hq (hi r rfl)
    have := h r rfl
    omega
theorem HS.op {y : RS} (h : HS (F + 1) x) (hi : ∀ q, x = .ok q → InvS n q) (hm : MO n (opR x) y) : HS F y := by
  intro q hq
  cases x with
  | error e => rw [hm.1 e rfl] at hq; cases hq
  | ok r =>
    have h := h r rfl
    cases ho : opR (.ok r) with
    | error e => rw [hm.1 e ho] at hq; cases hq
    | ok u =>
      have m1 := MO.op.2 r u rfl ho (hi r rfl)
      have m := hm.2 u q ho hq m1.1
      have eu : sD u = sD r + 1 ∧ sS u = sS r := by
        unfold opR at ho
        dsimp only at ho
        split at ho
        · cases ho
        · cases ho; exact ⟨rfl, rfl⟩
      omega
theorem rc_body {Q : Sg → Prop} {pl pl' : Int32} (hM : SmC wd tx n σ0 F) (hd : 4 * F + 461 ≤ d) (hH : HS F x) (hS : StC tx n σ0 σ x s [] [] a b) (hab : a ≤ b) (hb : b + 2 ≤ b') (hb2 : a + 10 * d + 2 ≤ b') (hb' : b' ≤ 32000) (h1 : x1 = nI p) (hp : Liv s p) (hpl : isO x = true → pl = pl') (h : ∀ σ', PoC tx n σ0 s [] [] p (bodP tx n (stmP tx n F) x pl') (a + 1) b' σ' → Q σ') : OkV wd d m_Reader_body [vR 17, vI x1, vI pl] σ Q := by
  have hmx := hS.many hab
  unfold bodP at h
  refine v_Reader_body _ _ _ (by omega) (nc_addput (by omega) hS hab (by omega) h1 hp (fun σ1 hS1 => ?_))
  have hm1 := add_liv (k := 11) (q := pl) (v := 0) hp.1 (by omega : s.1 < 2 ^ 30)
  generalize es : putN (addN s 11 pl 0) p s.1 = s0 at hS1 hm1
  have stop : ∀ (y : RS) (τ : Sg) (s1 : NS) (t : Tr) (B : Nat), StC tx n σ0 τ y s1 [] [] (a + 1) B → B ≤ b' → MO n x y → Fst s0 s.1 (isO y) t s1 → (∀ σ', PoC tx n σ0 s [] [] p (y, tN (11, pl', 0) t .leaf) (a + 1) b' σ' → Q σ') → Q τ := by
    intro y τ s1 t B hT hB hmo hf hh
    subst es
    exact hh τ ⟨s1, hT.weak (Nat.le_refl _) hB, Fst.node hp.1 hf (fun o => hpl (MO.o hmo o))⟩
  have loop : ∀ (f : Nat) (y : RS) (τ : Sg) (s1 : NS) (t : Tr) (B : Nat), (∀ q, y = .ok q → n + 1 ≤ sF q + f) → MO n x y → StC tx n σ0 τ y s1 [] [] (a + 1) B → a + 1 ≤ B → B ≤ b' → Fst s0 s.1 (isO y) t s1 →
      (∀ σ', PoC tx n σ0 s [] [] p ((bdlP tx n (stmP tx n F) f y).1, tN (11, pl', 0) (tap t (bdlP tx n (stmP tx n F) f y).2) .leaf) (a + 1) b' σ' → Q σ') →
      Bk wd d 0 0 m_Reader_body 0 0 (qv Q) 24 [oR 17, none, none, oI (nI s.1), oI 1] [] τ := by
    intro f
    induction f with
    | zero =>
      intro y τ s1 t B hfu hmo hT hB1 hB2 hf hh
      cases y with
      | ok q => have := hfu q rfl; have := hT.inv.1; omega
      | error e =>
        refine v_Reader_body_24 _ _ _ ⟨fun c => absurd c (by decide), fun _ => ⟨fun _ => stop _ τ s1 t B hT hB2 hmo hf (fun σ' hσ' => hh σ' ?_), fun c => absurd (hT.flt.mp c) (show ¬ false = true by decide)⟩⟩
        have : bdlP tx n (stmP tx n F) 0 (.error e) = (.error e, .leaf) := rfl
        rw [this, tap_leaf]; exact hσ'
    | succ f ih =>
      intro y τ s1 t B hfu hmo hT hB1 hB2 hf hh
      have eN : bdlP tx n (stmP tx n F) (f + 1) y = if begS y = true then ((bdlP tx n (stmP tx n F) f (wtR tx n (isS (stmP tx n F y).1 59) (stmP tx n F y).1)).1, tap (stmP tx n F y).2 (bdlP tx n (stmP tx n F) f (wtR tx n (isS (stmP tx n F y).1 59) (stmP tx n F y).1)).2) else (y, .leaf) := rfl
      rw [eN] at hh
      have hm2 := hf.liv hm1 hm1.1
      have no : begS y = false → Q τ := by
        intro c
        rw [if_neg (by rw [c]; decide)] at hh
        refine stop _ τ s1 t B hT hB2 hmo hf (fun σ' hσ' => hh σ' ?_)
        rw [tap_leaf]; exact hσ'
      refine v_Reader_body_24 _ _ _ ⟨fun c => absurd c (by decide), fun _ => ⟨fun c => no ?_, fun c => ?_⟩⟩
      · cases y with
        | ok q => exact absurd (hT.flt.mpr rfl) c
        | error e => rfl
      · have ho := hT.flt.mp c
        refine hM (d - 1) τ y s1 (a + 1) (a + 1) b' s.1 _ (by omega) (hH.mo hS.invs hmo) (hT.okb ho) (Nat.le_refl _) (by omega) (by omega) hb' hm2 (fun r => ?_) (fun r σ2 ⟨s2, hS2, f2⟩ => ?_)
        · exact v_Reader_body_24 _ _ _ ⟨fun _ => no r, fun q => absurd rfl q⟩
        · rw [if_pos r] at hh
          have hmy : MO n y (wtR tx n (isS (stmP tx n F y).1 59) (stmP tx n F y).1) := (MO.stm F).trans MO.wt
          refine ih _ σ2 s2 _ b' ((SL.wS (MO.stm F)).fuel hmy hT.invs hfu) (hmo.trans hmy) hS2 (by omega) (Nat.le_refl _) (Fst.cat hm1.1 hf f2 (fun o => MO.o hmy o)) (fun σ' hσ' => hh σ' (by rw [tap_assoc] at hσ'; exact hσ'))
  exact loop (n + 1) x σ1 s0 .leaf (b + 1) (fun q _ => by omega) MO.rfl' hS1 (by omega) (by omega) Fst.nil h
theorem rc_otherwise {Q : Sg → Prop} (hM : SmC wd tx n σ0 F) (hd : 4 * F + 462 ≤ d) (hH : HS F x) (hS : StC tx n σ0 σ x s [] [] a b) (hab : a ≤ b) (hb : b ≤ b') (hb2 : a + 10 * d + 2 ≤ b') (hb' : b' ≤ 32000) (h1 : x1 = nI p) (hp : Liv s p) (h : ∀ σ', PoC tx n σ0 s [] [] p (othP tx n (stmP tx n F) x) a b' σ' → Q σ') : OkV wd d m_Reader_otherwise [vR 17, vI x1] σ Q := by
  unfold othP at h
  refine v_Reader_otherwise _ _ (by omega) (rc_isW (by omega) hS ⟨fun r => ?_, fun r => ?_⟩)
  · rw [if_neg (by rw [b2_0.mp r]; decide)] at h
    exact h σ (PoC.nil (hS.weak (Nat.le_refl _) hb))
  · have r := b2_n0.mp r
    rw [if_pos r] at h
    have hpay : s.1 + 4 ≤ a := by
      cases x with
      | ok q => exact hS.pay ((isK_0 (isW_k r).1 (by decide)).2 q rfl)
      | error e => exact absurd r (show ¬ false = true by decide)
    refine rc_next (a' := a - 4) (b := a) (by omega) (hS.okb (isW_o r)) (Nat.le_refl _) (fun q' e => ⟨by omega, fun k0 => absurd k0 ((isK_0 (isW_k r).1 (by decide)).2 q' e)⟩) (fun σ1 hS1 => ?_)
    exact rc_body (b' := b') hM (by omega) (hH.mo hS.invs MO.nx) hS1 (by omega) (by omega) (by omega) hb' h1 hp (fun _ => hS.fro (isW_o r)) (fun σ2 ⟨s2, hS2, f2⟩ => h σ2 ⟨s2, hS2.weak (by omega) (Nat.le_refl _), f2⟩)
theorem rc_choose {Q : Sg → Prop} (hM : SmC wd tx n σ0 F) (hd : 4 * F + 463 ≤ d) (hH : HS (F + 1) x) (hS : StC tx n σ0 σ x s [] [] a b) (hk : isW x 16 = true) (hb2 : a + 10 * d + 8 ≤ b') (hb' : b' ≤ 32000) (h1 : x1 = nI p) (hp : Liv s p) (h : ∀ σ', PoC tx n σ0 s [] [] p (ifP tx n (stmP tx n F) x) a b' σ' → Q σ') : OkV wd d m_Reader_choose [vR 17, vI x1] σ Q := by
  have ho := isW_o hk
  have hS := hS.okb (b' := a) ho
  have hmx := hS.many (Nat.le_refl _)
  have hpay : s.1 + 4 ≤ a := by
    cases x with
    | ok q => exact hS.pay ((isK_0 (isW_k hk).1 (by decide)).2 q rfl)
    | error e => exact absurd hk (show ¬ false = true by decide)
  unfold ifP at h
  dsimp only at h
  refine v_Reader_choose _ _ (by omega) (rc_add (by omega) hS (Nat.le_refl _) (by omega) h1 hp (fun σ1 q0 hq0 _ hS1 => rc_open (by omega) hS1 (Nat.le_refl _) (fun σ2 hS2 => ?_)))
  have hq0 := hq0 ho
  subst hq0
  have hm1 := add_liv (k := 15) (q := frI x) (v := 0) hp.1 (by omega : s.1 < 2 ^ 30)
  generalize es : putN (addN s 15 (frI x) 0) p s.1 = s0 at hS2 hm1
  have loop : ∀ (f : Nat) (y : RS) (τ : Sg) (s1 : NS) (t : Tr), (∀ q, y = .ok q → n + 1 ≤ sF q + f) → (∀ q, y = .ok q → sK q ≠ 0) → MO n (opR x) y → StC tx n σ0 τ y s1 [] [] (a + 1) (a + 1) → Fst s0 s.1 (isO y) t s1 →
      (∀ σ', PoC tx n σ0 s [] [] p (clR (wtR tx n (isW (othP tx n (stmP tx n F) (iflP tx n (stmP tx n F) f y).1).1 20) (othP tx n (stmP tx n F) (iflP tx n (stmP tx n F) f y).1).1), tN (15, frI x, 0) (tap t (tap (iflP tx n (stmP tx n F) f y).2 (othP tx n (stmP tx n F) (iflP tx n (stmP tx n F) f y).1).2)) .leaf) a b' σ' → Q σ') →
      Bk wd d 0 0 m_Reader_choose 0 0 (qv Q) 13 [oR 17, none, oI (nI s.1), none] [] τ := by
    intro f y τ s1 t hfu hk0 hmo hT hf hh
    induction f generalizing y τ s1 t with
    | zero =>
      have hm2 := hf.liv hm1 hm1.1
      cases y with
      | ok q => have := hfu q rfl; have := hT.inv.1; omega
      | error e =>
        have ei : iflP tx n (stmP tx n F) 0 (.error e) = (.error e, .leaf) := rfl
        have eo : othP tx n (stmP tx n F) (.error e) = (.error e, .leaf) := rfl
        rw [ei] at hh
        dsimp only at hh
        rw [eo] at hh
        refine v_Reader_choose_13 _ _ (rc_next (a' := a + 1) (by omega) hT (Nat.le_refl _) (fun q hq => by cases hq) (fun τ1 hT1 => ?_))
        refine rc_expput (b' := a + 10 * (d - 1) + 4) (by omega) hT1 (Nat.le_refl _) (by omega) (by omega) (by omega) rfl hm2 (fun q hq => by cases hq) (fun τ2 ⟨s2, hT2, f2⟩ => ?_)
        have hm3 := f2.liv hm2 hm2.1
        refine rc_word (a' := a) (by omega) hT2 (by omega) (by omega) (fun τ3 hT3 => ?_)
        refine rc_body (pl' := 0) (b' := a + 10 * (d - 1) + 6) hM (by omega) (fun q hq => by cases hq) hT3 (by omega) (by omega) (by omega) (by omega) rfl hm3 (fun o => absurd o (show ¬ false = true by decide)) (fun τ4 ⟨s4, hT4, f4⟩ => ?_)
        have eb : (bodP tx n (stmP tx n F) (wtR tx n (isW (expP tx n (nxR tx n (.error e))).1 17) (expP tx n (nxR tx n (.error e))).1) 0).1 = .error e := (MO.bod (p := 0) (fun _ => MO.stm F)).1 e rfl
        rw [eb] at hT4 f4
        have hm4 := f4.liv hm3 hm3.1
        refine rc_isW (by omega) hT4 ⟨fun c => absurd rfl c, fun _ => ?_⟩
        refine rc_otherwise (b' := b') hM (by omega) (fun q hq => by cases hq) hT4 (by omega) (by omega) (by omega) hb' rfl hm4 (fun τ5 ⟨s5, hT5, f5⟩ => ?_)
        rw [eo] at hT5 f5
        refine rc_word (a' := a) (by omega) hT5 (by omega) (by omega) (fun τ6 hT6 => hh _ ⟨s5, hT6.close (fun q hq => by cases hq), ?_⟩)
        have fz : Fst s0 s.1 false .leaf s5 := (Fst.cat hm1.1 hf (Fst.cat hm2.1 f2 (Fst.cat hm3.1 f4 f5 (fun o => o)) (fun o => o)) (fun o => o)).any rfl
        subst es
        exact (Fst.node (q' := frI x) hp.1 fz (fun _ => rfl)).any rfl
    | succ f ih =>
      have hm2 := hf.liv hm1 hm1.1
      generalize ez : nxR tx n y = z
      have hmz : MO n y z := by rw [← ez]; exact MO.nx
      generalize eu : (expP tx n z) = u
      have hmu : MO n z u.1 := by rw [← eu]; exact MO.exp
      generalize ev : wtR tx n (isW u.1 17) u.1 = v
      have hmv : MO n u.1 v := by rw [← ev]; exact MO.wt
      generalize eb : bodP tx n (stmP tx n F) v (frI u.1) = bb
      have hmb : MO n v bb.1 := by rw [← eb]; exact MO.bod (fun _ => MO.stm F)
      have eN : iflP tx n (stmP tx n F) (f + 1) y = if isW bb.1 18 = true then ((iflP tx n (stmP tx n F) f bb.1).1, tap u.2 (tap bb.2 (iflP tx n (stmP tx n F) f bb.1).2)) else (bb.1, tap u.2 bb.2) := by subst ez eu ev eb; rfl
      rw [eN] at hh
      have hmall : MO n (opR x) bb.1 := (((hmo.trans hmz).trans hmu).trans hmv).trans hmb
      refine v_Reader_choose_13 _ _ (rc_next (a' := a) (by omega) hT (Nat.le_refl _) (fun q hq => ⟨by omega, fun k0 => absurd k0 (hk0 q hq)⟩) (fun τ1 hT1 => ?_))
      rw [ez] at hT1
      refine rc_expput (b' := a + 10 * (d - 1) + 4) (by omega) hT1 (by omega) (by omega) (by omega) (by omega) rfl hm2 (hH.h0.mo hS.invs ((MO.op.trans hmo).trans hmz)) (fun τ2 ⟨s2, hT2, f2⟩ => ?_)
      rw [eu] at hT2 f2
      have hm3 := f2.liv hm2 hm2.1
      refine rc_word (a' := a - 1) (by omega) hT2 (by omega) (by omega) (fun τ3 hT3 => ?_)
      rw [ev] at hT3
      refine rc_body (pl' := frI u.1) (b' := a + 10 * (d - 1) + 6) hM (by omega) (hH.op hS.invs (((hmo.trans hmz).trans hmu).trans hmv)) hT3 (by omega) (by omega) (by omega) (by omega) rfl hm3 (fun o => hT2.fro (MO.o hmv o)) (fun τ4 ⟨s4, hT4, f4⟩ => ?_)
      rw [eb] at hT4 f4
      have hm4 := f4.liv hm3 hm3.1
      have hT4 := hT4.weak (a' := a) (by omega) (Nat.le_refl _)
      have fz : Fst s0 s.1 (isO bb.1) (tap t (tap u.2 bb.2)) s4 := Fst.cat hm1.1 hf (Fst.cat hm2.1 f2 f4 (fun o => MO.o (hmv.trans hmb) o)) (fun o => MO.o (((hmz.trans hmu).trans hmv).trans hmb) o)
      refine rc_isW (by omega) hT4 ⟨fun c => ?_, fun c => ?_⟩
      · have c := b2_n0.mp c
        rw [if_pos c] at hh
        have sl : SL n y bb.1 := by
          refine SL.mo (SL.mo (z := v) ?_ hmb ((hmz.trans hmu).trans hmv)) MO.rfl' (((hmz.trans hmu).trans hmv).trans hmb)
          rw [← ev]
          exact SL.wW (hmz.trans hmu)
        refine ih bb.1 τ4 s4 _ (sl.fuel (((hmz.trans hmu).trans hmv).trans hmb) hT.invs hfu) ((isK_0 (isW_k c).1 (by decide)).2) hmall ((hT4.okb (isW_o c)).weak (by omega) (Nat.le_refl _)) fz (fun σ' hσ' => hh σ' ?_)
        simpa only [tap_assoc] using hσ'
      · have c := b2_0.mp c
        rw [if_neg (by rw [c]; decide)] at hh
        refine rc_otherwise (b' := b') hM (by omega) (hH.op hS.invs hmall) hT4 (by omega) (by omega) (by omega) hb' rfl hm4 (fun τ5 ⟨s5, hT5, f5⟩ => ?_)
        refine rc_word (a' := a) (by omega) hT5 (by omega) (by omega) (fun τ6 hT6 => hh _ ⟨s5, hT6.close (cl_dep hS.invs ((hmall.trans (MO.oth (fun _ => MO.stm F))).trans MO.wt)), ?_⟩)
        have fy := Fst.cat hm1.1 fz f5 (fun o => MO.o (MO.oth (tx := tx) (fun _ => MO.stm F)) o)
        subst es
        have := Fst.node hp.1 (fy.weak (o' := isO (clR (wtR tx n (isW (othP tx n (stmP tx n F) bb.1).1 20) (othP tx n (stmP tx n F) bb.1).1))) (fun o => MO.o MO.wt (cl_o o))) (q' := frI x) (fun _ => rfl)
        simpa only [tap_assoc] using this
  refine loop (n + 1) (opR x) σ2 s0 .leaf (fun q _ => by omega) (op_k (Or.inl (isW_k hk).1) (by decide)) MO.rfl' hS2 Fst.nil h
end
