/-! 113: the reference reads statements: bodies, IF, CASE, FOR -/
/-- a row of statements, below p -/
def SmM (w : Wd) (tx : Nat → Int32) (n : Nat) (σ0 : Sg) (F : Nat) : Prop := ∀ (d : Nat) (σ : Sg) (x : RS) (s : NS) (a b b' p : Nat) (Q : Sg → Prop), 4 * F + 520 ≤ d → HS F x → StM tx n σ0 σ x s [] a b → a ≤ b → b ≤ b' → a + 10 * d + 8 ≤ b' → b' ≤ 32000 → Liv s p → (∀ σ', PoM tx n σ0 s [] p (bdlP tx n (stmP tx n F) (n + 1) x) a b' σ' → Q σ') → OkV w d m_M_statements [vR 81, vI (nI p)] σ Q
section
variable {w : Wd} {d n F : Nat} {tx : Nat → Int32} {σ0 σ : Sg} {x : RS} {s : NS} {a b b' p : Nat} {x1 : Int32}
theorem rm_body {Q : Sg → Prop} {c : Bool} {y : Int32} (hM : SmM w tx n σ0 F) (hd : 4 * F + 521 ≤ d) (hH : HS F x) (hS : StM tx n σ0 σ x s [] a b) (hab : a ≤ b) (hb : b ≤ b') (hb2 : a + 10 * d + 8 ≤ b') (hb' : b' ≤ 32000) (h1 : x1 = nI p) (hp : Liv s p) (hy : isO x = true → y = b2 c) (hk : c = true → isK x 0 = false) (h : ∀ σ', PoM tx n σ0 s [] p (bodP tx n (stmP tx n F) (wtR tx n c x) (frI x)) (a - 3) b' σ' → Q σ') : OkV w d m_M_body [vR 81, vI x1, vI y] σ Q := by
  have hmx := hS.many hab
  unfold bodP at h
  refine v_M_body _ _ _ (by omega) (rm_want (c := c) (a' := a - 4) (by omega) hS hab (by omega) hy hk (fun σ1 hS1 => ?_))
  rw [hS1.flt]
  have hmw : MO n x (wtR tx n c x) := MO.wt
  refine ⟨fun o => ?_, fun o => ?_⟩
  · obtain ⟨e, he⟩ : ∃ e, wtR tx n c x = .error e := by
      cases hq : wtR tx n c x with
      | ok q => rw [hq] at o; exact absurd rfl o
      | error e => exact ⟨e, rfl⟩
    rw [he] at h hS1
    refine h σ1 ⟨s, ?_, ?_⟩
    · have : (bdlP tx n (stmP tx n F) (n + 1) (.error e)).1 = .error e := (MO.bdl (tx := tx) (fun _ => MO.stm F) (n + 1)).1 e rfl
      show StM tx n σ0 σ1 (bdlP tx n (stmP tx n F) (n + 1) (.error e)).1 s [] (a - 3) b'
      rw [this]
      exact (hS1.erra rfl).weak (Nat.le_refl _) hb
    · exact (Fst.nil (o := false)).any rfl
  · have oc : c = true := wt_b o
    have ox := MO.o hmw o
    have hpay : s.1 + 4 ≤ a := by
      cases x with
      | ok q => exact hS.pay (of_decide_eq_false (hk oc))
      | error e => exact absurd ox (show ¬ false = true by decide)
    rw [hS.fro ox]
    refine rm_add (by omega) (hS1.okb (b' := a - 4) o) (Nat.le_refl _) (by omega) h1 hp (fun σ2 hS2 => ?_)
    have hm1 := add_liv (k := 11) (q := frI x) (v := 0) hp.1 (by omega : s.1 < 2 ^ 30)
    refine hM (d - 1) σ2 _ _ (a - 4 + 1) (a - 4 + 1) b' s.1 _ (by omega) (hH.mo hS.invs hmw) hS2 (Nat.le_refl _) (by omega) (by omega) hb' hm1 (fun σ3 ⟨s3, hS3, f3⟩ => h σ3 ⟨s3, hS3.weak (by omega) (Nat.le_refl _), Fst.node hp.1 f3 (fun _ => rfl)⟩)
/-- what follows the branches: ELSE, and the word that ends all -/
theorem rm_else {Q : Sg → Prop} {k : Int32} (hM : SmM w tx n σ0 F) (hd : 4 * F + 521 ≤ d) (hH : HS F x) (hS : StM tx n σ0 σ x s [] a b) (hab : a ≤ b) (hb : b ≤ b') (hb2 : a + 10 * d + 8 ≤ b') (hb' : b' ≤ 32000) (h1 : x1 = nI p) (hp : Liv s p) (h : ∀ σ', PoM tx n σ0 s [] p (wtR tx n (isW (othP tx n (stmP tx n F) x).1 k) (othP tx n (stmP tx n F) x).1, (othP tx n (stmP tx n F) x).2) a b' σ' → Q σ') :
    OkI w d m_M_isWord [vR 81, vI 19] σ (fun r1 s1 => ((r1 = 0 → OkV w d m_M_wantWord [vR 81, vI k] s1 (fun s2 => Q s2)) ∧ (¬ r1 = 0 → OkV w d m_M_body [vR 81, vI x1, vI 1] s1 (fun s3 => OkV w d m_M_wantWord [vR 81, vI k] s3 (fun s4 => Q s4))))) := by
  have hmx := hS.many hab
  unfold othP at h
  refine rm_isW (by omega) hS ⟨fun r => ?_, fun r => ?_⟩
  · rw [if_neg (by rw [b2_0.mp r]; decide)] at h
    exact rm_word (a' := a) (by omega) hS hab (by omega) (fun σ1 hS1 => h σ1 ⟨s, hS1.weak (Nat.le_refl _) hb, Fst.nil⟩)
  · have r := b2_n0.mp r
    rw [if_pos r] at h
    refine rm_body (c := true) (b' := b') hM (by omega) hH hS hab hb (by omega) hb' h1 hp (fun _ => rfl) (fun _ => (isK_0 (isW_k r).1 (by decide)).1) (fun σ2 ⟨s2, hS2, f2⟩ => ?_)
    exact rm_word (a' := a) (by omega) hS2 (by omega) (by omega) (fun σ3 hS3 => h σ3 ⟨s2, hS3, f2.weak (fun o => MO.o MO.wt o)⟩)
theorem rm_choose {Q : Sg → Prop} (hM : SmM w tx n σ0 F) (hd : 4 * F + 522 ≤ d) (hH : HS F x) (hS : StM tx n σ0 σ x s [] a a) (hk0 : ∀ q, x = .ok q → sK q ≠ 0) (hb2 : a + 10 * d + 8 ≤ b') (hb' : b' ≤ 32000) (h1 : x1 = nI p) (hp : Liv s p) (h : ∀ σ', PoM tx n σ0 s [] p (wtR tx n (isW (othP tx n (stmP tx n F) (iflP tx n (stmP tx n F) (n + 1) x).1).1 20) (othP tx n (stmP tx n F) (iflP tx n (stmP tx n F) (n + 1) x).1).1, tN (15, frI x, 0) (tap (iflP tx n (stmP tx n F) (n + 1) x).2 (othP tx n (stmP tx n F) (iflP tx n (stmP tx n F) (n + 1) x).1).2) .leaf) a b' σ' → Q σ') : OkV w d m_M_choose [vR 81, vI x1] σ Q := by
  have hmx := hS.many (Nat.le_refl _)
  refine v_M_choose _ _ (by omega) (rm_add (by omega) hS (Nat.le_refl _) (by omega) h1 hp (fun σ1 hS1 => ?_))
  have hm1 := add_liv (k := 15) (q := σ.1 81 7) (v := 0) hp.1 (by omega : s.1 < 2 ^ 30)
  generalize es : putN (addN s 15 (σ.1 81 7) 0) p s.1 = s0 at hS1 hm1
  -- behind the branches
  have tail : ∀ (y : RS) (τ : Sg) (s1 : NS) (t : Tr) (B : Nat), MO n x y → StM tx n σ0 τ y s1 [] a B → a ≤ B → B ≤ b' → Fst s0 s.1 (isO y) t s1 →
      (∀ σ', PoM tx n σ0 s [] p (wtR tx n (isW (othP tx n (stmP tx n F) y).1 20) (othP tx n (stmP tx n F) y).1, tN (15, frI x, 0) (tap t (othP tx n (stmP tx n F) y).2) .leaf) a b' σ' → Q σ') →
      OkI w (d - 1) m_M_isWord [vR 81, vI 19] τ (fun r1 s1 => ((r1 = 0 → OkV w (d - 1) m_M_wantWord [vR 81, vI 20] s1 (fun s2 => Q s2)) ∧ (¬ r1 = 0 → OkV w (d - 1) m_M_body [vR 81, vI (nI s.1), vI 1] s1 (fun s3 => OkV w (d - 1) m_M_wantWord [vR 81, vI 20] s3 (fun s4 => Q s4))))) := by
    intro y τ s1 t B hmo hT hB1 hB2 hf hh
    refine rm_else (b' := b') hM (by omega) (hH.mo hS.invs hmo) hT hB1 hB2 (by omega) hb' rfl (hf.liv hm1 hm1.1) (fun σ2 ⟨s2, hS2, f2⟩ => hh σ2 ⟨s2, hS2, ?_⟩)
    have fy := Fst.cat hm1.1 hf f2 (fun o => MO.o ((MO.oth (tx := tx) (fun _ => MO.stm F)).trans MO.wt) o)
    subst es
    exact Fst.node hp.1 fy (fun o => hS.fro (MO.o ((hmo.trans (MO.oth (tx := tx) (fun _ => MO.stm F))).trans MO.wt) o))
  have loop : ∀ (f : Nat) (y : RS) (τ : Sg) (s1 : NS) (t : Tr), (∀ q, y = .ok q → n + 1 ≤ sF q + f) → (∀ q, y = .ok q → sK q ≠ 0) → MO n x y → StM tx n σ0 τ y s1 [] (a + 1) (a + 1) → Fst s0 s.1 (isO y) t s1 →
      (∀ σ', PoM tx n σ0 s [] p (wtR tx n (isW (othP tx n (stmP tx n F) (iflP tx n (stmP tx n F) f y).1).1 20) (othP tx n (stmP tx n F) (iflP tx n (stmP tx n F) f y).1).1, tN (15, frI x, 0) (tap t (tap (iflP tx n (stmP tx n F) f y).2 (othP tx n (stmP tx n F) (iflP tx n (stmP tx n F) f y).1).2)) .leaf) a b' σ' → Q σ') →
      Bk w d 0 0 m_M_choose 0 0 (qv Q) 15 [oR 81, none, oI (nI s.1), oI 1] [] τ := by
    intro f
    have err : ∀ (f : Nat) (e : Int32 × Nat) (τ : Sg) (s1 : NS) (t : Tr), MO n x (.error e) → StM tx n σ0 τ (.error e) s1 [] (a + 1) (a + 1) → Fst s0 s.1 false t s1 →
        (∀ σ', PoM tx n σ0 s [] p (wtR tx n (isW (othP tx n (stmP tx n F) (iflP tx n (stmP tx n F) f (.error e)).1).1 20) (othP tx n (stmP tx n F) (iflP tx n (stmP tx n F) f (.error e)).1).1, tN (15, frI x, 0) (tap t (tap (iflP tx n (stmP tx n F) f (.error e)).2 (othP tx n (stmP tx n F) (iflP tx n (stmP tx n F) f (.error e)).1).2)) .leaf) a b' σ' → Q σ') →
        Bk w d 0 0 m_M_choose 0 0 (qv Q) 15 [oR 81, none, oI (nI s.1), oI 1] [] τ := by
      intro f e τ s1 t hmo hT hf hh
      have e1 : (iflP tx n (stmP tx n F) f (.error e)).1 = .error e := (MO.ifl (tx := tx) (fun _ => MO.stm F) f).1 e rfl
      rw [e1] at hh
      refine v_M_choose_15 _ _ _ ⟨fun c => absurd c (by decide), fun _ => ⟨fun _ => ?_, fun c => absurd (hT.flt.mp c) (show ¬ false = true by decide)⟩⟩
      refine tail (.error e) τ s1 t (a + 1) hmo (hT.erra rfl) (by omega) (by omega) hf (fun σ' hσ' => hh σ' ?_)
      obtain ⟨s', k1, k2⟩ := hσ'
      refine ⟨s', k1, k2.any ?_⟩
      have : (othP tx n (stmP tx n F) (.error e)).1 = .error e := (MO.oth (tx := tx) (fun _ => MO.stm F)).1 e rfl
      dsimp only
      rw [this]; rfl
    induction f with
    | zero =>
      intro y τ s1 t hfu hk0 hmo hT hf hh
      cases y with
      | ok q => have := hfu q rfl; have := hT.inv.1; omega
      | error e => exact err 0 e τ s1 t hmo hT hf hh
    | succ f ih =>
      intro y τ s1 t hfu hk0 hmo hT hf hh
      cases hy : y with
      | error e => rw [hy] at hmo hT hf hh; exact err (f + 1) e τ s1 t hmo hT hf hh
      | ok q0 =>
        have oy : isO y = true := by rw [hy]; rfl
        have hm2 := hf.liv hm1 hm1.1
        generalize ez : nxR tx n y = z
        have hmz : MO n y z := by rw [← ez]; exact MO.nx
        generalize eu : expP tx n z = u
        have hmu : MO n z u.1 := by rw [← eu]; exact MO.exp
        generalize ev : wtR tx n (isW u.1 17) u.1 = v
        have hmv : MO n u.1 v := by rw [← ev]; exact MO.wt
        generalize eb : bodP tx n (stmP tx n F) v (frI u.1) = bb
        have hmb : MO n v bb.1 := by rw [← eb]; exact MO.bod (fun _ => MO.stm F)
        have eN : iflP tx n (stmP tx n F) (f + 1) y = if isW bb.1 18 = true then ((iflP tx n (stmP tx n F) f bb.1).1, tap u.2 (tap bb.2 (iflP tx n (stmP tx n F) f bb.1).2)) else (bb.1, tap u.2 bb.2) := by subst ez eu ev eb; rfl
        rw [eN] at hh
        have hall : MO n y bb.1 := ((hmz.trans hmu).trans hmv).trans hmb
        refine v_M_choose_15 _ _ _ ⟨fun c => absurd c (by decide), fun _ => ⟨fun c => absurd (hT.flt.mpr oy) c, fun _ => ?_⟩⟩
        refine rm_next (a' := a) (by omega) hT (Nat.le_refl _) (fun q hq => ⟨by omega, fun k => absurd k (hk0 q hq)⟩) (fun τ1 hT1 => ?_)
        rw [ez] at hT1
        refine rm_expput (b' := a + 10 * (d - 1) + 4) (by omega) hT1 (by omega) (by omega) (by omega) (by omega) rfl hm2 (hH.h0.mo hS.invs (hmo.trans hmz)) (fun τ2 ⟨s2, hT2, f2⟩ => ?_)
        rw [eu] at hT2 f2
        have hm3 := f2.liv hm2 hm2.1
        refine rm_isW (by omega) hT2 ?_
        refine rm_body (c := isW u.1 17) (b' := a + 10 * (d - 1) + 8) hM (by omega) (hH.mo hS.invs ((hmo.trans hmz).trans hmu)) hT2 (by omega) (by omega) (by omega) (by omega) rfl hm3 (fun _ => rfl) (fun r => (isK_0 (isW_k r).1 (by decide)).1) (fun τ4 ⟨s4, hT4, f4⟩ => ?_)
        rw [ev, eb] at hT4 f4
        have hT4 := hT4.weak (a' := a) (by omega) (Nat.le_refl _)
        have fz : Fst s0 s.1 (isO bb.1) (tap t (tap u.2 bb.2)) s4 := Fst.cat hm1.1 hf (Fst.cat hm2.1 f2 f4 (fun o => MO.o (hmv.trans hmb) o)) (fun o => MO.o hall o)
        refine rm_isW (by omega) hT4 ?_
        by_cases c : isW bb.1 18 = true
        · rw [if_pos c] at hh
          rw [c]
          have sl : SL n y bb.1 := by
            refine SL.mo (z := v) ?_ hmb ((hmz.trans hmu).trans hmv)
            rw [← ev]
            exact SL.wW (hmz.trans hmu)
          refine ih bb.1 τ4 s4 _ (sl.fuel hall hT.invs hfu) ((isK_0 (isW_k c).1 (by decide)).2) (hmo.trans hall) ((hT4.okb (isW_o c)).weak (by omega) (Nat.le_refl _)) fz (fun σ' hσ' => hh σ' ?_)
          simpa only [tap_assoc] using hσ'
        · rw [if_neg c] at hh
          have c' : isW bb.1 18 = false := Bool.eq_false_iff.mpr c
          rw [c']
          refine v_M_choose_15 _ _ _ ⟨fun _ => ?_, fun q => absurd rfl q⟩
          exact tail bb.1 τ4 s4 _ _ (hmo.trans hall) hT4 (by omega) (by omega) fz (fun σ' hσ' => hh σ' (by simpa only [tap_assoc] using hσ'))
  exact loop (n + 1) x σ1 s0 .leaf (fun q _ => by omega) hk0 MO.rfl' hS1 Fst.nil h
theorem rm_beginsConstant {Q : Int32 → Sg → Prop} {op : List Kp} (hd : 2 ≤ d) (hS : StM tx n σ0 σ x s op a b) (h : Q (b2 (begC x)) σ) : OkI w d m_M_beginsConstant [vR 81] σ Q := by
  unfold begC at h
  refine v_M_beginsConstant _ (by omega) ?_
  rw [hS.flt]
  refine ⟨fun o => ⟨Or.inl rfl, ?_⟩, fun o => ?_⟩
  · cases x with
    | ok q => exact absurd rfl o
    | error e => exact h
  rw [hS.knd o]
  refine ⟨fun r2 => ⟨Or.inr rfl, ?_⟩, fun r2 => rm_isS (by omega) hS ⟨fun r => ⟨Or.inr rfl, ?_⟩, fun r => rm_isW (by omega) hS ⟨fun r3 => ⟨Or.inr rfl, ?_⟩, fun r3 => rm_isW (by omega) hS ⟨fun r4 => ⟨Or.inl rfl, ?_⟩, fun r4 => ⟨Or.inr rfl, ?_⟩⟩⟩⟩⟩
  · rw [r2, Bool.or_true] at h; exact h
  · rw [b2_n0.mp r] at h; exact h
  · rw [b2_n0.mp r3, Bool.or_true] at h; exact h
  · rw [b2_0.mp r, Bool.eq_false_iff.mpr r2, b2_0.mp r3, b2_0.mp r4] at h; exact h
  · rw [b2_n0.mp r4, Bool.or_true] at h; exact h
end
