/-! 089: the component reads operands -/
section
variable {wd : Wd} {d n F : Nat} {tx : Nat → Int32} {σ0 σ : Sg} {x : RS} {s : NS} {sg : List (Int32 × Int32)} {op : List Nat} {a b b' p : Nat} {x1 : Int32}
theorem StC.erra {a' : Nat} (h : StC tx n σ0 σ x s sg op a b) (ho : isO x = false) : StC tx n σ0 σ x s sg op a' b := by
  cases x with
  | ok q => exact absurd ho (show ¬ true = false by decide)
  | error e => exact h
theorem StC.opl (hS : StC tx n σ0 σ x s sg op a b) : ∀ c, c ∈ op → c < s.1 := fun c hc => (hS.2.2.2.2.2.2.1 c hc).1
/-- a name, or an output of what has that name; the name itself is gone over already -/
theorem rc_output {Q : Int32 → Sg → Prop} {q v : Int32} (hd : 10 ≤ d) (hS : StC tx n σ0 σ x s sg op a b) (hab : a ≤ b) (hb : b + 2 ≤ b') (hb' : b' ≤ 33000) (h : ∀ σ' v', PoE tx n σ0 s sg op (outP tx n x q v) (a + 1) b' v' σ' → Q v' σ') : OkI wd d m_Reader_output [vR 17, vI q, vI v] σ Q := by
  have hmx := hS.many hab
  unfold outP at h
  refine v_Reader_output _ _ _ (by omega) (rc_takes (by omega) hS hab (fun r => ?_) (fun r σ1 hS1 => ?_))
  · rw [if_neg (by rw [r]; decide)] at h
    exact ⟨fun c => absurd rfl c, fun _ => nc_add (by omega) hS hab (by omega) (fun σ2 hS2 => h σ2 _ ⟨_, _, rfl, hS2.weak (Nat.le_refl _) (by omega), Exn.leaf (fun _ => ⟨rfl, rfl⟩)⟩)⟩
  · rw [if_pos r] at h
    refine ⟨fun _ => ?_, fun c => absurd c (by decide)⟩
    refine nc_add (by omega) hS1 (by omega) (by omega) (fun σ2 hS2 => ?_)
    have hm : Liv (addN s 33 q v) s.1 := ⟨Nat.lt_succ_self _, by rw [addN_top]; show (-1 : Int32) ≠ -2; decide⟩
    have hs1 : (addN s 33 q v).1 = s.1 + 1 := rfl
    refine rc_add (by omega) hS2 (by omega) (by omega) rfl hm (fun σ3 q3 hq3 _ hS3 => ?_)
    have e0 : ∀ o, Fst (putN (addN (addN s 33 q v) 6 q3 0) s.1 (addN s 33 q v).1) (addN s 33 q v).1 o .leaf (putN (addN (addN s 33 q v) 6 q3 0) s.1 (addN s 33 q v).1) := fun o => Fst.nil
    refine rc_name (a' := a) (by omega) hS3 (by omega) (by omega) (fun σ4 v4 hv4 hS4 => ⟨vp_in_nI (by omega) (by omega), ?_⟩)
    rw [nI_clamp (by omega)]
    have hS5 := hS4.setV (v := v4) (add_liv hm.1 (by omega)) ((e0 true).key hm.1)
    refine h _ _ ⟨_, _, rfl, hS5.weak (by omega) (by omega), Exn.node (Fst.nodeS hm.1 (e0 _) (fun o => ?_)) (fun _ => ⟨rfl, rfl⟩)⟩
    have o1 := wt_b o
    rw [hv4 o1, hq3 (isK_o o1)]
/-- what an index, or arguments, may stand in -/
def HI (F : Nat) (x : RS) (sg : List (Int32 × Int32)) (op : List Nat) : Prop := ∀ q, x = .ok q → 60 ≤ F + sD q ∧ sg.length ≤ sD q + 1 ∧ op.length ≤ sg.length + sS q ∧ sS q ≤ sD q + 1
theorem HI.ex {y : RS} (h : HI F x sg op) (hi : ∀ q, x = .ok q → InvS n q) (hm : MO n (opR x) y) : ∀ q, y = .ok q → 61 ≤ F + sD q ∧ sg.length ≤ sD q ∧ op.length ≤ sg.length + sS q ∧ sS q ≤ sD q := by
  intro q hq
  cases x with
  | error e => rw [hm.1 e rfl] at hq; cases hq
  | ok r =>
    have h := h r rfl
    cases ho : opR (.ok r) with
    | error e => rw [hm.1 e ho] at hq; cases hq
    | ok u =>
      have m1 := MO.op.2 r u rfl ho (hi r rfl)
      have m := hm.2 u q ho hq m1.1
      have eu : sD u = sD r + 1 ∧ sS u = sS r := by
        unfold opR at ho
        dsimp only at ho
        split at ho
        · cases ho
        · cases ho; exact ⟨rfl, rfl⟩
      omega
theorem cl_dep {y : RS} (hi : ∀ q, x = .ok q → InvS n q) (hm : MO n (opR x) y) : ∀ q, y = .ok q → 1 ≤ sD q := by
  intro q hq
  cases x with
  | error e => rw [hm.1 e rfl] at hq; cases hq
  | ok r =>
    cases ho : opR (.ok r) with
    | error e => rw [hm.1 e ho] at hq; cases hq
    | ok u =>
      have m1 := MO.op.2 r u rfl ho (hi r rfl)
      have m := hm.2 u q ho hq m1.1
      have eu : sD u = sD r + 1 ∧ sS u = sS r := by
        unfold opR at ho
        dsimp only at ho
        split at ho
        · cases ho
        · cases ho; exact ⟨rfl, rfl⟩
      omega
theorem op_k {k : Int32} (h : isK x k = true ∨ isO x = false) (hk : k ≠ 0) : ∀ q, opR x = .ok q → sK q ≠ 0 := by
  intro q hq
  cases x with
  | error e => cases hq
  | ok r =>
    rcases h with h | h
    · have h : sK r = k := of_decide_eq_true h
      unfold opR at hq
      dsimp only at hq
      split at hq
      · cases hq
      · cases hq; show sK r ≠ 0; rw [h]; exact hk
    · exact absurd h (show ¬ true = false by decide)
theorem MO.exp' {y : RS} : MO n y (exP tx n (opdP tx n F) y).1 := MO.ex (fun _ => MO.opd _)
theorem rc_index {Q : Sg → Prop} (hE : ExC wd tx n σ0 F) (hd : 6 * F + 22 ≤ d) (hS : StC tx n σ0 σ x s sg op a b) (hab : a ≤ b) (hb : b + 2 ≤ b') (hb2 : a + 10 * d + 2 ≤ b') (hb' : b' ≤ 33000) (h1 : x1 = nI p) (hp : Liv s p) (hI : HI F x sg op) (hsg : sg.length ≤ 60) (hop : op.length ≤ 124) (hk : isS x 91 = true ∨ isO x = false) (h : ∀ σ', PoC tx n σ0 s sg op p (ixP tx n (exP tx n (opdP tx n F)) x) a b' σ' → Q σ') : OkV wd d m_Reader_index [vR 17, vI x1] σ Q := by
  unfold ixP at h
  refine v_Reader_index _ _ (by omega) (rc_open (by omega) hS hab (fun σ1 hS1 => ?_))
  refine rc_next (a' := a) (by omega) hS1 hab (fun q e => ⟨by omega, fun k0 => Nat.le_refl _⟩) (fun σ2 hS2 => ?_)
  refine hE (d - 1) σ2 _ s sg op a b b' _ (by omega) (hI.ex hS.invs MO.nx) hsg hop hS2 hab hb (by omega) hb' (fun σ3 v3 ⟨s3, c3, ev, hS3, hE3⟩ => ?_)
  refine nc_putE (by omega) hS3 (by omega) (by omega) h1 ev hp hS.opl hE3 (fun σ4 hS4 f4 => ?_)
  refine rc_sign (a' := a) (by omega) hS4 (by omega) (by omega) (fun σ5 hS5 => h _ ⟨_, hS5.close (cl_dep hS.invs ((MO.nx.trans MO.exp').trans MO.wt)), f4.weak (fun o => ?_)⟩)
  refine MO.o (x := _) (y := wtR tx n (isS (exP tx n (opdP tx n F) (nxR tx n (opR x))).1 93) (exP tx n (opdP tx n F) (nxR tx n (opR x))).1) MO.wt ?_
  have o : isO (clR (wtR tx n (isS (exP tx n (opdP tx n F) (nxR tx n (opR x))).1 93) (exP tx n (opdP tx n F) (nxR tx n (opR x))).1)) = true := o
  generalize wtR tx n (isS (exP tx n (opdP tx n F) (nxR tx n (opR x))).1 93) (exP tx n (opdP tx n F) (nxR tx n (opR x))).1 = z at o ⊢
  cases z with
  | ok q => rfl
  | error e => exact o
theorem cl_o {z : RS} (h : isO (clR z) = true) : isO z = true := by
  cases z with
  | ok q => rfl
  | error e => exact h
theorem rc_arguments {Q : Sg → Prop} (hE : ExC wd tx n σ0 F) (hd : 6 * F + 22 ≤ d) (hS : StC tx n σ0 σ x s sg op a b) (hab : a ≤ b) (hb : b + 2 ≤ b') (hb2 : a + 10 * d + 2 ≤ b') (hb' : b' ≤ 33000) (h1 : x1 = nI p) (hp : Liv s p) (hI : HI F x sg op) (hsg : sg.length ≤ 60) (hop : op.length ≤ 124) (h : ∀ σ', PoC tx n σ0 s sg op p (agP tx n (exP tx n (opdP tx n F)) x) a b' σ' → Q σ') : OkV wd d m_Reader_arguments [vR 17, vI x1] σ Q := by
  subst h1
  unfold agP at h
  dsimp only at h
  refine v_Reader_arguments _ _ (by omega) (rc_open (by omega) hS hab (fun σ1 hS1 => ?_))
  refine rc_next (a' := a) (by omega) hS1 hab (fun q e => ⟨by omega, fun k0 => Nat.le_refl _⟩) (fun σ2 hS2 => rc_isS (by omega) hS2 ⟨fun r => ?_, fun r => ?_⟩)
  · have r := b2_n0.mp r
    rw [if_pos r] at h
    refine rc_sign (a' := a) (by omega) hS2 (by omega) (by omega) (fun σ5 hS5 => h _ ⟨_, (hS5.weak (Nat.le_refl _) (by omega)).close (cl_dep hS.invs (MO.nx.trans MO.wt)), Fst.nil⟩)
  · have r := b2_0.mp r
    rw [if_neg (by rw [r]; decide)] at h
    have loop : ∀ (f : Nat) (y : RS) (τ : Sg) (s1 : NS) (t : Tr), (∀ q, y = .ok q → n + 1 ≤ sF q + f) → MO n (opR x) y → StC tx n σ0 τ y s1 sg op a b → Fst s p (isO y) t s1 →
        (∀ σ', PoC tx n σ0 s sg op p (clR (wtR tx n (isS (arlP tx n (exP tx n (opdP tx n F)) f y).1 41) (arlP tx n (exP tx n (opdP tx n F)) f y).1), tap t (arlP tx n (exP tx n (opdP tx n F)) f y).2) a b' σ' → Q σ') →
        Bk wd d 0 0 m_Reader_arguments 0 0 (qv Q) 17 [oR 17, oI (nI p)] [] τ := by
      intro f
      induction f with
      | zero =>
        intro y τ s1 t hfu hmo hT hf hh
        have hm2 := hf.liv hp hp.1
        cases y with
        | ok q => have := hfu q rfl; have := hT.inv.1; omega
        | error e =>
          refine v_Reader_arguments_17 _ _ (hE (d - 1) τ _ s1 sg op a b b' _ (by omega) (fun q hq => by cases hq) hsg hop hT hab hb (by omega) hb' (fun σ3 v3 ⟨s3, c3, ev, hS3, hE3⟩ => ?_))
          have eo : (exP tx n (opdP tx n F) (.error e)).1 = .error e := rfl
          rw [eo] at hS3 hE3
          refine nc_putE (by omega) hS3 (by omega) (by omega) rfl ev hm2 hT.opl hE3 (fun σ4 hS4 f4 => ?_)
          refine rc_takes (by omega) hS4 (by omega) (fun _ => ⟨fun c => absurd rfl c, fun _ => ?_⟩) (fun c => absurd c (show ¬ false = true by decide))
          refine rc_sign (a' := a) (by omega) hS4 (by omega) (by omega) (fun σ5 hS5 => hh _ ⟨_, hS5.close (cl_dep hS.invs (hmo.trans MO.wt)), (Fst.cat hp.1 hf f4 (fun o => o)).any rfl⟩)
      | succ f ih =>
        intro y τ s1 t hfu hmo hT hf hh
        have hm2 := hf.liv hp hp.1
        have eN : arlP tx n (exP tx n (opdP tx n F)) (f + 1) y = if isS (exP tx n (opdP tx n F) y).1 44 = true then ((arlP tx n (exP tx n (opdP tx n F)) f (nxR tx n (exP tx n (opdP tx n F) y).1)).1, tap (exP tx n (opdP tx n F) y).2 (arlP tx n (exP tx n (opdP tx n F)) f (nxR tx n (exP tx n (opdP tx n F) y).1)).2) else exP tx n (opdP tx n F) y := rfl
        rw [eN] at hh
        refine v_Reader_arguments_17 _ _ (hE (d - 1) τ _ s1 sg op a b b' _ (by omega) (hI.ex hS.invs hmo) hsg hop hT hab hb (by omega) hb' (fun σ3 v3 ⟨s3, c3, ev, hS3, hE3⟩ => ?_))
        refine nc_putE (by omega) hS3 (by omega) (by omega) rfl ev hm2 hT.opl hE3 (fun σ4 hS4 f4 => ?_)
        have f5 := Fst.cat hp.1 hf f4 (fun o => MO.o MO.exp' o)
        by_cases r3 : isS (exP tx n (opdP tx n F) y).1 44 = true
        · rw [if_pos r3] at hh
          refine rc_takes (b := b) (by omega) (hS4.okb (isS_o r3)) hab (fun c => by rw [r3] at c; exact absurd c (by decide)) (fun _ σ5 hS5 => ⟨fun _ => ?_, fun c => absurd c (by decide)⟩)
          refine ih _ σ5 _ _ (nx_fuel (isK_0 (isS_k r3).1 (by decide)).1 hS4.invs (mo_fuel MO.exp' hT.invs hfu)) ((hmo.trans MO.exp').trans MO.nx) (hS5.weak (by omega) (Nat.le_refl _)) (f5.weak (fun o => MO.o MO.nx o)) (fun σ' hσ' => hh σ' (by rw [tap_assoc] at hσ'; exact hσ'))
        · rw [if_neg r3] at hh
          refine rc_takes (b := b') (by omega) hS4 (by omega) (fun _ => ⟨fun c => absurd rfl c, fun _ => ?_⟩) (fun c => absurd c r3)
          refine rc_sign (a' := a) (by omega) hS4 (by omega) (by omega) (fun σ5 hS5 => hh _ ⟨_, hS5.close (cl_dep hS.invs ((hmo.trans MO.exp').trans MO.wt)), f5.weak (fun o => MO.o MO.wt (cl_o o))⟩)
    exact loop (n + 1) _ σ2 s .leaf (fun q _ => by omega) MO.nx hS2 Fst.nil h
/-- an operand that is no sign and no bracket -/
def sopP (tx : Nat → Int32) (n : Nat) (E : RS → RS × Tr) (x : RS) : RS × Tr :=
  if isK x 3 = true then (nxR tx n x, tN (30, frI x, vaI x) .leaf .leaf)
  else if (isW x 35 || isW x 36) = true then (nxR tx n x, tN (31, frI x, 36 - vaI x) .leaf .leaf)
  else if isK x 1 = true then nopP tx n E x
  else (flR 6 x, .leaf)
theorem rc_simpleOperand {Q : Int32 → Sg → Prop} (hE : ExC wd tx n σ0 F) (hd : 6 * F + 23 ≤ d) (hS : StC tx n σ0 σ x s sg op a b) (hab : a ≤ b) (hb : b + 2 ≤ b') (hb2 : a + 10 * d + 2 ≤ b') (hb' : b' ≤ 33000) (hI : HI F x sg op) (hsg : sg.length ≤ 60) (hop : op.length ≤ 124) (h : ∀ σ' v, PoE tx n σ0 s sg op (sopP tx n (exP tx n (opdP tx n F)) x) a b' v σ' → Q v σ') : OkI wd d m_Reader_simpleOperand [vR 17] σ Q := by
  have hmx := hS.many hab
  unfold sopP at h
  have leafN : ∀ {kk k v : Int32}, isK x kk = true → kk ≠ 0 → (∀ σ' v', PoE tx n σ0 s sg op (nxR tx n x, tN (k, frI x, v) .leaf .leaf) a b' v' σ' → Q v' σ') → ∀ q, q = frI x → OkV wd (d - 1) m_Reader_next [vR 17] σ (fun s3 => OkI wd (d - 1) m_Nodes_add [vR 7, vI k, vI q, vI v] s3 (fun r4 s4 => Q r4 s4)) := by
    intro kk k v hk hk0 hh q hq
    subst hq
    refine rc_next (a' := a - 4) (by omega) hS hab (fun q' e => ⟨by omega, fun k0 => absurd k0 ((isK_0 hk hk0).2 q' e)⟩) (fun σ1 hS1 => ?_)
    have hpay : isO x = true → 4 ≤ a := by
      intro o
      cases x with
      | ok r => have := hS.pay ((isK_0 hk hk0).2 r rfl); omega
      | error e => exact absurd o (show ¬ false = true by decide)
    have := hpay (isK_o hk)
    exact nc_add (by omega) hS1 (by omega) (by omega) (fun σ2 hS2 => hh σ2 _ ⟨_, _, rfl, hS2.weak (by omega) (by omega), Exn.leaf (fun _ => ⟨rfl, rfl⟩)⟩)
  have tr : (isW x 35 || isW x 36) = true → isK x 3 = false → OkV wd (d - 1) m_Reader_next [vR 17] σ (fun s3 => ((¬ (σ.1 5 7) = 35 → OkI wd (d - 1) m_Nodes_add [vR 7, vI 31, vI (σ.1 5 6), vI 0] s3 (fun r4 s4 => Q r4 s4)) ∧ ((σ.1 5 7) = 35 → OkI wd (d - 1) m_Nodes_add [vR 7, vI 31, vI (σ.1 5 6), vI 1] s3 (fun r5 s5 => Q r5 s5)))) := by
    intro hc hk3
    rw [if_neg (by rw [hk3]; decide), if_pos hc] at h
    have hw : (isW x 35 = true ∨ isW x 36 = true) := by simpa using hc
    have hk : isK x 2 = true := by rcases hw with q | q <;> exact (isW_k q).1
    rw [hS.val hk (by decide)]
    have hpay : 4 ≤ a := by
      cases x with
      | ok r => have := hS.pay ((isK_0 hk (by decide)).2 r rfl); omega
      | error e => exact absurd hk (show ¬ false = true by decide)
    refine rc_next (a' := a - 4) (by omega) hS hab (fun q' e => ⟨by omega, fun k0 => absurd k0 ((isK_0 hk (by decide)).2 q' e)⟩) (fun σ1 hS1 => ?_)
    have fin : ∀ v, 36 - vaI x = v → OkI wd (d - 1) m_Nodes_add [vR 7, vI 31, vI (σ.1 5 6), vI v] σ1 (fun r4 s4 => Q r4 s4) := by
      intro v hv
      rw [hv] at h
      rw [hS.fro (isK_o hk)]
      exact nc_add (by omega) hS1 (by omega) (by omega) (fun σ2 hS2 => h σ2 _ ⟨_, _, rfl, hS2.weak (by omega) (by omega), Exn.leaf (fun _ => ⟨rfl, rfl⟩)⟩)
    refine ⟨fun c => fin 0 ?_, fun c => fin 1 ?_⟩
    · rcases hw with q | q
      · exact absurd (isW_k q).2 c
      · rw [(isW_k q).2]; decide
    · rw [c]; decide
  refine v_Reader_simpleOperand _ (by omega) (rc_isK (by omega) hS ⟨fun r => rc_isW (by omega) hS ⟨fun r2 => ?_, fun r2 => rc_isW (by omega) hS ⟨fun r3 => rc_isK (by omega) hS ⟨fun r4 => ?_, fun r4 => ?_⟩, fun r3 => ?_⟩⟩, fun r => ?_⟩)
  · exact tr (by rw [b2_n0.mp r2]; rfl) (b2_0.mp r)
  · have r4 := b2_n0.mp r4
    rw [if_neg (by rw [b2_0.mp r]; decide), if_neg (by rw [b2_0.mp r2, b2_0.mp r3]; decide), if_pos r4] at h
    rw [hS.val r4 (by decide), hS.fro (isK_o r4)]
    unfold nopP at h
    dsimp only at h
    have hpay : 4 ≤ a := by
      cases x with
      | ok q => have := hS.pay ((isK_0 r4 (by decide)).2 q rfl); omega
      | error e => exact absurd r4 (show ¬ false = true by decide)
    refine rc_next (a' := a - 4) (by omega) hS hab (fun q' e => ⟨by omega, fun k0 => absurd k0 ((isK_0 r4 (by decide)).2 q' e)⟩) (fun σ1 hS1 => ?_)
    have hI1 : HI F (nxR tx n x) sg op := by
      intro q hq
      cases x with
      | error e => cases hq
      | ok u =>
        have := nx_ok hq hS.inv
        have := hI u rfl
        omega
    have hmk : ∀ k, Liv (addN s k (frI x) (vaI x)) s.1 := fun k => ⟨Nat.lt_succ_self _, by rw [addN_top]; show (-1 : Int32) ≠ -2; decide⟩
    refine rc_isS (by omega) hS1 ⟨fun r5 => rc_isS (by omega) hS1 ⟨fun r6 => ?_, fun r6 => ?_⟩, fun r5 => ?_⟩
    · rw [if_neg (by rw [b2_0.mp r5]; decide), if_neg (by rw [b2_0.mp r6]; decide)] at h
      exact rc_output (b' := b') (by omega) hS1 (by omega) (by omega) hb' (fun σ' v' ⟨s', c, e1, e2, e3⟩ => h σ' v' ⟨s', c, e1, e2.weak (by omega) (Nat.le_refl _), e3⟩)
    · have r6 := b2_n0.mp r6
      rw [if_neg (by rw [b2_0.mp r5]; decide), if_pos r6] at h
      refine nc_add (by omega) hS1 (by omega) (by omega) (fun σ2 hS2 => ?_)
      exact rc_arguments (b' := b') hE (by omega) (hS2.okb (b' := b) (isS_o r6)) (by omega) hb (by omega) hb' rfl (hmk 34) hI1 hsg hop (fun σ3 ⟨s3, hS3, f3⟩ => h σ3 _ ⟨s3, _, rfl, hS3.weak (by omega) (Nat.le_refl _), Exn.node f3 (fun _ => ⟨rfl, rfl⟩)⟩)
    · have r5 := b2_n0.mp r5
      rw [if_pos r5] at h
      refine nc_add (by omega) hS1 (by omega) (by omega) (fun σ2 hS2 => ?_)
      exact rc_index (b' := b') hE (by omega) (hS2.okb (b' := b) (isS_o r5)) (by omega) hb (by omega) hb' rfl (hmk 32) hI1 hsg hop (Or.inl r5) (fun σ3 ⟨s3, hS3, f3⟩ => h σ3 _ ⟨s3, _, rfl, hS3.weak (by omega) (Nat.le_refl _), Exn.node f3 (fun _ => ⟨rfl, rfl⟩)⟩)
  · rw [if_neg (by rw [b2_0.mp r]; decide), if_neg (by rw [b2_0.mp r2, b2_0.mp r3]; decide), if_neg (by rw [b2_0.mp r4]; decide)] at h
    exact rc_fail (by omega) hS hab (by decide) (fun σ1 hS1 => nc_add (by omega) hS1 hab (by omega) (fun σ2 hS2 => h σ2 _ ⟨_, _, rfl, (hS2.erra (a' := a) fl_no).weak (Nat.le_refl _) (by omega), (Exn.leaf (o := false) (q' := 0) (v' := 0) (fun o => absurd o (by decide))).any fl_no⟩))
  · exact tr (by rw [b2_n0.mp r3]; simp) (b2_0.mp r)
  · have r := b2_n0.mp r
    rw [if_pos r] at h
    rw [hS.val r (by decide)]
    exact leafN r (by decide) h _ (hS.fro (isK_o r))
theorem flR_ok : ∀ (c : Int32) (y : RS), isO (flR c y) = false := fun c y => fl_no
/-- an operand, from those one less deep -/
theorem rc_operand (hO : OpC wd tx n σ0 F) (hE : ExC wd tx n σ0 F) : OpC wd tx n σ0 (F + 1) := by
  intro d σ x s sg op a b b' Q hd hX hsg hop hS hab hb1 hb2 hb3 h
  have hmx := hS.many hab
  have hI : HI F x sg op := fun q hq => by have := hX q hq; omega
  have eN : opdP tx n (F + 1) x = if (isS x 45 || isW x 34) = true then (clR (opdP tx n F (nxR tx n (opR x))).1, tN (36, frI x, if isS x 45 = true then 0 else 1) (opdP tx n F (nxR tx n (opR x))).2 .leaf)
    else if isS x 40 = true then (clR (wtR tx n (isS (exP tx n (opdP tx n F) (nxR tx n (opR x))).1 41) (exP tx n (opdP tx n F) (nxR tx n (opR x))).1), (exP tx n (opdP tx n F) (nxR tx n (opR x))).2)
    else sopP tx n (exP tx n (opdP tx n F)) x := rfl
  rw [eN] at h
  have one : (isS x 45 || isW x 34) = true → ∀ v, v = (if isS x 45 = true then (0 : Int32) else 1) → OkI wd (d - 1) m_Nodes_add [vR 7, vI 36, vI (σ.1 5 6), vI v] σ (fun r1 s1 => OkV wd (d - 1) m_Reader_open [vR 17] s1 (fun s2 => OkV wd (d - 1) m_Reader_next [vR 17] s2 (fun s3 => ((¬ (s3.1 17 2) = 0 → Q r1 (wI s3 17 4 ((s3.1 17 4) - 1))) ∧ ((s3.1 17 2) = 0 → OkI wd (d - 1) m_Reader_operand [vR 17] s3 (fun r4 s4 => OkV wd (d - 1) m_Nodes_put [vR 7, vI r1, vI r4] s4 (fun s5 => Q r1 (wI s5 17 4 ((s5.1 17 4) - 1))))))))) := by
    intro hc v hv
    rw [if_pos hc, ← hv] at h
    obtain ⟨kk, hk, hk0⟩ : ∃ kk, isK x kk = true ∧ kk ≠ 0 := by
      have hc : isS x 45 = true ∨ isW x 34 = true := by simpa using hc
      rcases hc with q | q
      · exact ⟨5, (isS_k q).1, by decide⟩
      · exact ⟨2, (isW_k q).1, by decide⟩
    have ho := isK_o hk
    rw [hS.fro ho]
    refine nc_add (by omega) hS hab (by omega) (fun σ1 hS1 => rc_open (by omega) hS1 (by omega) (fun σ2 hS2 => ?_))
    have hm : Liv (addN s 36 (frI x) v) s.1 := ⟨Nat.lt_succ_self _, by rw [addN_top]; show (-1 : Int32) ≠ -2; decide⟩
    refine rc_next (a' := a) (by omega) hS2 (by omega) (fun q' e => ⟨by omega, fun k0 => absurd k0 (op_k (Or.inl hk) hk0 q' e)⟩) (fun σ3 hS3 => ⟨fun c => ?_, fun c => ?_⟩)
    · have hno : isO (nxR tx n (opR x)) = false := by
        cases hq : isO (nxR tx n (opR x)) with
        | true => exact absurd (hS3.flt.mpr hq) c
        | false => rfl
      obtain ⟨e, he⟩ : ∃ e, nxR tx n (opR x) = .error e := by
        cases hq : nxR tx n (opR x) with
        | ok q => rw [hq] at hno; exact absurd hno (show ¬ true = false by decide)
        | error e => exact ⟨e, rfl⟩
      have e2 : (opdP tx n F (nxR tx n (opR x))).1 = .error e := (MO.opd F).1 e he
      rw [e2] at h
      rw [he] at hS3
      have hS4 := hS3.close (fun q hq => by cases hq)
      exact h _ _ ⟨_, _, rfl, hS4.weak (Nat.le_refl _) (by omega), (Exn.node (o := false) (t := .leaf) (q' := 0) (v' := 0) Fst.nil (fun o => absurd o (by decide))).any rfl⟩
    · refine hO (d - 1) σ3 _ _ sg op a b b' _ (by omega) (fun q hq => ?_) hsg hop (hS3.okb (hS3.flt.mp c)) (by omega) (by omega) (by omega) hb3 (fun σ4 v4 ⟨s4, c4, ev, hS4, hE4⟩ => ?_)
      · have m := hI.ex (F := F) hS.invs (MO.nx (tx := tx)) q hq
        obtain ⟨u, hu⟩ : ∃ u, x = .ok u := by
          cases x with
          | ok u => exact ⟨u, rfl⟩
          | error e => cases hq
        have hxu := hX u hu
        have m2 := (MO.op.trans (MO.nx (tx := tx))).2 u q hu hq (hS.invs u hu)
        omega
      · refine nc_putE (by omega) hS4 (by omega) (by omega) rfl ev hm (fun c hc => Nat.lt_succ_of_lt (hS.opl c hc)) hE4 (fun σ5 hS5 f5 => ?_)
        have hS6 := hS5.close (cl_dep hS.invs ((MO.nx (tx := tx)).trans (MO.opd F)))
        exact h _ _ ⟨_, _, rfl, hS6, Exn.node (f5.weak (fun o => cl_o o)) (fun _ => ⟨rfl, rfl⟩)⟩
  refine v_Reader_operand _ (by omega) (rc_isS (by omega) hS ⟨fun r => ?_, fun r => rc_isW (by omega) hS ⟨fun r2 => rc_isS (by omega) hS ⟨fun r3 => ?_, fun r3 => ?_⟩, fun r2 => ?_⟩⟩)
  · have r' := b2_n0.mp r
    refine v_Reader_operand_20 _ _ ⟨fun c => absurd c r, fun _ => one (by rw [r']; rfl) 0 (by rw [if_pos r'])⟩
  · rw [if_neg (by rw [b2_0.mp r, b2_0.mp r2]; decide), if_neg (by rw [b2_0.mp r3]; decide)] at h
    exact rc_simpleOperand hE (by omega) hS hab hb1 (by omega) hb3 hI hsg hop h
  · have r3 := b2_n0.mp r3
    rw [if_neg (by rw [b2_0.mp r, b2_0.mp r2]; decide), if_pos r3] at h
    refine rc_open (by omega) hS hab (fun σ1 hS1 => rc_next (a' := a - 4) (by omega) hS1 hab (fun q' e => ⟨by omega, fun k0 => absurd k0 (op_k (Or.inl (isS_k r3).1) (by decide) q' e)⟩) (fun σ2 hS2 => ⟨fun c => ?_, fun c => ?_⟩))
    · obtain ⟨e, he⟩ : ∃ e, nxR tx n (opR x) = .error e := by
        cases hq : nxR tx n (opR x) with
        | ok q => rw [hq] at hS2; exact absurd (hS2.flt.mpr rfl) c
        | error e => exact ⟨e, rfl⟩
      rw [he] at hS2 h
      refine nc_add (by omega) hS2 (by omega) (by omega) (fun σ3 hS3 => rc_sign (a' := a) (by omega) hS3 (by omega) (by omega) (fun σ4 hS4 => ?_))
      have hS5 := hS4.close (fun q hq => by cases hq)
      exact h _ _ ⟨_, _, rfl, hS5.weak (by omega) (by omega), (Exn.leaf (o := false) (q' := 0) (v' := 0) (fun o => absurd o (by decide))).any rfl⟩
    · refine hE (d - 1) σ2 _ s sg op (a - 4) b b' _ (by omega) (hI.ex hS.invs MO.nx) hsg hop hS2 (by omega) hb1 (by omega) hb3 (fun σ3 v3 ⟨s3, c3, ev, hS3, hE3⟩ => ?_)
      refine rc_sign (a' := a) (by omega) hS3 (by omega) (by omega) (fun σ4 hS4 => ?_)
      have hS5 := hS4.close (cl_dep hS.invs (((MO.nx (tx := tx)).trans MO.exp').trans MO.wt))
      exact h _ _ ⟨s3, c3, ev, hS5, hE3.weak (fun o => MO.o MO.wt (cl_o o))⟩
  · have r2' := b2_n0.mp r2
    refine v_Reader_operand_20 _ _ ⟨fun _ => one (by rw [r2']; simp) 1 (by rw [if_neg (by rw [b2_0.mp r]; decide)]), fun c => absurd r c⟩
/-- the depth runs out -/
theorem rc_operand0 : OpC wd tx n σ0 0 := by
  intro d σ x s sg op a b b' Q hd hX hsg hop hS hab hb1 hb2 hb3 h
  cases x with
  | ok q =>
    have := (hX q rfl).1
    have := hS.inv.2.2.2.2.2.2
    omega
  | error e =>
    have h : ∀ σ' v, PoE tx n σ0 s sg op (.error e, .leaf) a b' v σ' → Q v σ' := h
    refine v_Reader_operand _ (by omega) (rc_isS (by omega) hS ⟨fun r => absurd rfl r, fun _ => rc_isW (by omega) hS ⟨fun _ => rc_isS (by omega) hS ⟨fun _ => ?_, fun r => absurd rfl r⟩, fun r => absurd rfl r⟩⟩)
    refine v_Reader_simpleOperand _ (by omega) (rc_isK (by omega) hS ⟨fun _ => rc_isW (by omega) hS ⟨fun r => absurd rfl r, fun _ => rc_isW (by omega) hS ⟨fun _ => rc_isK (by omega) hS ⟨fun r => absurd rfl r, fun _ => ?_⟩, fun r => absurd rfl r⟩⟩, fun r => absurd rfl r⟩)
    exact rc_fail (by omega) hS hab (by decide) (fun σ1 hS1 => nc_add (by omega) hS1 hab (by have := hb1; omega) (fun σ2 hS2 => h σ2 _ ⟨_, _, rfl, (hS2.erra (a' := a) rfl).weak (Nat.le_refl _) (by omega), (Exn.leaf (o := false) (q' := 0) (v' := 0) (fun o => absurd o (by decide))).any rfl⟩))
theorem rc_opd : ∀ F, OpC wd tx n σ0 F
  | 0 => rc_operand0
  | F + 1 => rc_operand (rc_opd F) (rc_expression (rc_opd F))
theorem rc_exp (F : Nat) : ExC wd tx n σ0 F := rc_expression (rc_opd F)
end
