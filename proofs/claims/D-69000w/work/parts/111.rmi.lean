/-! 111: the reference reads operands: brackets, names, the whole -/
/-- a node is given up, the one below it stands alone -/
def relN (s : NS) (m c : Nat) : NS := (s.1, upR (upR s.2 c ((s.2 c).1, (s.2 c).2.1, (s.2 c).2.2.1, -1, rc (s.2 c))) m ((s.2 m).1, (s.2 m).2.1, (s.2 m).2.2.1, -2, rc (s.2 m)))
theorem relN_m {s : NS} {m c : Nat} : (relN s m c).2 m = ((s.2 m).1, (s.2 m).2.1, (s.2 m).2.2.1, -2, rc (s.2 m)) := by
  show upR _ m _ m = _
  rw [upR_at, if_pos rfl]
theorem relN_c {s : NS} {m c : Nat} (h : c ≠ m) : (relN s m c).2 c = ((s.2 c).1, (s.2 c).2.1, (s.2 c).2.2.1, -1, rc (s.2 c)) := by
  show upR _ m _ c = _
  rw [upR_at, if_neg h, upR_at, if_pos rfl]
theorem relN_n {s : NS} {m c j : Nat} (h : j ≠ m) (h2 : j ≠ c) : (relN s m c).2 j = s.2 j := by
  show upR _ m _ j = _
  rw [upR_at, if_neg h, upR_at, if_neg h2]
theorem NM.rel {σ τ : Sg} {B : Nat} {s : NS} {m c : Nat} (h : NM σ B s) (hm : s.1 < 2 ^ 30) (hms : m < s.1) (hml : rp (s.2 m) = -1) (hc : rc (s.2 m) = [c]) (h3 : τ.1 (B + 3) c = -1) (g : ∀ i, i ≤ 6 → ∀ j, j < s.1 → ¬ (i = 3 ∧ j = c) → τ.1 (B + i) j = σ.1 (B + i) j) : NM τ B (relN s m c) := by
  obtain ⟨p0, p1, p2, p3, p4, p5, p6, p7, p8, p9⟩ := h m hms (by rw [hml]; decide)
  rw [hc] at p6
  have hcm := p8 c (by rw [hc]; simp)
  have hcne : c ≠ m := by
    intro e
    have := hcm.2
    rw [e, hml] at this
    exact nI_nm1 (by omega) this.symm
  intro j hj
  have hj : j < s.1 := hj
  by_cases ejm : j = m
  · subst ejm
    intro q
    rw [relN_m] at q
    exact absurd rfl q
  · have kids : ∀ k, k < s.1 → k ≠ m → ∀ e, rp (s.2 e) = nI k → rp ((relN s m c).2 e) = nI k := by
      intro k hk hkm e he
      have e1 : e ≠ m := by intro q; rw [q, hml] at he; exact nI_nm1 (by omega) he.symm
      have e2 : e ≠ c := by
        intro q
        rw [q, hcm.2] at he
        exact hkm ((nI_eq (by omega) (by omega)).mp he).symm
      rw [relN_n e1 e2]; exact he
    by_cases ejc : j = c
    · subst ejc
      have hl : rp (s.2 j) ≠ -2 := by rw [hcm.2]; exact nI_nm2 (by omega)
      obtain ⟨a0, a1, a2, a3, a4, a5, a6, a7, a8, a9⟩ := h j hj hl
      unfold RcM
      rw [relN_c hcne]
      intro _
      refine ⟨by rw [show τ.1 B j = τ.1 (B + 0) j from rfl, g 0 (by omega) j hj (by omega)]; exact a0, by rw [g 1 (by omega) j hj (by omega)]; exact a1, by rw [g 2 (by omega) j hj (by omega)]; exact a2, h3, by rw [g 4 (by omega) j hj (by omega)]; exact a4, by rw [g 5 (by omega) j hj (by omega)]; exact a5, Lk_cong (fun e he => g 6 (by omega) e (a8 e he).1 (by omega)) a6, fun _ => by rw [g 6 (by omega) j hj (by omega)]; exact p6, fun e he => ⟨(a8 e he).1, kids j hj ejm e (a8 e he).2⟩, a9⟩
    · intro hl
      rw [relN_n ejm ejc] at hl
      obtain ⟨a0, a1, a2, a3, a4, a5, a6, a7, a8, a9⟩ := h j hj hl
      rw [relN_n ejm ejc]
      refine ⟨by rw [show τ.1 B j = τ.1 (B + 0) j from rfl, g 0 (by omega) j hj (by omega)]; exact a0, by rw [g 1 (by omega) j hj (by omega)]; exact a1, by rw [g 2 (by omega) j hj (by omega)]; exact a2, by rw [g 3 (by omega) j hj (by omega)]; exact a3, by rw [g 4 (by omega) j hj (by omega)]; exact a4, by rw [g 5 (by omega) j hj (by omega)]; exact a5, Lk_cong (fun e he => g 6 (by omega) e (a8 e he).1 (by omega)) a6, fun q => by rw [g 6 (by omega) j hj (by omega)]; exact a7 q, fun e he => ⟨(a8 e he).1, kids j hj ejm e (a8 e he).2⟩, a9⟩
section
variable {w : Wd} {d n F : Nat} {tx : Nat → Int32} {σ0 σ : Sg} {x : RS} {s : NS} {op : List Kp} {a b b' p : Nat} {x1 : Int32}
theorem rm_bracket {Q : Sg → Prop} (hE : ExM w tx n σ0 F) (hd : 6 * F + 93 ≤ d) (hS : StM tx n σ0 σ x s op a b) (hab : a ≤ b) (hb : b + 1 ≤ b') (hb2 : a + 10 * d + 2 ≤ b') (hb' : b' ≤ 32000) (hI : HM F x op) (hop : op.length ≤ 149) (hx : isS x 40 = true) (h : ∀ σ', PoK tx n σ0 s op (clR (wtR tx n (isS (exP tx n (opdP tx n F) (nxR tx n (opR x))).1 41) (exP tx n (opdP tx n F) (nxR tx n (opR x))).1), (exP tx n (opdP tx n F) (nxR tx n (opR x))).2) a b' σ' → Q σ') : OkV w d m_M_bracket [vR 81] σ Q := by
  have hmx := hS.many hab
  have hol := hS.opl (isS_o hx)
  have hk : isK x 5 = true := (isS_k hx).1
  refine v_M_bracket _ (by omega) (rm_node (by omega) hS hab (by omega) (fun σ1 hS1 => rm_open (by omega) hS1 (by omega) (fun σ2 hS2 => ?_)))
  refine rm_next2 (a' := a) (by omega) hS2 (by omega) (fun q e => ⟨by omega, fun k0 => absurd k0 (op_k (Or.inl hk) (by decide) q e)⟩) (fun σ3 hS3 => ?_)
  have hm : Liv (addN s 99 (σ.1 81 7) 0) s.1 := ⟨Nat.lt_succ_self _, by rw [addN_top]; show (-1 : Int32) ≠ -2; decide⟩
  refine hE (d - 1) σ3 _ _ op a (b + 1) b' s.1 _ (by omega) (hI.ex hS.invs MO.nx) hop hS3 (by omega) (by omega) (by omega) hb' hm (fun σ4 hσ4 => ?_)
  obtain ⟨s4, hS4, f4, o4⟩ := hσ4
  generalize he : exP tx n (opdP tx n F) (nxR tx n (opR x)) = E at hS4 f4 o4 h
  have mE : MO n (opR x) E.1 := by rw [← he]; exact (MO.nx (tx := tx)).trans MO.exp'
  refine rm_sign (a' := a) (by omega) hS4 (by omega) (by omega) (fun σ5 hS5 => ?_)
  have hS6 := hS5.close (cl_dep hS.invs (mE.trans MO.wt))
  have hm6 := hS6.many (by omega)
  obtain ⟨L, e1, e2⟩ := f4
  have kp : ∀ k, k < s.1 → s4.2 k = s.2 k := fun k hk => by rw [e1.2.1 k (Nat.lt_succ_of_lt hk) (by omega), addN_lt hk]
  have hle : s.1 < s4.1 := e1.1
  rw [hS5.flt]
  refine ⟨fun c => h _ ⟨s4, op, hS6, by omega, kp, Nat.le_refl _, by omega, fun o => absurd (cl_o o) c⟩, fun c => ?_⟩
  have oE : isO E.1 = true := MO.o MO.wt c
  obtain ⟨cc, hcc⟩ := o4 oE
  have ec : rc (s4.2 s.1) = [cc] := by rw [hcc, addN_top]; rfl
  have hL : L = [cc] := by
    have := e1.2.2
    rw [addN_top] at this
    rw [this] at ec
    exact ec
  subst hL
  have rpm : rp (s4.2 s.1) = -1 := by rw [e1.2.2, addN_top]; rfl
  have N5 := hS5.2.2.2.1
  obtain ⟨p0, p1, p2, p3, p4, p5, p6, p7, p8, p9⟩ := N5 s.1 hle (by rw [rpm]; decide)
  rw [ec] at p4 p8
  have p4 : σ5.1 89 s.1 = nI cc := p4
  have hcc8 := p8 cc (by simp)
  have fo := e2 oE
  have hlo : s.1 + 1 ≤ cc := by
    cases ht : E.2 with
    | leaf => rw [ht] at fo; exact absurd fo (by simp [FoN])
    | inner z k v l r =>
      rw [ht] at fo
      obtain ⟨c', cs, q1, q2, _⟩ := fo
      cases q1
      exact q2
  have hcne : cc ≠ s.1 := by omega
  have c25 : σ5.1 81 25 = nI op.length := hS5.2.2.2.2.2.1
  have hin : vp_in (nI s.1) 33500 := vp_in_nI (by omega) (by omega)
  have hinc : vp_in (nI cc) 33500 := vp_in_nI (by omega) (by omega)
  rw [nI_clamp (by omega), p4]
  refine ⟨hin, v_M_keep _ _ (by omega) ?_⟩
  have k25 : (wI σ5 81 12 (σ5.1 81 12 - 1)).1 81 25 = nI op.length := by rw [wI_1, if_neg (by omega)]; exact c25
  rw [k25, nI_clamp (by omega), nI_1]
  refine ⟨vp_in_nI (by omega) (by omega), hin, ?_⟩
  have k89 : (wI (wI (wI σ5 81 12 (σ5.1 81 12 - 1)) 94 op.length (nI cc)) 81 25 (nI (op.length + 1))).1 89 s.1 = nI cc := by simp only [wI_1]; rw [if_neg (by omega), if_neg (by omega), if_neg (by omega)]; exact p4
  rw [k89, nI_clamp (by omega)]
  refine ⟨hinc, ?_⟩
  generalize wI σ5 81 12 (σ5.1 81 12 - 1) = σ6 at hS6
  have o6 : isO (clR (wtR tx n (isS E.1 41) E.1)) = true := by
    cases hq : wtR tx n (isS E.1 41) E.1 with
    | ok q => rfl
    | error e => rw [hq] at c; exact absurd c (show ¬ false = true by decide)
  obtain ⟨u1, u2, u3⟩ := hS6.2.2.2.2.2.2.1 o6
  have old : ∀ e, e ∈ op.map (fun q => q.1) → e < s.1 := hol
  have := hS6.re (τ := wI (wI (wI σ6 94 op.length (nI cc)) 81 25 (nI (op.length + 1))) 88 cc (-1)) (s' := relN s4 s.1 cc) (op' := op ++ [(cc, σ6.1 95 op.length, σ6.1 96 op.length)]) (j := 0) (((Fr.rfl'.wI rfl).wI rfl).wI rfl) (fun k i hk => by simp only [wI_1]; rw [if_neg (by omega), if_neg (by omega), if_neg (by omega)]) (hS6.2.2.2.1.rel (by omega) hle rpm ec (by simp [wI_1]) (fun i hi j _ hij => by simp only [wI_1]; rw [if_neg (by omega), if_neg (by omega), if_neg (by omega)])) (by simp [wI_1]; exact hS6.2.2.2.2.1) (by simp [wI_1]) (fun _ => ?_) (Nat.le_refl _)
  · refine h _ ⟨_, _, this, by show s.1 ≤ s4.1; omega, fun k hk => ?_, by simp, by simp, fun _ => ⟨cc, _, rfl, by omega, hcc8.1, fun k hk => ?_, by rw [relN_c hcne]; rfl, fun _ => ?_⟩⟩
    · rw [relN_n (by omega) (by omega)]; exact kp k hk
    · rw [relN_n (by omega) (by omega)]; exact kp k hk
    · refine fo.mono (Nat.le_succ _) (Nat.le_refl _) (fun k _ _ => ?_)
      by_cases k1 : k = s.1
      · subst k1; rw [relN_m]; exact ⟨rfl, rfl⟩
      · by_cases k2 : k = cc
        · subst k2; rw [relN_c hcne]; exact ⟨rfl, rfl⟩
        · rw [relN_n k1 k2]; exact ⟨rfl, rfl⟩
  · refine ⟨fun i hi => ?_, fun e he => ?_, ?_⟩
    · rw [List.length_append, List.length_singleton] at hi
      by_cases e : i = op.length
      · subst e
        simp [wI_1, List.getD_eq_getElem?_getD]
      · have hi2 : i < op.length := by omega
        have e2 : (op ++ [(cc, σ6.1 95 op.length, σ6.1 96 op.length)]).getD i (0, 0, 0) = op.getD i (0, 0, 0) := by rw [List.getD_eq_getElem?_getD, List.getElem?_append_left hi2, ← List.getD_eq_getElem?_getD]
        rw [e2]
        have := u1 i hi2
        simp only [wI_1]
        rw [if_neg (by omega), if_neg (by omega), if_neg (by omega), if_neg (by omega), if_neg (by omega), if_neg (by omega), if_neg (by omega), if_neg (by omega), if_neg (by omega)]
        exact this
    · rw [List.map_append, List.mem_append] at he
      rcases he with he | he
      · have := old e he
        have o := u2 e he
        exact ⟨o.1, by rw [relN_n (by omega) (by omega)]; exact o.2⟩
      · have he : e = cc := by simpa using he
        subst he; exact ⟨hcc8.1, by rw [relN_c hcne]; rfl⟩
    · rw [List.map_append, List.nodup_append]
      refine ⟨u3, by simp, fun e he f hf => ?_⟩
      have hf : f = cc := by simpa using hf
      subst hf
      have := old e he
      omega
theorem rm_nameOperand {Q : Sg → Prop} (hE : ExM w tx n σ0 F) (hd : 6 * F + 95 ≤ d) (hS : StM tx n σ0 σ x s op a b) (hab : a ≤ b) (hb : b + 2 ≤ b') (hb2 : a + 10 * d + 2 ≤ b') (hb' : b' ≤ 32000) (hI : HM F x op) (hop : op.length ≤ 149) (hx : isK x 1 = true) (h : ∀ σ', PoK tx n σ0 s op (nopP tx n (exP tx n (opdP tx n F)) x) a b' σ' → Q σ') : OkV w d m_M_nameOperand [vR 81] σ Q := by
  have hmx := hS.many hab
  have hol := hS.opl (isK_o hx)
  have hpay : 4 ≤ a := by
    cases x with
    | ok q => have := hS.pay ((isK_0 hx (by decide)).2 q rfl); omega
    | error e => exact absurd hx (show ¬ false = true by decide)
  have hI1 : HM F (nxR tx n x) op := by
    intro q hq
    cases x with
    | error e => cases hq
    | ok u =>
      have := nx_ok hq hS.inv
      have := hI u rfl
      omega
  unfold nopP outP at h
  dsimp only at h
  refine v_M_nameOperand _ (by omega) (rm_name (a' := a - 4) (by omega) hS hab (by omega) (fun σ1 v1 hv1 hS1 => ?_))
  rw [hS.fro (isK_o hx), hv1 hx]
  have ew : wtR tx n (isK x 1) x = nxR tx n x := by rw [hx]; rfl
  rw [ew] at hS1
  generalize hy : nxR tx n x = y at hS1 h hI1
  have hmk : ∀ k, Liv (addN s k (frI x) (vaI x)) s.1 := fun k => ⟨Nat.lt_succ_self _, by rw [addN_top]; show (-1 : Int32) ≠ -2; decide⟩
  have go : ∀ (k : Int32), (k = if isS y 91 = true then 32 else if isS y 46 = true then 33 else if isS y 40 = true then 34 else 6) → Bk w d 0 0 m_M_nameOperand 0 0 (qv Q) 55 [oR 81, oI (frI x), oI (vaI x), none, none] [vI k, vR 81] σ1 := by
    intro k hk
    refine v_M_nameOperand_55 _ _ _ _ (rm_node (by omega) hS1 (by omega) (by omega) (fun σ2 hS2 => ?_))
    refine rm_isS (by omega) hS2 ⟨fun r1 => rm_isS (by omega) hS2 ⟨fun r2 => rm_isS (by omega) hS2 ⟨fun r3 => ?_, fun r3 => ?_⟩, fun r2 => ?_⟩, fun r1 => ?_⟩
    · rw [if_neg (by rw [b2_0.mp r1]; decide), if_neg (by rw [b2_0.mp r2]; decide), if_neg (by rw [b2_0.mp r3]; decide)] at hk
      rw [if_neg (by rw [b2_0.mp r1]; decide), if_neg (by rw [b2_0.mp r3]; decide), if_neg (by rw [b2_0.mp r2]; decide)] at h
      subst hk
      exact rm_keepE (s := s) (by omega) (hS2.weak (by omega) (by omega)) (by omega) (Exn.leaf (fun _ => ⟨rfl, rfl⟩)) (fun _ => hol) h
    · have r3 := b2_n0.mp r3
      rw [if_neg (by rw [b2_0.mp r1]; decide), if_neg (by rw [b2_0.mp r2]; decide), if_pos r3] at hk
      rw [if_neg (by rw [b2_0.mp r1]; decide), if_pos r3] at h
      subst hk
      refine rm_call (b' := b') hE (by omega) hS2 (by omega) (by omega) (by omega) hb' rfl (hmk 34) hI1 hop r3 (fun σ3 ⟨s3, hS3, f3⟩ => ?_)
      exact rm_keepE (s := s) (by omega) (hS3.weak (by omega) (Nat.le_refl _)) (by omega) (Exn.node f3 (fun _ => ⟨rfl, rfl⟩)) (fun _ => hol) h
    · have r2 := b2_n0.mp r2
      have n40 : isS y 40 = false := by
        rw [Bool.eq_false_iff]
        intro q
        have := (isS_k q).2
        rw [(isS_k r2).2] at this
        exact absurd this (by decide)
      rw [if_neg (by rw [b2_0.mp r1]; decide), if_pos r2] at hk
      rw [if_neg (by rw [b2_0.mp r1]; decide), if_neg (by rw [n40]; decide), if_pos r2] at h
      subst hk
      have hs1 : (addN s 33 (frI x) (vaI x)).1 = s.1 + 1 := rfl
      refine rm_next (a' := a - 4) (by omega) (hS2.okb (b' := b) (isS_o r2)) (by omega) (fun q e => ⟨by omega, fun k0 => absurd k0 ((isK_0 (isS_k r2).1 (by decide)).2 q e)⟩) (fun σ3 hS3 => ?_)
      generalize nxR tx n y = z at hS3 h
      refine rm_add (by omega) hS3 (by omega) (by omega) rfl (hmk 33) (fun σ4 hS4 => ?_)
      refine rm_wantK (K := fun s10 => OkV w (d - 1) m_M_keep [vR 81, vI (nI s.1)] s10 (fun s11 => Q s11)) (a' := a) (by omega) (by decide) hS4 (by omega) (by omega) (fun σ5 hS5 => ?_)
      refine rm_keepE (s := s) (a := a) (b' := b') (by omega) (hS5.weak (Nat.le_refl _) (by omega)) (by omega) (Exn.node (k := 33) (q := frI x) (v := vaI x) (q' := frI x) (v' := vaI x) (Fst.node (k := 6) (q := σ3.1 81 7) (v := σ3.1 81 9) (q' := frI z) (t := .leaf) (hmk 33).1 Fst.nil (fun o => hS3.fro (MO.o MO.wt o))) (fun _ => ⟨rfl, rfl⟩)) (fun _ => hol) (fun σ6 hσ6 => h σ6 ?_)
      by_cases hz : isK z 1 = true
      · rw [hS3.val hz (by decide)] at hσ6; exact hσ6
      · have e0 : wtR tx n (isK z 1) z = flR 6 z := by rw [Bool.eq_false_iff.mpr hz]; rfl
        rw [e0] at hσ6 ⊢
        obtain ⟨s', op', g1, g2, g3, g4, g5, g6⟩ := hσ6
        exact ⟨s', op', g1, g2, g3, g4, g5, fun o => by rw [show isO (flR 6 z) = false from fl_no] at o; exact absurd o (by decide)⟩
    · have r1 := b2_n0.mp r1
      rw [if_pos r1] at hk h
      subst hk
      refine rm_element (b' := b') hE (by omega) hS2 (by omega) (by omega) (by omega) hb' rfl (hmk 32) hI1 hop r1 (fun σ3 ⟨s3, hS3, f3⟩ => ?_)
      exact rm_keepE (s := s) (by omega) (hS3.weak (by omega) (Nat.le_refl _)) (by omega) (Exn.node f3 (fun _ => ⟨rfl, rfl⟩)) (fun _ => hol) h
  refine rm_isS (by omega) hS1 ⟨fun r1 => rm_isS (by omega) hS1 ⟨fun r2 => rm_isS (by omega) hS1 ⟨fun r3 => ?_, fun r3 => ?_⟩, fun r2 => ?_⟩, fun r1 => ?_⟩
  · exact go 6 (by rw [if_neg (by rw [b2_0.mp r1]; decide), if_neg (by rw [b2_0.mp r2]; decide), if_neg (by rw [b2_0.mp r3]; decide)])
  · exact go 34 (by rw [if_neg (by rw [b2_0.mp r1]; decide), if_neg (by rw [b2_0.mp r2]; decide), if_pos (b2_n0.mp r3)])
  · exact go 33 (by rw [if_neg (by rw [b2_0.mp r1]; decide), if_pos (b2_n0.mp r2)])
  · exact go 32 (by rw [if_pos (b2_n0.mp r1)])
theorem PoK.err {e : Int32 × Nat} {t : Tr} (hS : StM tx n σ0 σ (.error e) s op a b) : PoK tx n σ0 s op (.error e, t) a b σ := ⟨s, op, hS, Nat.le_refl _, fun _ _ => rfl, Nat.le_refl _, by omega, fun o => absurd o (show ¬ false = true by decide)⟩
/-- an operand, from those one less deep -/
theorem rm_operand (hO : OpM w tx n σ0 F) (hE : ExM w tx n σ0 F) : OpM w tx n σ0 (F + 1) := by
  intro d σ x s op a b b' Q hd hX hop hS hab hb1 hb2 hb3 h
  have hmx := hS.many hab
  refine v_M_operand _ (by omega) ?_
  rw [hS.fle]
  refine ⟨fun ox => ?_, fun ox => ?_⟩
  rotate_left
  · obtain ⟨e, he⟩ : ∃ e, x = .error e := by
      cases x with
      | ok q => exact absurd rfl ox
      | error e => exact ⟨e, rfl⟩
    subst he
    exact h σ (PoK.err (hS.weak (Nat.le_refl _) (by omega)))
  have hS := hS.okb (b' := a) ox
  have hI : HM F x op := fun q hq => by have := hX q hq; omega
  have hop2 : op.length ≤ 149 := by
    cases x with
    | ok q => have := hX q rfl; have := hS.inv.2.2.2.2.2.2; omega
    | error e => exact absurd ox (show ¬ false = true by decide)
  have hol := hS.opl ox
  have eN : opdP tx n (F + 1) x = if (isS x 45 || isW x 34) = true then (clR (opdP tx n F (nxR tx n (opR x))).1, tN (36, frI x, if isS x 45 = true then 0 else 1) (opdP tx n F (nxR tx n (opR x))).2 .leaf)
    else if isS x 40 = true then (clR (wtR tx n (isS (exP tx n (opdP tx n F) (nxR tx n (opR x))).1 41) (exP tx n (opdP tx n F) (nxR tx n (opR x))).1), (exP tx n (opdP tx n F) (nxR tx n (opR x))).2)
    else sopP tx n (exP tx n (opdP tx n F)) x := rfl
  rw [eN] at h
  unfold sopP at h
  have one : (isS x 45 || isW x 34) = true → Bk w d 0 0 m_M_operand 0 0 (qv Q) 26 [oR 81, none] [] σ := by
    intro hc
    rw [if_pos hc] at h
    obtain ⟨kk, hk, hk0⟩ : ∃ kk, isK x kk = true ∧ kk ≠ 0 := by
      have hc : isS x 45 = true ∨ isW x 34 = true := by simpa using hc
      rcases hc with q | q
      · exact ⟨5, (isS_k q).1, by decide⟩
      · exact ⟨2, (isW_k q).1, by decide⟩
    have go : ∀ v, v = (if isS x 45 = true then (0 : Int32) else 1) → OkI w (d - 1) m_M_node [vR 81, vI 36, vI (frI x), vI v] σ (fun r1 s1 => OkV w (d - 1) m_M_open [vR 81] s1 (fun s2 => OkV w (d - 1) m_M_next2 [vR 81] s2 (fun s3 => OkV w (d - 1) m_M_operand [vR 81] s3 (fun s4 => ((¬ (s4.1 81 10) = 0 → Q (wI s4 81 12 ((s4.1 81 12) - 1))) ∧ ((s4.1 81 10) = 0 → (vp_in ((s4.1 81 25) - 1) 200 ∧ OkV w (d - 1) m_M_hang [vR 81, vI (s4.1 94 (Int32.toNatClampNeg ((s4.1 81 25) - 1))), vI (r1)] (wI (wI s4 81 12 ((s4.1 81 12) - 1)) 81 25 ((s4.1 81 25) - 1)) (fun s5 => OkV w (d - 1) m_M_keep [vR 81, vI (r1)] s5 (fun s6 => Q s6))))))))) := by
      intro v hv
      rw [← hv] at h
      refine rm_node (by omega) hS (Nat.le_refl _) (by omega) (fun σ1 hS1 => rm_open (by omega) hS1 (by omega) (fun σ2 hS2 => ?_))
      have hm : Liv (addN s 36 (frI x) v) s.1 := ⟨Nat.lt_succ_self _, by rw [addN_top]; show (-1 : Int32) ≠ -2; decide⟩
      refine rm_next2 (a' := a) (by omega) hS2 (by omega) (fun q' e => ⟨by omega, fun k0 => absurd k0 (op_k (Or.inl hk) hk0 q' e)⟩) (fun σ3 hS3 => ?_)
      have hmo : MO n (opR x) (nxR tx n (opR x)) := MO.nx
      refine hO (d - 1) σ3 _ _ op a (a + 1) b' _ (by omega) (fun q hq => ?_) hop hS3 (by omega) (by omega) (by omega) (by omega) (fun σ4 ⟨s4, op4, hS4, g1, g2, g3, g4, g5⟩ => ?_)
      · have m := hI.ex (F := F) hS.invs hmo q hq
        obtain ⟨u, hu⟩ : ∃ u, x = .ok u := by
          cases x with
          | ok u => exact ⟨u, rfl⟩
          | error e => exact absurd ox (show ¬ false = true by decide)
        have hxu := hX u hu
        have m2 := (MO.op.trans (MO.nx (tx := tx))).2 u q hu hq (hS.invs u hu)
        omega
      generalize he : opdP tx n F (nxR tx n (opR x)) = E at hS4 g5 h
      have mE : MO n (opR x) E.1 := by rw [← he]; exact hmo.trans (MO.opd F)
      have g1 : s.1 + 1 ≤ s4.1 := g1
      have hS6 := hS4.close (cl_dep hS.invs mE)
      have kp : ∀ k, k < s.1 → s4.2 k = s.2 k := fun k hk => by rw [g2 k (Nat.lt_succ_of_lt hk), addN_lt hk]
      rw [hS4.flt]
      refine ⟨fun c => h _ ⟨s4, op4, hS6, by omega, kp, g3, g4, fun o => absurd (cl_o o) c⟩, fun c => ?_⟩
      obtain ⟨cc, g, e1, hEx⟩ := g5 c
      subst e1
      have c25 : σ4.1 81 25 - 1 = nI op.length := by
        have := hS4.2.2.2.2.2.1
        rw [this, List.length_append, List.length_singleton, nI_pred]
      have c94 : σ4.1 94 op.length = nI cc := by
        have := ((hS4.2.2.2.2.2.2.1 c).1 op.length (by simp)).1
        rw [this]
        simp [List.getD_eq_getElem?_getD]
      rw [c25, nI_clamp (by omega), c94]
      refine ⟨vp_in_nI (by omega) (by omega), ?_⟩
      have hS7 := hS6.pop
      have hm4 := hS7.many (by omega)
      have hlo := hEx.1
      have hlo : s.1 + 1 ≤ cc := hlo
      have o6 : isO (clR E.1) = true := by
        cases hq : E.1 with
        | ok q => rfl
        | error e => rw [hq] at c; exact absurd c (show ¬ false = true by decide)
      refine rm_hang (by omega) hS7 (by omega) (by omega) rfl rfl (hEx.liv hm) hEx.2.1 (by omega) hEx.2.2.2.1 (fun _ r => by have := hol _ r; omega) (fun σ8 hS8 => ?_)
      have f8 := Exn.put (p := s.1) hm.1 (hEx.weak (o' := isO (clR E.1)) (fun _ => rfl))
      exact rm_keepE (s := s) (by omega) hS8 (by omega) (Exn.node f8 (fun _ => ⟨rfl, rfl⟩)) (fun _ => hol) h
    refine v_M_operand_26 _ ?_
    rw [hS.fro ox, hS.knd ox]
    refine ⟨fun c => go 1 ?_, fun c => go 0 ?_⟩
    · rw [if_neg (fun q => c (isS_k q).1)]
    · have hc : isS x 45 = true ∨ isW x 34 = true := by simpa using hc
      rcases hc with q | q
      · rw [if_pos q]
      · exact absurd (isK_un c (isW_k q).1) (by decide)
  -- a leaf
  have leafN : ∀ {kk k v : Int32}, isK x kk = true → kk ≠ 0 → (∀ σ', PoK tx n σ0 s op (nxR tx n x, tN (k, frI x, v) .leaf .leaf) a b' σ' → Q σ') → ∀ q, q = frI x → ∀ v', v' = v → OkI w (d - 1) m_M_node [vR 81, vI k, vI q, vI v'] σ (fun r4 s4 => OkV w (d - 1) m_M_keep [vR 81, vI (r4)] s4 (fun s5 => OkV w (d - 1) m_M_next [vR 81] s5 (fun s6 => Q s6))) := by
    intro kk k v hk hk0 hh q hq v' hv
    subst hq hv
    refine rm_node (by omega) hS (Nat.le_refl _) (by omega) (fun σ1 hS1 => ?_)
    refine rm_keep (by omega) hS1 (by omega) rfl (fun o => ⟨Nat.lt_succ_self _, by rw [addN_top]; rfl, fun q => by have := hol _ q; omega⟩) (fun σ2 g hS2 _ => ?_)
    refine rm_next (a' := a) (by omega) hS2 (by omega) (fun q e => ⟨by omega, fun k0 => absurd k0 ((isK_0 hk hk0).2 q e)⟩) (fun σ3 hS3 => hh σ3 ⟨_, _, hS3.weak (Nat.le_refl _) (by omega), Nat.le_succ _, fun k hk => addN_lt hk, by simp, by simp, fun o => ⟨_, g, rfl, Exn.leaf (fun _ => ⟨rfl, rfl⟩)⟩⟩)
  refine rm_isS (by omega) hS ⟨fun r1 => one (by rw [b2_n0.mp r1]; rfl), fun r1 => rm_isW (by omega) hS ⟨fun r2 => ?_, fun r2 => one (by rw [b2_n0.mp r2]; simp)⟩⟩
  rw [if_neg (by rw [b2_0.mp r1, b2_0.mp r2]; decide)] at h
  rw [hS.knd ox, hS.fro ox]
  have w40 : ∀ {k : Int32}, isW x k = true → isS x 40 = false := fun hk => by
    rw [Bool.eq_false_iff]
    exact fun q => absurd (isK_un (isW_k hk).1 (isS_k q).1) (by decide)
  refine ⟨fun r3 => rm_isW (by omega) hS ⟨fun r4 => ?_, fun r4 => rm_isW (by omega) hS ⟨fun r5 => rm_isS (by omega) hS ⟨fun r6 => ?_, fun r6 => ?_⟩, fun r5 => ?_⟩⟩, fun r3 => ?_⟩
  · have r4 := b2_n0.mp r4
    rw [if_neg (by rw [w40 r4]; decide), if_neg r3, if_pos (by rw [r4]; rfl)] at h
    refine leafN (isW_k r4).1 (by decide) h _ (hS.fro ox) _ ?_
    rw [hS.val (isW_k r4).1 (by decide)]
  · have r6 := b2_0.mp r6
    rw [if_neg (by rw [r6]; decide), if_neg r3, if_neg (by rw [b2_0.mp r4, b2_0.mp r5]; decide)] at h
    rw [hS.knd ox]
    refine ⟨fun r7 => ?_, fun r7 => ?_⟩
    · rw [if_neg r7] at h
      refine rm_wrong (by omega) hS (Nat.le_refl _) (fun σ1 hS1 => h σ1 ⟨s, op, hS1.weak (Nat.le_refl _) (by omega), Nat.le_refl _, fun _ _ => rfl, Nat.le_refl _, by omega, fun o => ?_⟩)
      rw [show isO (flR 6 x) = false from fl_no] at o; exact absurd o (by decide)
    · rw [if_pos r7] at h
      exact rm_nameOperand hE (by omega) hS (Nat.le_refl _) (by omega) (by omega) hb3 hI hop2 r7 h
  · have r6 := b2_n0.mp r6
    rw [if_pos r6] at h
    exact rm_bracket hE (by omega) hS (Nat.le_refl _) (by omega) (by omega) hb3 hI hop2 r6 h
  · have r5 := b2_n0.mp r5
    rw [if_neg (by rw [w40 r5]; decide), if_neg r3, if_pos (by rw [r5]; simp)] at h
    refine leafN (isW_k r5).1 (by decide) h _ (hS.fro ox) _ ?_
    rw [hS.val (isW_k r5).1 (by decide)]
  · have n40 : isS x 40 = false := by
      rw [Bool.eq_false_iff]
      exact fun q => absurd (isK_un r3 (isS_k q).1) (by decide)
    rw [if_neg (by rw [n40]; decide), if_pos r3] at h
    refine leafN r3 (by decide) h _ rfl _ ?_
    rw [hS.val r3 (by decide)]
theorem rm_operand0 : OpM w tx n σ0 0 := by
  intro d σ x s op a b b' Q hd hX hop hS hab hb1 hb2 hb3 h
  cases x with
  | ok q =>
    have := (hX q rfl).1
    have := hS.inv.2.2.2.2.2.2
    omega
  | error e =>
    refine v_M_operand _ (by omega) ?_
    rw [hS.fle]
    exact ⟨fun o => absurd o (show ¬ false = true by decide), fun _ => h σ (PoK.err (hS.weak (Nat.le_refl _) (by omega)))⟩
theorem rm_opd : ∀ F, OpM w tx n σ0 F
  | 0 => rm_operand0
  | F + 1 => rm_operand (rm_opd F) (rm_expression (rm_opd F))
theorem rm_exp (F : Nat) : ExM w tx n σ0 F := rm_expression (rm_opd F)
end
