/-! 093: the component reads ladders -/
section
variable {wd : Wd} {d n : Nat} {tx : Nat → Int32} {σ0 σ : Sg} {x : RS} {s : NS} {a b b' p : Nat} {x1 : Int32} {Q : Sg → Prop}
theorem SL.pre {y z u : RS} (h1 : MO n y z) (h2 : SL n z u) (h3 : MO n z u) : SL n y u := by
  intro s q e1 e2 hi
  cases z with
  | error e => rw [h3.1 e rfl] at e2; cases e2
  | ok r =>
    have a1 := h1.2 s r e1 rfl hi
    have := h2 r q rfl e2 a1.1
    omega
theorem SL.no {y z : RS} (h : isO y = false) : SL n y z := by
  intro s q e1
  subst e1
  exact absurd h (show ¬ true = false by decide)
theorem SL.wK {y z : RS} {k : Int32} (hm : MO n y z) (hk : k ≠ 0) : SL n y (wtR tx n (isK z k) z) := SL.wt hm (fun h => (isK_0 h hk).1)
theorem SL.cel {y : RS} : SL n y (celP tx n y).1 := by
  unfold celP
  split
  · rename_i h; exact SL.no h
  · split
    · rename_i h
      refine SL.nx MO.rfl' ?_
      simp only [Bool.or_eq_true] at h
      rcases h with h | h <;> exact (isK_0 (isS_k h).1 (by decide)).1
    · split
      · exact SL.wS ((MO.nx.trans (MO.ite MO.nx MO.rfl')).trans MO.wt)
      · exact SL.mo (SL.wK (MO.ite MO.nx MO.rfl') (by decide)) MO.out ((MO.ite MO.nx MO.rfl').trans MO.wt)
/-- how a contact or a coil is told -/
def how3 (x : RS) (c2 c3 : Int32) : Int32 := if isS x 47 = true then 1 else if isS x c2 = true then 2 else if isS x c3 = true then 3 else 0
theorem how3_pos {c2 c3 : Int32} : (0 < how3 x c2 c3 → isK x 5 = true) ∧ (¬ how3 x c2 c3 ≤ 0 ↔ 0 < how3 x c2 c3) := by
  refine ⟨fun h => ?_, Int32.not_le⟩
  unfold how3 at h
  split at h
  · rename_i q; exact (isS_k q).1
  · split at h
    · rename_i q; exact (isS_k q).1
    · split at h
      · rename_i q; exact (isS_k q).1
      · exact absurd h (by decide)
theorem rc_cell_202 {y0 : Int32} (hd : 12 ≤ d) (hS : StC tx n σ0 σ x s [] [] a b) (hab : a ≤ b) (hb : b + 4 ≤ b') (hb' : b' ≤ 32000) (hp : Liv s p) (hy : y0 = how3 x 62 60)
    (h : ∀ σ', PoC tx n σ0 s [] [] p ((outP tx n (wtR tx n (isK (if 0 < how3 x 62 60 then nxR tx n x else x) 1) (if 0 < how3 x 62 60 then nxR tx n x else x)) (frI (if 0 < how3 x 62 60 then nxR tx n x else x)) (vaI (if 0 < how3 x 62 60 then nxR tx n x else x))).1, tN (25, frI x, how3 x 62 60) (outP tx n (wtR tx n (isK (if 0 < how3 x 62 60 then nxR tx n x else x) 1) (if 0 < how3 x 62 60 then nxR tx n x else x)) (frI (if 0 < how3 x 62 60 then nxR tx n x else x)) (vaI (if 0 < how3 x 62 60 then nxR tx n x else x))).2 .leaf) a b' σ' → Q σ') :
    Bk wd d 0 0 m_Reader_cell 0 0 (qv Q) 202 [oR 17, oI (nI p), none, none, none, none] [vI y0] σ := by
  subst hy
  have hmx := hS.many hab
  refine v_Reader_cell_202 _ _ _ (rc_add (by omega) hS hab (by omega) rfl hp (fun σ1 q0 hq0 _ hS1 => ?_))
  have hm1 := add_liv (k := 25) (q := q0) (v := how3 x 62 60) hp.1 (by omega : s.1 < 2 ^ 30)
  generalize es : putN (addN s 25 q0 (how3 x 62 60)) p s.1 = s0 at hS1 hm1
  have tail : ∀ (y : RS) (τ : Sg), MO n x y → StC tx n σ0 τ y s0 [] [] (a + 1) (b + 1) →
      (∀ σ', PoC tx n σ0 s [] [] p ((outP tx n (wtR tx n (isK y 1) y) (frI y) (vaI y)).1, tN (25, frI x, how3 x 62 60) (outP tx n (wtR tx n (isK y 1) y) (frI y) (vaI y)).2 .leaf) a b' σ' → Q σ') →
      OkI wd (d - 1) m_Reader_name [vR 17] τ (fun r2 s2 => ((¬ (s2.1 17 2) = 0 → Q s2) ∧ ((s2.1 17 2) = 0 → OkI wd (d - 1) m_Reader_output [vR 17, vI (τ.1 5 6), vI (r2)] s2 (fun r3 s3 => OkV wd (d - 1) m_Nodes_put [vR 7, vI (nI s.1), vI (r3)] s3 (fun s4 => Q s4))))) := by
    intro y τ hxy hT hh
    refine rc_name (a' := a - 1) (by omega) hT (by omega) (by omega) (fun τ1 v1 hv1 hT1 => ⟨fun c => ?_, fun c => ?_⟩)
    · have ho : isO (wtR tx n (isK y 1) y) = false := by
        cases hq : isO (wtR tx n (isK y 1) y) with
        | true => exact absurd (hT1.flt.mpr hq) c
        | false => rfl
      have e1 : (outP tx n (wtR tx n (isK y 1) y) (frI y) (vaI y)).1 = wtR tx n (isK y 1) y := by
        unfold outP
        rw [if_neg]
        intro q
        rw [isS_o q] at ho; exact absurd ho (by decide)
      refine hh τ1 ⟨s0, ?_, ?_⟩
      · show StC tx n σ0 τ1 (outP tx n (wtR tx n (isK y 1) y) (frI y) (vaI y)).1 s0 [] [] a b'
        rw [e1]; exact (hT1.erra ho).weak (Nat.le_refl _) (by omega)
      · show Fst s p (isO (outP tx n (wtR tx n (isK y 1) y) (frI y) (vaI y)).1) _ s0
        rw [e1]
        subst es
        exact (Fst.node (o := false) (t := .leaf) (q' := 0) hp.1 Fst.nil (fun o => absurd o (by decide))).any ho
    · have ho := hT1.flt.mp c
      have hk := wt_b ho
      rw [hT.fro (isK_o hk), hv1 hk]
      have ha : 1 ≤ a := by
        have := hT1.many (by omega)
        cases hq : wtR tx n (isK y 1) y with
        | error e => rw [hq] at ho; exact absurd ho (show ¬ false = true by decide)
        | ok u =>
          rw [hq] at hT1
          have h9 := hT1.2.2.2.2.2.2.2.2
          obtain ⟨i1, i2, i3, i4, i5, i6, i7, i8, i9, i10, i11⟩ := h9
          have : s.1 < s0.1 := hm1.1
          omega
      refine rc_output (a := a - 1) (b' := b') (b := b + 1) (by omega) hT1 (by omega) (by omega) (by omega) (fun τ2 v2 ⟨s2, c2, ev, hT2, hE2⟩ => ?_)
      refine nc_putE (by omega) hT2 (by omega) (by omega) rfl ev hm1 hT.opl hE2 (fun τ3 hT3 f3 => hh τ3 ⟨_, hT3.weak (by omega) (Nat.le_refl _), ?_⟩)
      subst es
      exact Fst.node hp.1 f3 (fun o => hq0 (MO.o ((hxy.trans MO.wt).trans MO.out) o))
  refine ⟨fun c => ?_, fun c => ?_⟩
  · have e : (if 0 < how3 x 62 60 then nxR tx n x else x) = x := if_neg (Int32.not_lt.mpr c)
    rw [e] at h
    exact tail x σ1 MO.rfl' hS1 h
  · have c := how3_pos.2.mp c
    rw [if_pos c] at h
    have hk := how3_pos.1 c
    refine rc_next (a' := a) (by omega) hS1 (by omega) (fun q hq => ⟨by omega, fun k0 => absurd k0 ((isK_0 hk (by decide)).2 q hq)⟩) (fun σ2 hS2 => tail _ σ2 MO.nx (hS2.weak (by omega) (Nat.le_refl _)) h)
theorem rc_cell_110 {y0 : Int32} {s0 : NS} (hd : 12 ≤ d) (hS : StC tx n σ0 σ x s0 [] [] a b) (hab : a ≤ b) (hb : b + 2 ≤ b') (hb' : b' ≤ 32000) (hp : Liv s p) (hs1 : s.1 ≤ 32000) (q0 : Int32) (es : putN (addN s 28 q0 0) p s.1 = s0) (o0 : Bool) (hy : y0 = how3 x 43 45) (q1 : Int32) (hq : isO x = true → q0 = q1)
    (h : ∀ σ', PoC tx n σ0 s [] [] p (wtR tx n (isS (wtR tx n (isK (if 0 < how3 x 43 45 then nxR tx n x else x) 1) (if 0 < how3 x 43 45 then nxR tx n x else x)) 41) (wtR tx n (isK (if 0 < how3 x 43 45 then nxR tx n x else x) 1) (if 0 < how3 x 43 45 then nxR tx n x else x)), tN (28, q1, how3 x 43 45) (tN (6, frI (if 0 < how3 x 43 45 then nxR tx n x else x), vaI (if 0 < how3 x 43 45 then nxR tx n x else x)) .leaf .leaf) .leaf) a b' σ' → Q σ') :
    Bk wd d 0 0 m_Reader_cell 0 0 (qv Q) 110 [oR 17, none, oI (nI s.1), none, none, none] [vI y0] σ := by
  subst hy
  have hmx := hS.many hab
  have hm1 := add_liv (k := 28) (q := q0) (v := 0) hp.1 (by omega : s.1 < 2 ^ 30)
  have ek := (Fst.nil (s := putN (addN s 28 q0 0) p s.1) (p := s.1) (o := true)).key hp.1
  rw [es] at hm1 ek
  refine v_Reader_cell_110 _ _ _ ⟨vp_in_nI (by omega) (by omega), ?_⟩
  rw [nI_clamp (by omega)]
  have hS1 := hS.setV (v := how3 x 43 45) hm1 ek
  have hm2 : Liv (setN s0 s.1 (28, q0, how3 x 43 45)) s.1 := ⟨hm1.1, by rw [setN_rp]; exact hm1.2⟩
  have tail : ∀ (y : RS) (τ : Sg), MO n x y → StC tx n σ0 τ y (setN s0 s.1 (28, q0, how3 x 43 45)) [] [] a b →
      (∀ σ', PoC tx n σ0 s [] [] p (wtR tx n (isS (wtR tx n (isK y 1) y) 41) (wtR tx n (isK y 1) y), tN (28, q1, how3 x 43 45) (tN (6, frI y, vaI y) .leaf .leaf) .leaf) a b' σ' → Q σ') →
      OkI wd (d - 1) m_Reader_add [vR 17, vI (nI s.1), vI 6, vI 0] τ (fun r1 s1 => OkI wd (d - 1) m_Reader_name [vR 17] s1 (fun r2 s2 => (vp_in r1 33500 ∧ OkV wd (d - 1) m_Reader_sign [vR 17, vI 41] (wI s2 10 (Int32.toNatClampNeg r1) r2) (fun s3 => Q s3)))) := by
    intro y τ hxy hT hh
    have hmT := hT.many hab
    refine rc_add (by omega) hT hab (by omega) rfl hm2 (fun τ1 q2 hq2 _ hT1 => ?_)
    generalize es2 : setN s0 s.1 (28, q0, how3 x 43 45) = s2 at hT1 hm2 hmT
    have e0 : ∀ o, Fst (putN (addN s2 6 q2 0) s.1 s2.1) s2.1 o .leaf (putN (addN s2 6 q2 0) s.1 s2.1) := fun o => Fst.nil
    refine rc_name (a' := a) (by omega) hT1 (by omega) (by omega) (fun τ2 v2 hv2 hT2 => ⟨vp_in_nI (by omega) (by omega), ?_⟩)
    rw [nI_clamp (by omega)]
    have hT3 := hT2.setV (v := v2) (add_liv hm2.1 (by omega)) ((e0 true).key hm2.1)
    refine rc_sign (a' := a) (by omega) hT3 (by omega) (by omega) (fun τ4 hT4 => hh τ4 ⟨_, hT4.weak (Nat.le_refl _) (by omega), ?_⟩)
    have f3 : Fst s2 s.1 (isO (wtR tx n (isS (wtR tx n (isK y 1) y) 41) (wtR tx n (isK y 1) y))) (tN (6, frI y, vaI y) .leaf .leaf) (setN (putN (addN s2 6 q2 0) s.1 s2.1) s2.1 (6, q2, v2)) := Fst.nodeS hm2.1 (e0 _) (fun o => by
      have o1 := wt_b (MO.o MO.wt o)
      rw [hv2 o1, hq2 (isK_o o1)])
    subst es2 es
    exact Fst.node2 (o1 := true) (t1 := .leaf) hp.1 Fst.nil f3 (fun _ => rfl) (fun o => by rw [hq (MO.o ((hxy.trans MO.wt).trans MO.wt) o)])
  refine ⟨fun c => ?_, fun c => ?_⟩
  · have e : (if 0 < how3 x 43 45 then nxR tx n x else x) = x := if_neg (Int32.not_lt.mpr c)
    rw [e] at h
    exact tail x _ MO.rfl' hS1 h
  · have c := how3_pos.2.mp c
    rw [if_pos c] at h
    have hk := how3_pos.1 c
    refine rc_next (a' := a) (by omega) hS1 (by omega) (fun q hq => ⟨by omega, fun k0 => absurd k0 ((isK_0 hk (by decide)).2 q hq)⟩) (fun σ2 hS2 => tail _ σ2 MO.nx hS2 h)
theorem rc_cell (hd : 13 ≤ d) (hS : StC tx n σ0 σ x s [] [] a b) (hab : a ≤ b) (hb : b + 4 ≤ b') (hb' : b' ≤ 32000) (h1 : x1 = nI p) (hp : Liv s p) (h : ∀ σ', PoC tx n σ0 s [] [] p (celP tx n x) a b' σ' → Q σ') : OkV wd d m_Reader_cell [vR 17, vI x1] σ Q := by
  subst h1
  have hmx := hS.many hab
  unfold celP at h
  dsimp only at h
  have wire : (isS x 45 || isS x 42) = true → ∀ k, k = (if isS x 45 = true then (26 : Int32) else 27) → OkI wd (d - 1) m_Reader_add [vR 17, vI (nI p), vI k, vI 0] σ (fun r3 s3 => OkV wd (d - 1) m_Reader_next [vR 17] s3 (fun s4 => Q s4)) := by
    intro c k hk
    have hk5 : isK x 5 = true := by
      simp only [Bool.or_eq_true] at c
      rcases c with c | c <;> exact (isS_k c).1
    rw [if_neg (by rw [isK_o hk5]; decide), if_pos c, ← hk] at h
    exact rc_leaf (by omega) hS hab (by omega) (by omega) rfl hp hk5 (by decide) h
  have cont : isS x 45 = false → isS x 42 = false → isS x 40 = false → ∀ y0, y0 = how3 x 62 60 → Bk wd d 0 0 m_Reader_cell 0 0 (qv Q) 202 [oR 17, oI (nI p), none, none, none, none] [vI y0] σ := by
    intro c1 c2 c3 y0 hy
    refine rc_cell_202 (by omega) hS hab hb hb' hp hy ?_
    cases x with
    | ok q =>
      rw [if_neg (show ¬ isO (.ok q) = false from fun q => absurd q (show ¬ true = false by decide)), if_neg (by rw [c1, c2]; decide), if_neg (by rw [c3]; decide)] at h
      exact h
    | error e =>
      rw [if_pos (show isO (.error e) = false from rfl)] at h
      intro σ' ⟨s', k1, k2⟩
      exact h σ' ⟨s', k1, k2.any rfl⟩
  refine v_Reader_cell _ _ (by omega) (rc_isS (by omega) hS ⟨fun r1 => rc_isS (by omega) hS ⟨fun r2 => absurd r2 r1, fun _ => wire (by rw [b2_n0.mp r1]; rfl) 26 (by rw [if_pos (b2_n0.mp r1)])⟩, fun r1 => rc_isS (by omega) hS ⟨fun r2 => rc_isS (by omega) hS ⟨fun r3 => ?_, fun r3 => ?_⟩, fun r2 => rc_isS (by omega) hS ⟨fun _ => wire (by rw [b2_n0.mp r2]; simp) 27 (by rw [if_neg (by rw [b2_0.mp r1]; decide)]), fun c => absurd r1 c⟩⟩⟩)
  · have c1 := b2_0.mp r1
    have c2 := b2_0.mp r2
    have c3 := b2_0.mp r3
    refine rc_isS (by omega) hS ⟨fun q1 => rc_isS (by omega) hS ⟨fun q2 => rc_isS (by omega) hS ⟨fun q3 => ?_, fun q3 => ?_⟩, fun q2 => ?_⟩, fun q1 => ?_⟩
    all_goals (refine cont c1 c2 c3 _ ?_; unfold how3)
    · rw [b2_0.mp q1, b2_0.mp q2, b2_0.mp q3]; rfl
    · rw [b2_0.mp q1, b2_0.mp q2, b2_n0.mp q3]; rfl
    · rw [b2_0.mp q1, b2_n0.mp q2]; rfl
    · rw [b2_n0.mp q1]; rfl
  · have c1 := b2_0.mp r1
    have c2 := b2_0.mp r2
    have c3 := b2_n0.mp r3
    rw [if_neg (by rw [isS_o c3]; decide), if_neg (by rw [c1, c2]; decide), if_pos c3] at h
    refine rc_add (by omega) hS hab (by omega) rfl hp (fun σ1 q0 hq0 _ hS1 => ?_)
    have hq0 := hq0 (isS_o c3)
    subst hq0
    refine rc_next (a' := a) (by omega) hS1 (by omega) (fun q hq => ⟨by omega, fun k0 => absurd k0 ((isK_0 (isS_k c3).1 (by decide)).2 q hq)⟩) (fun σ2 hS2 => ?_)
    refine rc_isS (by omega) hS2 ⟨fun q1 => rc_isS (by omega) hS2 ⟨fun q2 => rc_isS (by omega) hS2 ⟨fun q3 => ?_, fun q3 => ?_⟩, fun q2 => ?_⟩, fun q1 => ?_⟩
    all_goals (refine rc_cell_110 (b := b + 1) (b' := b') (by omega) hS2 (by omega) (by omega) (by omega) hp (by omega) (frI x) rfl true ?_ (frI x) (fun _ => rfl) h; unfold how3)
    · rw [b2_0.mp q1, b2_0.mp q2, b2_0.mp q3]; rfl
    · rw [b2_0.mp q1, b2_0.mp q2, b2_n0.mp q3]; rfl
    · rw [b2_0.mp q1, b2_n0.mp q2]; rfl
    · rw [b2_n0.mp q1]; rfl
theorem rc_row (hd : 14 ≤ d) (hS : StC tx n σ0 σ x s [] [] a b) (hab : a ≤ b) (hb : b + 8 ≤ b') (hb' : b' ≤ 32000) (h1 : x1 = nI p) (hp : Liv s p) (h : ∀ σ', PoC tx n σ0 s [] [] p (rowP tx n x) a b' σ' → Q σ') : OkV wd d m_Reader_row [vR 17, vI x1] σ Q := by
  have hmx := hS.many hab
  unfold rowP at h
  dsimp only at h
  refine v_Reader_row _ _ (by omega) (rc_add (by omega) hS hab (by omega) h1 hp (fun σ1 q0 hq0 _ hS1 => ?_))
  have hm1 := add_liv (k := 24) (q := q0) (v := 0) hp.1 (by omega : s.1 < 2 ^ 30)
  generalize es : putN (addN s 24 q0 0) p s.1 = s0 at hS1 hm1
  refine rc_cell (b' := b + 5) (by omega) hS1 (by omega) (by omega) (by omega) rfl hm1 (fun σ2 ⟨s2, hS2, f2⟩ => ?_)
  have hmC : MO n x (celP tx n x).1 := MO.cel
  generalize celP tx n x = C at h hS2 f2 hmC
  have hm2 := f2.liv hm1 hm1.1
  have loop : ∀ (f : Nat) (y : RS) (τ : Sg) (s1 : NS) (t : Tr) (B : Nat), (∀ q, y = .ok q → n + 1 ≤ sF q + f) → MO n C.1 y → StC tx n σ0 τ y s1 [] [] (a + 1) B → a + 1 ≤ B → B ≤ b' → Fst s2 s.1 (isO y) t s1 →
      (∀ σ', PoC tx n σ0 s [] [] p (wtR tx n (isS (rwlP tx n f y).1 59) (rwlP tx n f y).1, tN (24, frI x, 0) (tap C.2 (tap t (rwlP tx n f y).2)) .leaf) a b' σ' → Q σ') →
      Bk wd d 0 0 m_Reader_row 0 0 (qv Q) 14 [oR 17, none, oI (nI s.1), none] [] τ := by
    intro f
    have stop : ∀ (y : RS) (τ : Sg) (s1 : NS) (t : Tr) (B : Nat), MO n C.1 y → StC tx n σ0 τ y s1 [] [] (a + 1) B → a + 1 ≤ B → B ≤ b' → Fst s2 s.1 (isO y) t s1 →
        (∀ σ', PoC tx n σ0 s [] [] p (wtR tx n (isS y 59) y, tN (24, frI x, 0) (tap C.2 (tap t .leaf)) .leaf) a b' σ' → Q σ') → OkV wd (d - 1) m_Reader_sign [vR 17, vI 59] τ (fun s1 => Q s1) := by
      intro y τ s1 t B hmo hT hB1 hB2 hf hh
      refine rc_sign (a' := a) (by omega) hT hB1 (by omega) (fun τ1 hT1 => hh τ1 ⟨s1, hT1.weak (Nat.le_refl _) hB2, ?_⟩)
      have fz := Fst.cat hm1.1 f2 hf (fun o => MO.o hmo o)
      subst es
      rw [tap_leaf]
      exact Fst.node hp.1 (fz.weak (fun o => MO.o MO.wt o)) (fun o => hq0 (MO.o ((hmC.trans hmo).trans MO.wt) o))
    induction f with
    | zero =>
      intro y τ s1 t B hfu hmo hT hB1 hB2 hf hh
      cases y with
      | ok q => have := hfu q rfl; have := hT.inv.1; omega
      | error e => exact v_Reader_row_14 _ _ ⟨fun _ => stop _ τ s1 t B hmo hT hB1 hB2 hf hh, fun c => absurd (hT.flt.mp c) (show ¬ false = true by decide)⟩
    | succ f ih =>
      intro y τ s1 t B hfu hmo hT hB1 hB2 hf hh
      have hm3 := hf.liv hm2 hm2.1
      have eN : rwlP tx n (f + 1) y = if isO y = true ∧ isS y 59 = false then ((rwlP tx n f (celP tx n (if isS y 124 = true then nxR tx n y else y)).1).1, tap (if isS y 124 = true then tN (29, frI y, 0) .leaf .leaf else .leaf) (tap (celP tx n (if isS y 124 = true then nxR tx n y else y)).2 (rwlP tx n f (celP tx n (if isS y 124 = true then nxR tx n y else y)).1).2)) else (y, .leaf) := rfl
      rw [eN] at hh
      refine v_Reader_row_14 _ _ ⟨fun c => ?_, fun c => rc_isS (by omega) hT ⟨fun r => ?_, fun r => ?_⟩⟩
      · have ho : ¬ (isO y = true ∧ isS y 59 = false) := fun q => c (hT.flt.mpr q.1)
        rw [if_neg ho] at hh
        exact stop _ τ s1 t B hmo hT hB1 hB2 hf hh
      · have ho : ¬ (isO y = true ∧ isS y 59 = false) := fun q => by rw [b2_n0.mp r] at q; exact absurd q.2 (by decide)
        rw [if_neg ho] at hh
        exact stop _ τ s1 t B hmo hT hB1 hB2 hf hh
      · have ho := hT.flt.mp c
        rw [if_pos ⟨ho, b2_0.mp r⟩] at hh
        have hT' := hT.okb (b' := a + 1) ho
        have go : ∀ (z : RS) (u : Tr) (τ1 : Sg) (s3 : NS), (if isS y 124 = true then nxR tx n y else y) = z → (if isS y 124 = true then tN (29, frI y, 0) .leaf .leaf else .leaf) = u → MO n y z → StC tx n σ0 τ1 z s3 [] [] (a + 1) (a + 2) → Fst s1 s.1 (isO z) u s3 → OkV wd (d - 1) m_Reader_cell [vR 17, vI (nI s.1)] τ1 (fun s5 => Bk wd d 0 0 m_Reader_row 0 0 (qv Q) 14 [oR 17, none, oI (nI s.1), none] [] s5) := by
          intro z u τ1 s3 ez eu hyz hT1 f3
          rw [ez, eu] at hh
          have hm4 := f3.liv hm3 hm3.1
          refine rc_cell (b' := b') (by omega) hT1 (by omega) (by omega) (by omega) rfl hm4 (fun τ2 ⟨s4, hT2, f4⟩ => ?_)
          have hmz : MO n y (celP tx n z).1 := hyz.trans MO.cel
          refine ih _ τ2 s4 _ b' ((SL.pre hyz SL.cel MO.cel).fuel hmz hT.invs hfu) (hmo.trans hmz) hT2 (by omega) (Nat.le_refl _) (Fst.cat hm2.1 hf (Fst.cat hm3.1 f3 f4 (fun o => MO.o MO.cel o)) (fun o => MO.o hmz o)) (fun σ' hσ' => hh σ' (by simpa only [tap_assoc] using hσ'))
        refine rc_isS (by omega) hT' ⟨fun r2 => ?_, fun r2 => ?_⟩
        · have r2 := b2_0.mp r2
          exact go y .leaf τ s1 (if_neg (by rw [r2]; decide)) (if_neg (by rw [r2]; decide)) MO.rfl' (hT'.weak (Nat.le_refl _) (by omega)) Fst.nil
        · have r2 := b2_n0.mp r2
          refine rc_leaf (b' := a + 2) (by omega) hT' (Nat.le_refl _) (by omega) (by omega) rfl hm3 (isS_k r2).1 (by decide) (fun τ1 ⟨s3, hT1, f3⟩ => ?_)
          exact go _ _ τ1 s3 (if_pos r2) (if_pos r2) MO.nx hT1 f3
  exact loop (n + 1) C.1 σ2 s2 .leaf (b + 5) (fun q _ => by omega) MO.rfl' hS2 (by omega) (by omega) Fst.nil h
theorem rc_ladder (hd : 15 ≤ d) (hS : StC tx n σ0 σ x s [] [] a b) (hk : isW x 37 = true) (hb : a + 20 ≤ b') (hb' : b' ≤ 32000) (h1 : x1 = nI p) (hp : Liv s p) (h : ∀ σ', PoC tx n σ0 s [] [] p (ladP tx n x) a b' σ' → Q σ') : OkV wd d m_Reader_ladder [vR 17, vI x1] σ Q := by
  have ho := isW_o hk
  have hS := hS.okb (b' := a) ho
  have hmx := hS.many (Nat.le_refl _)
  unfold ladP at h
  dsimp only at h
  refine v_Reader_ladder _ _ (by omega) (rc_add (by omega) hS (Nat.le_refl _) (by omega) h1 hp (fun σ1 q0 hq0 _ hS1 => ?_))
  have hq0 := hq0 ho
  subst hq0
  have hm1 := add_liv (k := 22) (q := frI x) (v := 0) hp.1 (by omega : s.1 < 2 ^ 30)
  generalize es : putN (addN s 22 (frI x) 0) p s.1 = s0 at hS1 hm1
  refine rc_next (a' := a) (by omega) hS1 (by omega) (fun q hq => ⟨by omega, fun k0 => absurd k0 ((isK_0 (isW_k hk).1 (by decide)).2 q hq)⟩) (fun σ2 hS2 => ?_)
  have loop : ∀ (f : Nat) (y : RS) (τ : Sg) (s1 : NS) (t : Tr) (B : Nat), (∀ q, y = .ok q → n + 1 ≤ sF q + f) → StC tx n σ0 τ y s1 [] [] a B → a ≤ B → B ≤ b' → Fst s0 s.1 (isO y) t s1 →
      (∀ σ', PoC tx n σ0 s [] [] p (wtR tx n (isW (lalP tx n f y).1 38) (lalP tx n f y).1, tN (22, frI x, 0) (tap t (lalP tx n f y).2) .leaf) a b' σ' → Q σ') →
      Bk wd d 0 0 m_Reader_ladder 0 0 (qv Q) 13 [oR 17, none, oI (nI s.1), none] [] τ := by
    intro f
    have stop : ∀ (y : RS) (τ : Sg) (s1 : NS) (t : Tr) (B : Nat), StC tx n σ0 τ y s1 [] [] a B → a ≤ B → B ≤ b' → Fst s0 s.1 (isO y) t s1 →
        (∀ σ', PoC tx n σ0 s [] [] p (wtR tx n (isW y 38) y, tN (22, frI x, 0) (tap t .leaf) .leaf) a b' σ' → Q σ') → OkV wd (d - 1) m_Reader_word [vR 17, vI 38] τ (fun s1 => Q s1) := by
      intro y τ s1 t B hT hB1 hB2 hf hh
      refine rc_word (a' := a) (by omega) hT hB1 (by omega) (fun τ1 hT1 => hh τ1 ⟨s1, hT1.weak (Nat.le_refl _) hB2, ?_⟩)
      subst es
      rw [tap_leaf]
      exact Fst.node hp.1 (hf.weak (fun o => MO.o MO.wt o)) (fun _ => rfl)
    induction f with
    | zero =>
      intro y τ s1 t B hfu hT hB1 hB2 hf hh
      cases y with
      | ok q => have := hfu q rfl; have := hT.inv.1; omega
      | error e => exact v_Reader_ladder_13 _ _ (rc_isW (by omega) hT ⟨fun _ => stop _ τ s1 t B hT hB1 hB2 hf hh, fun c => absurd rfl c⟩)
    | succ f ih =>
      intro y τ s1 t B hfu hT hB1 hB2 hf hh
      have hm2 := hf.liv hm1 hm1.1
      have eN : lalP tx n (f + 1) y = if isW y 39 = true then ((lalP tx n f (rngP tx n y).1).1, tap (rngP tx n y).2 (lalP tx n f (rngP tx n y).1).2) else (y, .leaf) := rfl
      rw [eN] at hh
      refine v_Reader_ladder_13 _ _ (rc_isW (by omega) hT ⟨fun r => ?_, fun r => ?_⟩)
      · rw [if_neg (by rw [b2_0.mp r]; decide)] at hh
        exact stop _ τ s1 t B hT hB1 hB2 hf hh
      · have r := b2_n0.mp r
        rw [if_pos r] at hh
        have hoy := isW_o r
        have hT' := hT.okb (b' := a) hoy
        have hmy := hT'.many (Nat.le_refl _)
        refine rc_add (by omega) hT' (Nat.le_refl _) (by omega) rfl hm2 (fun τ1 q1 hq1 _ hT1 => ?_)
        have hq1 := hq1 hoy
        subst hq1
        have hm3 := add_liv (k := 23) (q := frI y) (v := 0) hm2.1 (by omega : s1.1 < 2 ^ 30)
        generalize es1 : putN (addN s1 23 (frI y) 0) s.1 s1.1 = s1' at hT1 hm3
        refine rc_next (a' := a) (by omega) hT1 (by omega) (fun q hq => ⟨by omega, fun k0 => absurd k0 ((isK_0 (isW_k r).1 (by decide)).2 q hq)⟩) (fun τ2 hT2 => ?_)
        -- rows
        have eR : rngP tx n y = (wtR tx n (isW (rnlP tx n (n + 1) (nxR tx n y)).1 40) (rnlP tx n (n + 1) (nxR tx n y)).1, tN (23, frI y, 0) (rnlP tx n (n + 1) (nxR tx n y)).2 .leaf) := rfl
        have inner : ∀ (g : Nat) (z : RS) (τ3 : Sg) (s3 : NS) (u : Tr), (∀ q, z = .ok q → n + 1 ≤ sF q + g) → MO n y z → StC tx n σ0 τ3 z s3 [] [] a (a + 1) → Fst s1' s1.1 (isO z) u s3 →
            ((rnlP tx n (n + 1) (nxR tx n y)).1 = (rnlP tx n g z).1) → ((rnlP tx n (n + 1) (nxR tx n y)).2 = tap u (rnlP tx n g z).2 ∨ isO (rnlP tx n g z).1 = false) →
            Bk wd d 0 0 m_Reader_ladder 0 0 (qv Q) 35 [oR 17, none, oI (nI s.1), oI (nI s1.1)] [] τ3 := by
          have done : ∀ (z : RS) (τ3 : Sg) (s3 : NS) (u : Tr), MO n y z → StC tx n σ0 τ3 z s3 [] [] a (a + 12) → Fst s1' s1.1 (isO z) u s3 → (rnlP tx n (n + 1) (nxR tx n y)).1 = z → ((rnlP tx n (n + 1) (nxR tx n y)).2 = u ∨ isO z = false) →
              OkV wd (d - 1) m_Reader_word [vR 17, vI 40] τ3 (fun s2 => Bk wd d 0 0 m_Reader_ladder 0 0 (qv Q) 13 [oR 17, none, oI (nI s.1), none] [] s2) := by
            intro z τ3 s3 u hyz hT3 f3 e1 e2
            rw [eR, e1] at hh
            dsimp only at hh
            have hmw : MO n y (wtR tx n (isW z 40) z) := hyz.trans MO.wt
            refine rc_word (a' := a) (by omega) hT3 (by omega) (by omega) (fun τ4 hT4 => ?_)
            refine ih _ τ4 s3 (tap t (tN (23, frI y, 0) (rnlP tx n (n + 1) (nxR tx n y)).2 .leaf)) (a + 12) ((SL.wW hyz).fuel hmw hT.invs hfu) hT4 (by omega) (by omega) ?_ (fun σ' hσ' => hh σ' (by simpa only [tap_assoc] using hσ'))
            have f4 : Fst s1' s1.1 (isO (wtR tx n (isW z 40) z)) (rnlP tx n (n + 1) (nxR tx n y)).2 s3 := by
              rcases e2 with e2 | e2
              · rw [e2]; exact f3.weak (fun o => MO.o MO.wt o)
              · refine f3.any ?_
                cases z with
                | ok q => exact absurd e2 (show ¬ true = false by decide)
                | error e => rfl
            have f5 : Fst s1 s.1 (isO (wtR tx n (isW z 40) z)) (tN (23, frI y, 0) (rnlP tx n (n + 1) (nxR tx n y)).2 .leaf) s3 := by
              subst es1
              exact Fst.node hm2.1 f4 (fun _ => rfl)
            exact Fst.cat hm1.1 hf f5 (fun o => MO.o hmw o)
          intro g
          induction g with
          | zero =>
            intro z τ3 s3 u hfg hyz hT3 f3 e1 e2
            have hm4 := f3.liv hm3 hm3.1
            cases z with
            | ok q => have := hfg q rfl; have := hT3.inv.1; omega
            | error e =>
              refine v_Reader_ladder_35 _ _ _ (rc_row (b' := a + 12) (by omega) hT3 (by omega) (by omega) (by omega) rfl hm4 (fun τ4 ⟨s4, hT4, f4⟩ => ?_))
              have er : (rowP tx n (.error e)).1 = .error e := MO.row.1 e rfl
              rw [er] at hT4 f4
              refine ⟨fun _ => done (.error e) τ4 s4 .leaf hyz hT4 ((Fst.cat hm3.1 f3 f4 (fun o => o)).any rfl) e1 (Or.inr rfl), fun c => absurd (hT4.flt.mp c) (show ¬ false = true by decide)⟩
          | succ g ihg =>
            intro z τ3 s3 u hfg hyz hT3 f3 e1 e2
            have hm4 := f3.liv hm3 hm3.1
            have eN : rnlP tx n (g + 1) z = if isO (rowP tx n z).1 = true ∧ isW (rowP tx n z).1 40 = false then ((rnlP tx n g (rowP tx n z).1).1, tap (rowP tx n z).2 (rnlP tx n g (rowP tx n z).1).2) else rowP tx n z := rfl
            rw [eN] at e1 e2
            refine v_Reader_ladder_35 _ _ _ (rc_row (b' := a + 12) (by omega) hT3 (by omega) (by omega) (by omega) rfl hm4 (fun τ4 ⟨s4, hT4, f4⟩ => ?_))
            have hmr : MO n z (rowP tx n z).1 := MO.row
            have slr : SL n z (rowP tx n z).1 := SL.wS (MO.cel.trans (MO.rwl _))
            have f6 := Fst.cat hm3.1 f3 f4 (fun o => MO.o hmr o)
            have stopR : ¬ (isO (rowP tx n z).1 = true ∧ isW (rowP tx n z).1 40 = false) → OkV wd (d - 1) m_Reader_word [vR 17, vI 40] τ4 (fun s2 => Bk wd d 0 0 m_Reader_ladder 0 0 (qv Q) 13 [oR 17, none, oI (nI s.1), none] [] s2) := by
              intro c
              rw [if_neg c] at e1 e2
              exact done _ τ4 s4 _ (hyz.trans hmr) hT4 f6 e1 e2
            refine ⟨fun c => stopR (fun q => c (hT4.flt.mpr q.1)), fun c => rc_isW (by omega) hT4 ⟨fun r4 => ?_, fun r4 => stopR (fun q => by rw [b2_n0.mp r4] at q; exact absurd q.2 (by decide))⟩⟩
            have ho4 := hT4.flt.mp c
            rw [if_pos ⟨ho4, b2_0.mp r4⟩] at e1 e2
            refine ihg _ τ4 s4 _ (slr.fuel hmr hT3.invs hfg) (hyz.trans hmr) (hT4.okb ho4) f6 e1 ?_
            rw [tap_assoc]; exact e2
        exact inner (n + 1) (nxR tx n y) τ2 s1' .leaf (fun q _ => by omega) MO.nx (hT2.weak (Nat.le_refl _) (by omega)) Fst.nil rfl (Or.inl rfl)
  exact loop (n + 1) _ σ2 s0 .leaf (a + 1) (fun q _ => by omega) hS2 (by omega) (by omega) Fst.nil h
end
