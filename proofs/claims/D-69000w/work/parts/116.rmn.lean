/-! 116: the reference reads ladders -/
section
variable {w : Wd} {d n F : Nat} {tx : Nat → Int32} {σ0 σ : Sg} {x : RS} {s : NS} {a b b' p : Nat} {x1 : Int32} {Q : Sg → Prop}
/-- a name, or an output of what has that name, below m -/
theorem rm_out65 {m : Nat} (hd : 14 ≤ d) (hS : StM tx n σ0 σ x s [] a b) (hab : a ≤ b) (hb : b + 3 ≤ b') (hb' : b' ≤ 33000) (hm : Liv s m) (h : ∀ σ', PoM tx n σ0 s [] m (outP tx n (wtR tx n (isK x 1) x) (frI x) (vaI x)) (a - 1) b' σ' → Q σ') : Bk w d 0 0 m_M_contact 0 0 (qv Q) 65 [oR 81, none, oI (nI m), none, none, none, none] [] σ := by
  have hmx := hS.many hab
  unfold outP at h
  refine v_M_contact_65 _ _ (rm_wantK (K := fun s1 => OkI w (d - 1) m_M_isSign [vR 81, vI (46)] s1 (fun r2 s2 => ((r2 = 0 → OkI w (d - 1) m_M_add [vR 81, vI (nI m), vI (6), vI (σ.1 81 7), vI (σ.1 81 9)] s2 (fun r3 s3 => Q s3)) ∧ (¬ r2 = 0 → OkI w (d - 1) m_M_add [vR 81, vI (nI m), vI (33), vI (σ.1 81 7), vI (σ.1 81 9)] s2 (fun r4 s4 => OkV w (d - 1) m_M_next [vR 81] s4 (fun s5 => OkI w (d - 1) m_M_add [vR 81, vI (r4), vI (6), vI (s5.1 81 7), vI (s5.1 81 9)] s5 (fun r6 s6 => ((¬ (s6.1 81 6) = 1 → OkV w (d - 1) m_M_want [vR 81, vI (0)] s6 (fun s7 => Q s7)) ∧ ((s6.1 81 6) = 1 → OkV w (d - 1) m_M_want [vR 81, vI (1)] s6 (fun s8 => Q s8)))))))))) (a' := a - 4) (by omega) (by decide) hS hab (by omega) (fun σ1 hS1 => ?_))
  have hmw : MO n x (wtR tx n (isK x 1) x) := MO.wt
  have key : ∀ z, MO n (wtR tx n (isK x 1) x) z → isO z = true → σ.1 81 7 = frI x ∧ σ.1 81 9 = vaI x ∧ s.1 + 4 ≤ a := by
    intro z hz o
    have hk := wt_b (MO.o hz o)
    refine ⟨hS.fro (isK_o hk), hS.val hk (by decide), ?_⟩
    cases x with
    | ok q => exact hS.pay ((isK_0 hk (by decide)).2 q rfl)
    | error e => exact absurd hk (show ¬ false = true by decide)
  generalize wtR tx n (isK x 1) x = z at h hS1 hmw key
  refine rm_isS (by omega) hS1 ⟨fun r => ?_, fun r => ?_⟩
  · rw [if_neg (by rw [b2_0.mp r]; decide)] at h
    refine rm_add (by omega) hS1 (by omega) (by omega) rfl hm (fun σ2 hS2 => h σ2 ⟨putN (addN s 6 (σ.1 81 7) (σ.1 81 9)) m s.1, ?_, ?_⟩)
    · cases hz : z with
      | ok q => rw [hz] at hS2 key; have := key _ MO.rfl' rfl; exact hS2.weak (by omega) (by omega)
      | error e => rw [hz] at hS2; exact (hS2.erra rfl).weak (Nat.le_refl _) (by omega)
    · obtain ⟨o1, o2⟩ := FoN.one (s := s) (p := m) (k := 6) (v := σ.1 81 9) (q := σ.1 81 7) hm.1 rfl
      refine ⟨_, o1, fun o => ?_⟩
      have := key _ MO.rfl' o
      rw [this.1, this.2.1] at o2 ⊢
      exact o2
  · have r := b2_n0.mp r
    rw [if_pos r] at h
    have kk := key _ MO.rfl' (isS_o r)
    rw [kk.1, kk.2.1]
    refine rm_add (by omega) (hS1.okb (b' := a - 4) (isS_o r)) (by omega) (by omega) rfl hm (fun σ2 hS2 => ?_)
    have hm2 := add_liv (k := 33) (q := frI x) (v := vaI x) hm.1 (by omega : s.1 < 2 ^ 30)
    generalize es : putN (addN s 33 (frI x) (vaI x)) m s.1 = s2 at hS2 hm2
    refine rm_next (a' := a - 4) (by omega) hS2 (by omega) (fun q e => ⟨by omega, fun k0 => absurd k0 ((isK_0 (isS_k r).1 (by decide)).2 q e)⟩) (fun σ3 hS3 => ?_)
    generalize nxR tx n z = u at h hS3
    refine rm_add (by omega) hS3 (by omega) (by omega) rfl hm2 (fun σ4 hS4 => ?_)
    refine rm_wantK (K := fun s7 => Q s7) (a' := a - 3) (by omega) (by decide) hS4 (by omega) (by omega) (fun σ5 hS5 => h σ5 ⟨_, hS5.weak (by omega) (by omega), ?_⟩)
    have f6 : Fst s2 s.1 (isO (wtR tx n (isK u 1) u)) (tN (6, frI u, vaI u) .leaf .leaf) (putN (addN s2 6 (σ3.1 81 7) (σ3.1 81 9)) s.1 s2.1) := by
      obtain ⟨o1, o2⟩ := FoN.one (s := s2) (p := s.1) (k := 6) (v := σ3.1 81 9) (q := σ3.1 81 7) hm2.1 rfl
      refine ⟨_, o1, fun o => ?_⟩
      have hk := wt_b o
      rw [hS3.fro (isK_o hk), hS3.val hk (by decide)] at o2 ⊢
      exact o2
    subst es
    exact Fst.node hm.1 f6 (fun _ => rfl)
theorem rm_contact (hd : 15 ≤ d) (hS : StM tx n σ0 σ x s [] a b) (ho : isO x = true) (hb : a + 5 ≤ b') (hb' : b' ≤ 33000) (h1 : x1 = nI p) (hp : Liv s p) (h : ∀ σ', PoM tx n σ0 s [] p (let how : Int32 := if isS x 47 = true then 1 else if isS x 62 = true then 2 else if isS x 60 = true then 3 else 0; let y := if 0 < how then nxR tx n x else x; let z := wtR tx n (isK y 1) y; ((outP tx n z (frI y) (vaI y)).1, tN (25, frI x, how) (outP tx n z (frI y) (vaI y)).2 .leaf)) a b' σ' → Q σ') : OkV w d m_M_contact [vR 81, vI x1] σ Q := by
  have hS := hS.okb (b' := a) ho
  have hmx := hS.many (Nat.le_refl _)
  dsimp only at h
  have go : ∀ how : Int32, how = (if isS x 47 = true then (1 : Int32) else if isS x 62 = true then 2 else if isS x 60 = true then 3 else 0) → (¬ how ≤ 0 → isK x 5 = true) → Bk w d 0 0 m_M_contact 0 0 (qv Q) 48 [oR 81, none, none, none, none, none, none] [vI how, vI (frI x), vI 25, vI x1, vR 81] σ := by
    intro how hh hk
    rw [← hh] at h
    refine v_M_contact_48 _ _ _ _ _ (rm_add (by omega) hS (Nat.le_refl _) (by omega) h1 hp (fun σ2 hS2 => ⟨vp_in_nI (by omega) (by omega), ?_⟩))
    have hm2 := add_liv (k := 25) (q := frI x) (v := how) hp.1 (by omega : s.1 < 2 ^ 30)
    have ek := (Fst.nil (s := putN (addN s 25 (frI x) how) p s.1) (p := s.1) (o := true)).key hp.1
    have ev : σ2.1 87 s.1 = how := by
      have := (hS2.2.2.2.1 s.1 hm2.1 hm2.2).2.2.1
      rw [this]
      unfold rk at ek
      simp only [Prod.mk.injEq] at ek
      exact ek.2.2
    rw [nI_clamp (by omega), ev]
    generalize es : putN (addN s 25 (frI x) how) p s.1 = s2 at hS2 hm2
    refine ⟨fun c => ?_, fun c => ?_⟩
    · rw [if_neg (Int32.not_lt.mpr c)] at h
      refine rm_out65 (b' := b') (by omega) hS2 (by omega) (by omega) hb' hm2 (fun σ3 ⟨s3, hS3, f3⟩ => h σ3 ⟨s3, hS3.weak (by omega) (Nat.le_refl _), ?_⟩)
      subst es
      exact Fst.node hp.1 f3 (fun _ => rfl)
    · rw [if_pos (Int32.not_le.mp c)] at h
      refine rm_next (a' := a) (by omega) hS2 (by omega) (fun q e => ⟨by omega, fun k0 => absurd k0 ((isK_0 (hk c) (by decide)).2 q e)⟩) (fun σ3 hS3 => ?_)
      refine rm_out65 (b' := b') (by omega) hS3 (by omega) (by omega) hb' hm2 (fun σ4 ⟨s4, hS4, f4⟩ => h σ4 ⟨s4, hS4.weak (by omega) (Nat.le_refl _), ?_⟩)
      subst es
      exact Fst.node hp.1 f4 (fun _ => rfl)
  refine v_M_contact _ _ (by omega) ?_
  rw [hS.fro ho]
  refine rm_isS (by omega) hS ⟨fun r1 => rm_isS (by omega) hS ⟨fun r2 => rm_isS (by omega) hS ⟨fun r3 => ?_, fun r3 => ?_⟩, fun r2 => ?_⟩, fun r1 => ?_⟩
  · exact go 0 (by rw [if_neg (by rw [b2_0.mp r1]; decide), if_neg (by rw [b2_0.mp r2]; decide), if_neg (by rw [b2_0.mp r3]; decide)]) (fun c => absurd (by decide) c)
  · exact go 3 (by rw [if_neg (by rw [b2_0.mp r1]; decide), if_neg (by rw [b2_0.mp r2]; decide), if_pos (b2_n0.mp r3)]) (fun _ => (isS_k (b2_n0.mp r3)).1)
  · exact go 2 (by rw [if_neg (by rw [b2_0.mp r1]; decide), if_pos (b2_n0.mp r2)]) (fun _ => (isS_k (b2_n0.mp r2)).1)
  · exact go 1 (by rw [if_pos (b2_n0.mp r1)]) (fun _ => (isS_k (b2_n0.mp r1)).1)
theorem rm_cell (hd : 16 ≤ d) (hS : StM tx n σ0 σ x s [] a b) (hab : a ≤ b) (hb : b + 5 ≤ b') (hb' : b' ≤ 33000) (h1 : x1 = nI p) (hp : Liv s p) (h : ∀ σ', PoM tx n σ0 s [] p (celP tx n x) a b' σ' → Q σ') : OkV w d m_M_readCell [vR 81, vI x1] σ Q := by
  unfold celP at h
  refine v_M_readCell _ _ (by omega) ?_
  rw [hS.fle]
  refine ⟨fun ho => ?_, fun ho => ?_⟩
  rotate_left
  · have hf : isO x = false := Bool.eq_false_iff.mpr ho
    rw [if_pos hf] at h
    exact h σ (PoM.nil (hS.weak (Nat.le_refl _) (by omega)))
  rw [if_neg (by rw [ho]; decide)] at h
  have hS := hS.okb (b' := a) ho
  have hmx := hS.many (Nat.le_refl _)
  have lf : (isS x 45 || isS x 42) = true → ((¬ (σ.1 81 9) = 45 → OkI w (d - 1) m_M_add [vR 81, vI x1, vI (27), vI (σ.1 81 7), vI (0)] σ (fun r2 s2 => OkV w (d - 1) m_M_next [vR 81] s2 (fun s3 => Q s3))) ∧ ((σ.1 81 9) = 45 → OkI w (d - 1) m_M_add [vR 81, vI x1, vI (26), vI (σ.1 81 7), vI (0)] σ (fun r4 s4 => OkV w (d - 1) m_M_next [vR 81] s4 (fun s5 => Q s5)))) := by
    intro hc
    rw [if_pos hc] at h
    have hc' : isS x 45 = true ∨ isS x 42 = true := by simpa using hc
    have hk : isK x 5 = true := by rcases hc' with q | q <;> exact (isS_k q).1
    rw [hS.val hk (by decide)]
    refine ⟨fun c => ?_, fun c => ?_⟩
    · rw [if_neg (fun q => c (isS_k q).2)] at h
      exact rm_leaf (b' := b') (by omega) hS (Nat.le_refl _) (by omega) (by omega) h1 hp hk (by decide) (hS.fro ho) h
    · have : isS x 45 = true := by
        rcases hc' with q | q
        · exact q
        · have := (isS_k q).2
          rw [c] at this
          exact absurd this (by decide)
      rw [if_pos this] at h
      exact rm_leaf (b' := b') (by omega) hS (Nat.le_refl _) (by omega) (by omega) h1 hp hk (by decide) (hS.fro ho) h
  refine rm_isS (by omega) hS ⟨fun r1 => lf (by rw [b2_n0.mp r1]; rfl), fun r1 => rm_isS (by omega) hS ⟨fun r2 => ?_, fun r2 => lf (by rw [b2_n0.mp r2]; simp)⟩⟩
  rw [if_neg (by rw [b2_0.mp r1, b2_0.mp r2]; decide)] at h
  refine rm_isS (by omega) hS ⟨fun r3 => ?_, fun r3 => ?_⟩
  · rw [if_neg (by rw [b2_0.mp r3]; decide)] at h
    exact rm_contact (b' := b') (by omega) hS ho (by omega) hb' h1 hp h
  · have r3 := b2_n0.mp r3
    rw [if_pos r3] at h
    dsimp only at h
    have hpay : s.1 + 4 ≤ a := by
      cases x with
      | ok q => exact hS.pay ((isK_0 (isS_k r3).1 (by decide)).2 q rfl)
      | error e => exact absurd ho (show ¬ false = true by decide)
    rw [hS.fro ho]
    refine rm_next (a' := a - 4) (by omega) hS (Nat.le_refl _) (fun q e => ⟨by omega, fun k0 => absurd k0 ((isK_0 (isS_k r3).1 (by decide)).2 q e)⟩) (fun σ1 hS1 => ?_)
    have hmy : MO n x (nxR tx n x) := MO.nx
    generalize nxR tx n x = y at h hS1 hmy
    have go : ∀ how : Int32, how = (if isS y 47 = true then (1 : Int32) else if isS y 43 = true then 2 else if isS y 45 = true then 3 else 0) → (¬ how ≤ 0 → isK y 5 = true) → Bk w d 0 0 m_M_readCell 0 0 (qv Q) 118 [oR 81, oI x1, oI (frI x), none, none, none] [vI how] σ1 := by
      intro how hh hk
      rw [← hh] at h
      have rest : ∀ (z : RS) (τ : Sg), MO n y z → (if 0 < how then nxR tx n y else y) = z → StM tx n σ0 τ z s [] (a - 4) a → OkI w (d - 1) m_M_add [vR 81, vI (x1), vI (28), vI (frI x), vI (how)] τ (fun r1 s1 => OkI w (d - 1) m_M_add [vR 81, vI (r1), vI (6), vI (s1.1 81 7), vI (s1.1 81 9)] s1 (fun r2 s2 => ((¬ (s2.1 81 6) = 1 → OkV w (d - 1) m_M_want [vR 81, vI (0)] s2 (fun s3 => OkV w (d - 1) m_M_wantSign [vR 81, vI (41)] s3 (fun s4 => Q s4))) ∧ ((s2.1 81 6) = 1 → OkV w (d - 1) m_M_want [vR 81, vI (1)] s2 (fun s5 => OkV w (d - 1) m_M_wantSign [vR 81, vI (41)] s5 (fun s6 => Q s6)))))) := by
        intro z τ hyz ez hT
        rw [ez] at h
        refine rm_add (by omega) hT (by omega) (by omega) h1 hp (fun τ1 hT1 => ?_)
        have hm2 := add_liv (k := 28) (q := frI x) (v := how) hp.1 (by omega : s.1 < 2 ^ 30)
        generalize es : putN (addN s 28 (frI x) how) p s.1 = s2 at hT1 hm2
        refine rm_add (by omega) hT1 (by omega) (by omega) rfl hm2 (fun τ2 hT2 => ?_)
        refine rm_wantK (K := fun s3 => OkV w (d - 1) m_M_wantSign [vR 81, vI (41)] s3 (fun s4 => Q s4)) (a' := a - 2) (by omega) (by decide) hT2 (by omega) (by omega) (fun τ3 hT3 => ?_)
        refine rm_sign (a' := a - 2) (by omega) hT3 (by omega) (by omega) (fun τ4 hT4 => h τ4 ⟨_, hT4.weak (by omega) (by omega), ?_⟩)
        have f6 : Fst s2 s.1 (isO (wtR tx n (isS (wtR tx n (isK z 1) z) 41) (wtR tx n (isK z 1) z))) (tN (6, frI z, vaI z) .leaf .leaf) (putN (addN s2 6 (τ1.1 81 7) (τ1.1 81 9)) s.1 s2.1) := by
          obtain ⟨o1, o2⟩ := FoN.one (s := s2) (p := s.1) (k := 6) (v := τ1.1 81 9) (q := τ1.1 81 7) hm2.1 rfl
          refine ⟨_, o1, fun o => ?_⟩
          have hk := wt_b (MO.o MO.wt o)
          rw [hT1.fro (isK_o hk), hT1.val hk (by decide)] at o2 ⊢
          exact o2
        subst es
        exact Fst.node hp.1 f6 (fun _ => rfl)
      refine v_M_readCell_118 _ _ _ _ ⟨fun c => rest y σ1 MO.rfl' (if_neg (Int32.not_lt.mpr c)) hS1, fun c => ?_⟩
      exact rm_next (a' := a - 4) (by omega) hS1 (by omega) (fun q e => ⟨by omega, fun k0 => absurd k0 ((isK_0 (hk c) (by decide)).2 q e)⟩) (fun σ2 hS2 => rest _ σ2 MO.nx (if_pos (Int32.not_le.mp c)) hS2)
    refine rm_isS (by omega) hS1 ⟨fun r1 => rm_isS (by omega) hS1 ⟨fun r2 => rm_isS (by omega) hS1 ⟨fun r3 => ?_, fun r3 => ?_⟩, fun r2 => ?_⟩, fun r1 => ?_⟩
    · exact go 0 (by rw [if_neg (by rw [b2_0.mp r1]; decide), if_neg (by rw [b2_0.mp r2]; decide), if_neg (by rw [b2_0.mp r3]; decide)]) (fun c => absurd (by decide) c)
    · exact go 3 (by rw [if_neg (by rw [b2_0.mp r1]; decide), if_neg (by rw [b2_0.mp r2]; decide), if_pos (b2_n0.mp r3)]) (fun _ => (isS_k (b2_n0.mp r3)).1)
    · exact go 2 (by rw [if_neg (by rw [b2_0.mp r1]; decide), if_pos (b2_n0.mp r2)]) (fun _ => (isS_k (b2_n0.mp r2)).1)
    · exact go 1 (by rw [if_pos (b2_n0.mp r1)]) (fun _ => (isS_k (b2_n0.mp r1)).1)
end
