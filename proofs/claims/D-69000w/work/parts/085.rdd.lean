/-! 085: the component reads types, constants, declarations, sections -/
section
variable {w : Wd} {d n : Nat} {tx : Nat → Int32} {σ0 σ : Sg} {x : RS} {s : NS} {sg : List (Int32 × Int32)} {op : List Nat} {a b b' p : Nat} {x1 : Int32} {Q : Sg → Prop}
/-- nothing comes below p -/
theorem PoC.nil {y : RS} {a' : Nat} (hS : StC tx n σ0 σ y s sg op a' b) : PoC tx n σ0 s sg op p (y, .leaf) a' b σ := ⟨s, hS, Fst.nil⟩
/-- a node without children, of the token at hand, which is gone over -/
theorem rc_leaf {k v kk : Int32} (hd : 8 ≤ d) (hS : StC tx n σ0 σ x s sg op a b) (hab : a ≤ b) (hb : b + 1 ≤ b') (hb' : b' ≤ 33400) (h1 : x1 = nI p) (hp : Liv s p) (hk : isK x kk = true) (hk0 : kk ≠ 0) (h : ∀ σ', PoC tx n σ0 s sg op p (nxR tx n x, tN (k, frI x, v) .leaf .leaf) a b' σ' → Q σ') :
    OkI w d m_Reader_add [vR 17, vI x1, vI k, vI v] σ (fun _ s2 => OkV w d m_Reader_next [vR 17] s2 (fun s3 => Q s3)) := by
  refine rc_add (by omega) hS hab (by omega) h1 hp (fun σ1 q hq _ hS1 => ?_)
  have e := hq (isK_o hk)
  subst e
  have o := FoN.one (k := k) (v := v) (q := frI x) hp.1 rfl
  exact rc_next (a' := a) (by omega) hS1 (by omega) (fun q' e => ⟨by omega, fun k0 => absurd k0 ((isK_0 hk hk0).2 q' e)⟩) (fun σ2 hS2 => h σ2 ⟨_, hS2.weak (Nat.le_refl _) (by omega), _, o.1, fun _ => o.2⟩)
theorem rc_simple (hd : 10 ≤ d) (hS : StC tx n σ0 σ x s sg op a b) (hab : a ≤ b) (hb : b + 1 ≤ b') (hb' : b' ≤ 33400) (h1 : x1 = nI p) (hp : Liv s p) (h : ∀ σ', PoC tx n σ0 s sg op p (simP tx n x) a b' σ' → Q σ') : OkV w d m_Reader_simple [vR 17, vI x1] σ Q := by
  unfold simP at h
  have hit : (isW x 11 || isW x 12 || isW x 13) = true → OkI w (d - 1) m_Reader_add [vR 17, vI x1, vI 8, vI (σ.1 5 7 - 11)] σ (fun _ s2 => OkV w (d - 1) m_Reader_next [vR 17] s2 (fun s3 => Q s3)) := by
    intro hc
    rw [if_pos hc] at h
    have hk : isK x 2 = true := by
      simp only [Bool.or_eq_true] at hc
      rcases hc with (hc | hc) | hc <;> exact (isW_k hc).1
    rw [hS.val hk (by decide)]
    exact rc_leaf (by omega) hS hab hb hb' h1 hp hk (by decide) h
  refine v_Reader_simple _ _ (by omega) (rc_isW (by omega) hS ⟨fun r => hit (by rw [b2_n0.mp r]; rfl), fun r => rc_isW (by omega) hS ⟨fun r2 => hit (by rw [b2_n0.mp r2]; simp), fun r2 => rc_isW (by omega) hS ⟨fun r3 => ?_, fun r3 => hit (by rw [b2_n0.mp r3]; simp)⟩⟩⟩)
  rw [if_neg (by rw [b2_0.mp r, b2_0.mp r2, b2_0.mp r3]; decide)] at h
  exact rc_fail (by omega) hS hab (by decide) (fun σ' hσ' => h σ' (PoC.nil (hσ'.weak (Nat.le_refl _) (by omega))))
theorem rc_constant (hd : 10 ≤ d) (hS : StC tx n σ0 σ x s sg op a b) (hab : a ≤ b) (hb : b + 1 ≤ b') (hb' : b' ≤ 33400) (h1 : x1 = nI p) (hp : Liv s p) (h : ∀ σ', PoC tx n σ0 s sg op p (conP tx n x) a b' σ' → Q σ') : OkV w d m_Reader_constant [vR 17, vI x1] σ Q := by
  unfold conP at h
  have tr : isW x 35 = true → OkI w (d - 1) m_Reader_add [vR 17, vI x1, vI 31, vI 1] σ (fun _ s2 => OkV w (d - 1) m_Reader_next [vR 17] s2 (fun s3 => Q s3)) := by
    intro r
    rw [if_pos (by rw [r]; rfl), (isW_k r).2] at h
    exact rc_leaf (by omega) hS hab hb hb' h1 hp (isW_k r).1 (by decide) h
  have fa : isW x 36 = true → OkI w (d - 1) m_Reader_add [vR 17, vI x1, vI 31, vI 0] σ (fun _ s2 => OkV w (d - 1) m_Reader_next [vR 17] s2 (fun s3 => Q s3)) := by
    intro r
    rw [if_pos (by rw [r]; simp), (isW_k r).2] at h
    exact rc_leaf (by omega) hS hab hb hb' h1 hp (isW_k r).1 (by decide) h
  refine v_Reader_constant _ _ (by omega) (rc_isW (by omega) hS ⟨fun r => ?_, fun r => rc_isW (by omega) hS ⟨fun r2 => ?_, fun r2 => ?_⟩⟩)
  · have r := b2_n0.mp r
    rw [hS.val (isW_k r).1 (by decide), (isW_k r).2]
    exact ⟨fun q => absurd rfl q, fun _ => tr r⟩
  · rw [if_neg (by rw [b2_0.mp r, b2_0.mp r2]; decide)] at h
    rw [hS.flt]
    refine ⟨fun ho => ?_, fun ho => ?_⟩
    · have num : ∀ (y : RS) (m : Bool) (τ : Sg) (a1 : Nat), StC tx n σ0 τ y s sg op a1 b → a1 ≤ a → (∀ σ', PoC tx n σ0 s sg op p (cnuP tx n y (frI x) m) a b' σ' → Q σ') → ∀ r7 : Int32, (r7 = 0 ↔ m = false) → OkI w (d - 1) m_Reader_isKind [vR 17, vI 3] τ (fun r8 s8 => ((¬ r8 = 0 → ((r7 = 0 → OkI w (d - 1) m_Reader_add [vR 17, vI x1, vI 30, vI (s8.1 5 7)] s8 (fun r9 s9 => (vp_in r9 33500 ∧ OkV w (d - 1) m_Reader_next [vR 17] (wI s9 9 (Int32.toNatClampNeg r9) (σ.1 5 6)) (fun s10 => Q s10)))) ∧ (¬ r7 = 0 → OkI w (d - 1) m_Reader_add [vR 17, vI x1, vI 30, vI (-(s8.1 5 7))] s8 (fun r11 s11 => (vp_in r11 33500 ∧ OkV w (d - 1) m_Reader_next [vR 17] (wI s11 9 (Int32.toNatClampNeg r11) (σ.1 5 6)) (fun s12 => Q s12)))))) ∧ (r8 = 0 → OkV w (d - 1) m_Reader_fail [vR 17, vI 6] s8 (fun s13 => Q s13)))) := by
        intro y m τ a1 hT ha1 hh r7 hr7
        have hmx := hT.many (by omega)
        unfold cnuP at hh
        refine rc_isK (by omega) hT ⟨fun q => ?_, fun q => ?_⟩
        · have q := b2_n0.mp q
          rw [if_pos q] at hh
          rw [hT.val q (by decide), hS.fro ho]
          have fin : ∀ v, (if m = true then - vaI y else vaI y) = v → OkI w (d - 1) m_Reader_add [vR 17, vI x1, vI 30, vI v] τ (fun r9 s9 => (vp_in r9 33500 ∧ OkV w (d - 1) m_Reader_next [vR 17] (wI s9 9 (Int32.toNatClampNeg r9) (frI x)) (fun s10 => Q s10))) := by
            intro v hv
            rw [hv] at hh
            refine rc_add (by omega) hT (by omega) (by omega) h1 hp (fun σ1 q1 _ _ hS1 => ⟨vp_in_nI (by omega) (by omega), ?_⟩)
            rw [nI_clamp (by omega)]
            have e0 : Ext (putN (addN s 30 q1 v) p s.1) s.1 [] (putN (addN s 30 q1 v) p s.1) := Ext.rfl'
            have e1 := Ext.node (q := (30, frI x, v)) hp.1 e0
            have e2 := FoN.node (q := (30, frI x, v)) (t := .leaf) hp.1 e0 rfl
            exact rc_next (a' := a1) (by omega) (hS1.setP (add_liv hp.1 (by omega)) (Ext.key hp.1 e0)) (by omega) (fun q' e => ⟨by omega, fun k0 => absurd k0 ((isK_0 q (by decide)).2 q' e)⟩) (fun σ2 hS2 => hh σ2 ⟨_, hS2.weak (by omega) (by omega), _, e1, fun _ => e2⟩)
          refine ⟨fun q2 => fin _ ?_, fun q2 => fin _ ?_⟩
          · rw [hr7.mp q2]; rfl
          · have : m = true := by cases m with | true => rfl | false => exact absurd (hr7.mpr rfl) q2
            rw [this]; rfl
        · have q := b2_0.mp q
          rw [if_neg (by rw [q]; decide)] at hh
          exact rc_fail (by omega) hT (by omega) (by decide) (fun σ' hσ' => hh σ' (PoC.nil (hσ'.weak (by omega) (by omega))))
      refine rc_takes (by omega) hS hab (fun q => ?_) (fun q σ1 hS1 => ?_)
      · rw [q] at h
        exact num x false σ a hS (Nat.le_refl _) h 0 ⟨fun _ => rfl, fun _ => rfl⟩
      · rw [q] at h
        exact num (nxR tx n x) true σ1 (a - 4) hS1 (by omega) h 1 ⟨fun q => absurd q (by decide), fun q => absurd q (by decide)⟩
    · cases x with
      | ok q => exact absurd rfl ho
      | error e => exact h _ (PoC.nil (hS.weak (Nat.le_refl _) (by omega)))
  · have r2 := b2_n0.mp r2
    rw [hS.val (isW_k r2).1 (by decide), (isW_k r2).2]
    exact ⟨fun _ => fa r2, fun q => absurd q (by decide)⟩
/-- at the start of a node's children -/
theorem rc_type (hd : 11 ≤ d) (hS : StC tx n σ0 σ x s sg op a b) (hab : a ≤ b) (hb : b + 4 ≤ b') (hb' : b' ≤ 33400) (h1 : x1 = nI p) (hp : Liv s p) (h : ∀ σ', PoC tx n σ0 s sg op p (typP tx n x) a b' σ' → Q σ') : OkV w d m_Reader_type [vR 17, vI x1] σ Q := by
  have hmx := hS.many hab
  unfold typP at h
  refine v_Reader_type _ _ (by omega) (rc_isK (by omega) hS ⟨fun r => rc_isW (by omega) hS ⟨fun r2 => ?_, fun r2 => ?_⟩, fun r => ?_⟩)
  · rw [if_neg (by rw [b2_0.mp r]; decide), if_neg (by rw [b2_0.mp r2]; decide)] at h
    exact rc_simple (by omega) hS hab (by omega) hb' h1 hp h
  · have r2 := b2_n0.mp r2
    rw [if_neg (by rw [b2_0.mp r]; decide), if_pos r2] at h
    refine rc_add (by omega) hS hab (by omega) h1 hp (fun σ1 q hq _ hS1 => ?_)
    have hm1 := add_liv (k := 9) (q := q) (v := 0) hp.1 (by omega : s.1 < 2 ^ 30)
    have f0 : Fst (putN (addN s 9 q 0) p s.1) s.1 true .leaf (putN (addN s 9 q 0) p s.1) := Fst.nil
    refine rc_next (a' := a) (by omega) hS1 (by omega) (fun q' e => ⟨by omega, fun k0 => absurd k0 ((isK_0 (isW_k r2).1 (by decide)).2 q' e)⟩) (fun σ2 hS2 => ?_)
    refine rc_sign (a' := a) (by omega) hS2 (by omega) (by omega) (fun σ3 hS3 => ?_)
    refine rc_constant (b' := b + 2) (by omega) hS3 (by omega) (by omega) (by omega) rfl hm1 (fun σ4 ⟨s4, hS4, f4⟩ => ?_)
    refine rc_sign (a' := a) (by omega) hS4 (by omega) (by omega) (fun σ5 hS5 => ?_)
    refine rc_constant (b' := b + 3) (by omega) hS5 (by omega) (by omega) (by omega) rfl (f4.liv hm1 hm1.1) (fun σ6 ⟨s6, hS6, f6⟩ => ?_)
    refine rc_sign (a' := a) (by omega) hS6 (by omega) (by omega) (fun σ7 hS7 => ?_)
    refine rc_word (a' := a) (by omega) hS7 (by omega) (by omega) (fun σ8 hS8 => ?_)
    refine rc_simple (b' := b') (by omega) hS8 (by omega) (by omega) (by omega) rfl (f6.liv (f4.liv hm1 hm1.1) (f4.liv hm1 hm1.1).1) (fun σ9 ⟨s9, hS9, f9⟩ => h σ9 ?_)
    refine ⟨s9, hS9, Fst.node hp.1 (Fst.cat hm1.1 f4 (Fst.cat (f4.liv hm1 hm1.1).1 f6 f9 ?_) ?_) (fun _ => hq (isW_o r2))⟩
    · exact fun o => MO.o ((MO.wt.trans MO.wt).trans MO.sim) o
    · exact fun o => MO.o ((((MO.wt.trans MO.con).trans MO.wt).trans MO.wt).trans MO.sim) o
  · have r := b2_n0.mp r
    rw [if_pos r] at h
    rw [hS.val r (by decide)]
    exact rc_leaf (by omega) hS hab (by omega) hb' h1 hp r (by decide) h
theorem rc_declaration (hd : 12 ≤ d) (hS : StC tx n σ0 σ x s sg op a b) (hab : a ≤ b) (hb : b + 10 ≤ b') (hb' : b' ≤ 33400) (h1 : x1 = nI p) (hp : Liv s p) (h : ∀ σ', PoC tx n σ0 s sg op p (decP tx n x) a b' σ' → Q σ') : OkV w d m_Reader_declaration [vR 17, vI x1] σ Q := by
  have hmx := hS.many hab
  unfold decP at h
  refine v_Reader_declaration _ _ (by omega) (rc_isK (by omega) hS ⟨fun r => ?_, fun r => ?_⟩)
  rotate_left
  · rw [if_neg (by rw [b2_0.mp r]; decide)] at h
    exact rc_fail (by omega) hS hab (by decide) (fun σ' hσ' => h σ' (PoC.nil (hσ'.weak (Nat.le_refl _) (by omega))))
  have r := b2_n0.mp r
  rw [if_pos r] at h
  refine rc_add (by omega) hS hab (by omega) h1 hp (fun σ1 q0 hq0 _ hS1 => ?_)
  have hm1 := add_liv (k := 5) (q := q0) (v := 0) hp.1 (by omega : s.1 < 2 ^ 30)
  have hq0 := hq0 (isK_o r)
  subst hq0
  generalize es : putN (addN s 5 (frI x) 0) p s.1 = s0 at hS1 hm1
  have T1 : ∀ (τ : Sg) (y : RS) (s1 : NS) (t : Tr) (B a1 : Nat), StC tx n σ0 τ y s1 sg op a1 B → a1 ≤ a → a ≤ B → B + 5 ≤ b' → Fst s0 s.1 (isO y) t s1 →
      (∀ σ', PoC tx n σ0 s sg op p (wtR tx n (isS (iniP tx n (typP tx n (wtR tx n (isS y 58) y)).1).1 59) (iniP tx n (typP tx n (wtR tx n (isS y 58) y)).1).1, tN (5, frI x, 0) (tap t (tap (typP tx n (wtR tx n (isS y 58) y)).2 (iniP tx n (typP tx n (wtR tx n (isS y 58) y)).1).2)) .leaf) a b' σ' → Q σ') →
      OkV w (d - 1) m_Reader_sign [vR 17, vI 58] τ (fun s5 => OkV w (d - 1) m_Reader_type [vR 17, vI (nI s.1)] s5 (fun s6 => OkI w (d - 1) m_Reader_takes [vR 17, vI 256] s6 (fun r7 s7 => ((r7 = 0 → OkV w (d - 1) m_Reader_sign [vR 17, vI 59] s7 (fun s8 => Q s8)) ∧ (¬ r7 = 0 → OkV w (d - 1) m_Reader_constant [vR 17, vI (nI s.1)] s7 (fun s9 => OkV w (d - 1) m_Reader_sign [vR 17, vI 59] s9 (fun s10 => Q s10))))))) := by
    intro τ y s1 t B a1 hT ha1 haB hB hf hh
    have hm2 := hf.liv hm1 hm1.1
    refine rc_sign (a' := a) (by omega) hT (by omega) (by omega) (fun τ1 hT1 => ?_)
    refine rc_type (b' := B + 4) (by omega) hT1 haB (Nat.le_refl _) (by omega) rfl hm2 (fun τ2 ⟨s2, hT2, f2⟩ => ?_)
    have hm3 := f2.liv hm2 hm2.1
    unfold iniP at hh
    have fin : ∀ (z : RS) (u : Tr) (τ' : Sg) (s3 : NS) (B' : Nat), StC tx n σ0 τ' z s3 sg op a B' → a ≤ B' → B' ≤ b' → Fst s2 s.1 (isO z) u s3 → MO n (typP tx n (wtR tx n (isS y 58) y)).1 z → (∀ σ', PoC tx n σ0 s sg op p (wtR tx n (isS z 59) z, tN (5, frI x, 0) (tap t (tap (typP tx n (wtR tx n (isS y 58) y)).2 u)) .leaf) a b' σ' → Q σ') → OkV w (d - 1) m_Reader_sign [vR 17, vI 59] τ' (fun s8 => Q s8) := by
      intro z u τ' s3 B' hT3 hB1 hB2 f3 hmo hh
      refine rc_sign (a' := a) (by omega) hT3 hB1 (by omega) (fun τ4 hT4 => hh τ4 ⟨s3, hT4.weak (Nat.le_refl _) hB2, ?_⟩)
      subst es
      refine Fst.node hp.1 (Fst.weak (Fst.cat hm1.1 hf (Fst.cat hm2.1 f2 f3 (fun o => MO.o hmo o)) (fun o => MO.o ((MO.wt.trans MO.typ).trans hmo) o)) (fun o => MO.o MO.wt o)) (fun _ => rfl)
    refine rc_takes (by omega) hT2 (by omega) (fun r7 => ⟨fun _ => ?_, fun q => absurd rfl q⟩) (fun r7 τ3 hT3 => ⟨fun q => absurd q (by decide), fun _ => ?_⟩)
    · rw [if_neg (by rw [r7]; decide)] at hh
      exact fin _ .leaf τ2 s2 (B + 4) hT2 (by omega) (by omega) Fst.nil MO.rfl' hh
    · rw [if_pos r7] at hh
      refine rc_constant (b' := b') (by omega) (hT3.weak (a' := a) (by omega) (Nat.le_refl _)) (by omega) (by omega) hb' rfl hm3 (fun τ4 ⟨s4, hT4, f4⟩ => ?_)
      exact fin _ _ τ4 s4 b' hT4 (by omega) (Nat.le_refl _) f4 (MO.nx.trans MO.con) hh
  have T2 : ∀ (τ : Sg) (y : RS) (s1 : NS) (t : Tr), StC tx n σ0 τ y s1 sg op a (b + 2) → Fst s0 s.1 (isO y) t s1 →
      (∀ σ', PoC tx n σ0 s sg op p (wtR tx n (isS (iniP tx n (typP tx n (wtR tx n (isS (atP tx n y).1 58) (atP tx n y).1)).1).1 59) (iniP tx n (typP tx n (wtR tx n (isS (atP tx n y).1 58) (atP tx n y).1)).1).1, tN (5, frI x, 0) (tap t (tap (atP tx n y).2 (tap (typP tx n (wtR tx n (isS (atP tx n y).1 58) (atP tx n y).1)).2 (iniP tx n (typP tx n (wtR tx n (isS (atP tx n y).1 58) (atP tx n y).1)).1).2))) .leaf) a b' σ' → Q σ') →
      OkI w (d - 1) m_Reader_isWord [vR 17, vI 10] τ (fun r4 s4 => ((r4 = 0 → OkV w (d - 1) m_Reader_sign [vR 17, vI 58] s4 (fun s5 => OkV w (d - 1) m_Reader_type [vR 17, vI (nI s.1)] s5 (fun s6 => OkI w (d - 1) m_Reader_takes [vR 17, vI 256] s6 (fun r7 s7 => ((r7 = 0 → OkV w (d - 1) m_Reader_sign [vR 17, vI 59] s7 (fun s8 => Q s8)) ∧ (¬ r7 = 0 → OkV w (d - 1) m_Reader_constant [vR 17, vI (nI s.1)] s7 (fun s9 => OkV w (d - 1) m_Reader_sign [vR 17, vI 59] s9 (fun s10 => Q s10)))))))) ∧ (¬ r4 = 0 → OkV w (d - 1) m_Reader_next [vR 17] s4 (fun s11 => OkI w (d - 1) m_Reader_isKind [vR 17, vI 4] s11 (fun r12 s12 => ((r12 = 0 → OkV w (d - 1) m_Reader_fail [vR 17, vI 6] s12 (fun s13 => OkV w (d - 1) m_Reader_sign [vR 17, vI 58] s13 (fun s14 => OkV w (d - 1) m_Reader_type [vR 17, vI (nI s.1)] s14 (fun s15 => OkI w (d - 1) m_Reader_takes [vR 17, vI 256] s15 (fun r16 s16 => ((r16 = 0 → OkV w (d - 1) m_Reader_sign [vR 17, vI 59] s16 (fun s17 => Q s17)) ∧ (¬ r16 = 0 → OkV w (d - 1) m_Reader_constant [vR 17, vI (nI s.1)] s16 (fun s18 => OkV w (d - 1) m_Reader_sign [vR 17, vI 59] s18 (fun s19 => Q s19))))))))) ∧ (¬ r12 = 0 → OkI w (d - 1) m_Reader_add [vR 17, vI (nI s.1), vI 7, vI (s12.1 5 7)] s12 (fun r20 s20 => OkV w (d - 1) m_Reader_next [vR 17] s20 (fun s21 => OkV w (d - 1) m_Reader_sign [vR 17, vI 58] s21 (fun s22 => OkV w (d - 1) m_Reader_type [vR 17, vI (nI s.1)] s22 (fun s23 => OkI w (d - 1) m_Reader_takes [vR 17, vI 256] s23 (fun r24 s24 => ((r24 = 0 → OkV w (d - 1) m_Reader_sign [vR 17, vI 59] s24 (fun s25 => Q s25)) ∧ (¬ r24 = 0 → OkV w (d - 1) m_Reader_constant [vR 17, vI (nI s.1)] s24 (fun s26 => OkV w (d - 1) m_Reader_sign [vR 17, vI 59] s26 (fun s27 => Q s27)))))))))))))))) := by
    intro τ y s1 t hT hf hh
    have hm2 := hf.liv hm1 hm1.1
    unfold atP at hh
    refine rc_isW (by omega) hT ⟨fun q => ?_, fun q => ?_⟩
    · rw [if_neg (by rw [b2_0.mp q]; decide)] at hh
      refine T1 τ y s1 t (b + 2) a hT (Nat.le_refl _) (by omega) (by omega) hf (fun σ' hσ' => hh σ' ?_)
      exact hσ'
    · have q := b2_n0.mp q
      rw [if_pos q] at hh
      refine rc_next (a' := a) (by omega) hT (by omega) (fun q' e => ⟨by omega, fun k0 => absurd k0 ((isK_0 (isW_k q).1 (by decide)).2 q' e)⟩) (fun τ1 hT1 => rc_isK (by omega) hT1 ⟨fun q2 => ?_, fun q2 => ?_⟩)
      · rw [if_neg (by rw [b2_0.mp q2]; decide)] at hh
        refine rc_fail (by omega) hT1 (by omega) (by decide) (fun τ2 hT2 => ?_)
        refine T1 τ2 _ s1 t (b + 2) a hT2 (Nat.le_refl _) (by omega) (by omega) (hf.weak (fun o => by rw [fl_no] at o; exact absurd o (by decide))) (fun σ' hσ' => hh σ' hσ')
      · have q2 := b2_n0.mp q2
        rw [if_pos q2] at hh
        rw [hT1.val q2 (by decide)]
        refine rc_leaf (b' := b + 3) (by omega) hT1 (by omega) (by omega) (by omega) rfl hm2 q2 (by decide) (fun τ2 ⟨s2, hT2, f2⟩ => ?_)
        refine T1 τ2 _ s2 (tap t _) (b + 3) a hT2 (Nat.le_refl _) (by omega) (by omega) (Fst.cat hm1.1 hf f2 (fun o => MO.o (MO.nx.trans MO.nx) o)) (fun σ' hσ' => hh σ' ?_)
        rw [tap_assoc] at hσ'
        exact hσ'
  have loop : ∀ (f : Nat) (y : RS) (τ : Sg) (s1 : NS) (t : Tr), (∀ q, y = .ok q → n + 1 ≤ sF q + f) → StC tx n σ0 τ y s1 sg op (a + 1) (b + 1) → Fst s0 s.1 (isO y) t s1 →
      (∀ σ', PoC tx n σ0 s sg op p (wtR tx n (isS (iniP tx n (typP tx n (wtR tx n (isS (atP tx n (nmlP tx n f y).1).1 58) (atP tx n (nmlP tx n f y).1).1)).1).1 59) (iniP tx n (typP tx n (wtR tx n (isS (atP tx n (nmlP tx n f y).1).1 58) (atP tx n (nmlP tx n f y).1).1)).1).1, tN (5, frI x, 0) (tap t (tap (nmlP tx n f y).2 (tap (atP tx n (nmlP tx n f y).1).2 (tap (typP tx n (wtR tx n (isS (atP tx n (nmlP tx n f y).1).1 58) (atP tx n (nmlP tx n f y).1).1)).2 (iniP tx n (typP tx n (wtR tx n (isS (atP tx n (nmlP tx n f y).1).1 58) (atP tx n (nmlP tx n f y).1).1)).1).2)))) .leaf) a b' σ' → Q σ') →
      Bk w d 0 0 m_Reader_declaration 0 0 (qv Q) 23 [oR 17, none, oI (nI s.1), none] [] τ := by
    intro f
    induction f with
    | zero =>
      intro y τ s1 t hfu hT hf hh
      have hm2 := hf.liv hm1 hm1.1
      have hmy := hT.many (by omega)
      cases y with
      | ok q => have := hfu q rfl; have := hT.inv.1; omega
      | error e =>
        refine v_Reader_declaration_23 _ _ (rc_add (by omega) hT (by omega) (by omega) rfl hm2 (fun σ1 q hq _ hS1 => ?_))
        have e0 : Fst (putN (addN s1 6 q 0) s.1 s1.1) s1.1 true .leaf (putN (addN s1 6 q 0) s.1 s1.1) := Fst.nil
        refine rc_name (a' := a) (by omega) hS1 (by omega) (by omega) (fun σ2 v hv hS2 => ⟨vp_in_nI (by omega) (by omega), ?_⟩)
        rw [nI_clamp (by omega)]
        have hS3 := hS2.setV (v := v) (add_liv hm2.1 (by omega)) (e0.key hm2.1)
        refine rc_takes (by omega) hS3 (by omega) (fun r3 => ⟨fun q => absurd rfl q, fun _ => ?_⟩) (fun r3 => absurd r3 (show ¬ false = true by decide))
        exact T2 _ (.error e) _ (tap t .leaf) hS3 (Fst.cat hm1.1 hf ((Fst.nodeS (k' := 6) (q' := q) (v' := v) hm2.1 e0 (fun _ => rfl)).any rfl) (fun o => absurd o (show ¬ false = true by decide))) (fun σ' hσ' => hh σ' (by rw [tap_assoc] at hσ'; exact hσ'))
    | succ f ih =>
      intro y τ s1 t hfu hT hf hh
      have hm2 := hf.liv hm1 hm1.1
      have hmy := hT.many (by omega)
      refine v_Reader_declaration_23 _ _ (rc_add (by omega) hT (by omega) (by omega) rfl hm2 (fun σ1 q hq _ hS1 => ?_))
      have e0 : ∀ o, Fst (putN (addN s1 6 q 0) s.1 s1.1) s1.1 o .leaf (putN (addN s1 6 q 0) s.1 s1.1) := fun o => Fst.nil
      refine rc_name (a' := a) (by omega) hS1 (by omega) (by omega) (fun σ2 v hv hS2 => ⟨vp_in_nI (by omega) (by omega), ?_⟩)
      rw [nI_clamp (by omega)]
      have hS3 := hS2.setV (v := v) (add_liv hm2.1 (by omega)) ((e0 true).key hm2.1)
      have f3 : Fst s1 s.1 (isO (wtR tx n (isK y 1) y)) (tN (6, frI y, vaI y) .leaf .leaf) (setN (putN (addN s1 6 q 0) s.1 s1.1) s1.1 (6, q, v)) := Fst.nodeS hm2.1 (e0 _) (fun o => by
        have o1 := wt_b o
        rw [hv o1, hq (isK_o o1)])
      have f4 := Fst.cat hm1.1 hf f3 (fun o => MO.o MO.wt o)
      have eN : nmlP tx n (f + 1) y = if isS (wtR tx n (isK y 1) y) 44 = true then ((nmlP tx n f (nxR tx n (wtR tx n (isK y 1) y))).1, tap (tN (6, frI y, vaI y) .leaf .leaf) (nmlP tx n f (nxR tx n (wtR tx n (isK y 1) y))).2) else (wtR tx n (isK y 1) y, tN (6, frI y, vaI y) .leaf .leaf) := rfl
      rw [eN] at hh
      by_cases r3 : isS (wtR tx n (isK y 1) y) 44 = true
      · rw [if_pos r3] at hh
        refine rc_takes (b := b + 1) (by omega) (hS3.okb (isS_o r3)) (by omega) (fun q => by rw [r3] at q; exact absurd q (by decide)) (fun _ σ3 hS4 => ⟨fun _ => ?_, fun q => absurd q (by decide)⟩)
        refine ih _ σ3 _ _ ?_ (hS4.weak (by omega) (Nat.le_refl _)) (f4.weak (fun o => MO.o MO.nx o)) (fun σ' hσ' => hh σ' (by rw [tap_assoc] at hσ'; exact hσ'))
        refine nx_fuel (isK_0 (isS_k r3).1 (by decide)).1 (fun q e => ?_) (mo_fuel MO.wt (fun q e => ?_) hfu)
        · rw [e] at hS3; exact hS3.inv
        · rw [e] at hT; exact hT.inv
      · rw [if_neg r3] at hh
        refine rc_takes (b := b + 2) (by omega) hS3 (by omega) (fun _ => ⟨fun q => absurd rfl q, fun _ => ?_⟩) (fun q => absurd q r3)
        exact T2 _ _ _ _ hS3 f4 (fun σ' hσ' => hh σ' (by rw [tap_assoc] at hσ'; exact hσ'))
  exact loop (n + 1) x σ1 s0 .leaf (fun q _ => by omega) hS1 Fst.nil h
theorem rc_section {Q : Int32 → Sg → Prop} (hd : 13 ≤ d) (hS : StC tx n σ0 σ x s sg op a b) (hab : a ≤ b) (hb : b + 12 ≤ b') (hb' : b' ≤ 33400) (h1 : x1 = nI p) (hp : Liv s p) (hk : isK x 2 = true) (h : ∀ σ' v, (isO (secP tx n x).1 = true → v = (secP tx n x).2.2) → PoC tx n σ0 s sg op p ((secP tx n x).1, (secP tx n x).2.1) a b' σ' → Q v σ') : OkI w d m_Reader_section [vR 17, vI x1] σ Q := by
  have hmx := hS.many hab
  refine v_Reader_section _ _ (by omega) ?_
  rw [hS.val hk (by decide)]
  refine rc_add (by omega) hS hab (by omega) h1 hp (fun σ1 q0 hq0 _ hS1 => ?_)
  have hm1 := add_liv (k := 4) (q := q0) (v := vaI x - 6) hp.1 (by omega : s.1 < 2 ^ 30)
  have hq0 := hq0 (isK_o hk)
  subst hq0
  generalize es : putN (addN s 4 (frI x) (vaI x - 6)) p s.1 = s0 at hS1 hm1
  refine rc_next (a' := a) (by omega) hS1 (by omega) (fun q' e => ⟨by omega, fun k0 => absurd k0 ((isK_0 hk (by decide)).2 q' e)⟩) (fun σ2 hS2 => ?_)
  unfold secP at h
  have T : ∀ (τ : Sg) (y : RS) (s1 : NS) (t : Tr) (B : Nat), StC tx n σ0 τ y s1 sg op a B → a ≤ B → B ≤ b' → Fst s0 s.1 (isO y) t s1 →
      (∀ σ' v, (isO (wtR tx n (isW y 9) y) = true → v = frI y) → PoC tx n σ0 s sg op p (wtR tx n (isW y 9) y, tN (4, frI x, vaI x - 6) t .leaf) a b' σ' → Q v σ') → OkV w (d - 1) m_Reader_word [vR 17, vI 9] τ (fun s1 => Q (τ.1 5 6) s1) := by
    intro τ y s1 t B hT h3 h4 hf hh
    refine rc_word (a' := a) (by omega) hT h3 (by omega) (fun τ1 hT1 => hh τ1 _ (fun o => hT.fro (MO.o MO.wt o)) ⟨s1, hT1.weak (Nat.le_refl _) h4, ?_⟩)
    subst es
    exact Fst.node hp.1 (hf.weak (fun o => MO.o MO.wt o)) (fun _ => rfl)
  have loop : ∀ (f : Nat) (y : RS) (τ : Sg) (s1 : NS) (t : Tr) (B : Nat), (∀ q, y = .ok q → n + 1 ≤ sF q + f) → StC tx n σ0 τ y s1 sg op a B → a ≤ B → (isO y = true → B ≤ b + 1) → B ≤ b' → Fst s0 s.1 (isO y) t s1 →
      (∀ σ' v, (isO (wtR tx n (isW (dclP tx n f y).1 9) (dclP tx n f y).1) = true → v = frI (dclP tx n f y).1) → PoC tx n σ0 s sg op p (wtR tx n (isW (dclP tx n f y).1 9) (dclP tx n f y).1, tN (4, frI x, vaI x - 6) (tap t (dclP tx n f y).2) .leaf) a b' σ' → Q v σ') →
      Bk w d 0 0 m_Reader_section 0 0 (qi Q) 21 [oR 17, none, oI (nI s.1), none] [] τ := by
    intro f
    induction f with
    | zero =>
      intro y τ s1 t B hfu hT h3 h4 h5 hf hh
      have hh : ∀ σ' v, (isO (wtR tx n (isW y 9) y) = true → v = frI y) → PoC tx n σ0 s sg op p (wtR tx n (isW y 9) y, tN (4, frI x, vaI x - 6) (tap t .leaf) .leaf) a b' σ' → Q v σ' := hh
      cases y with
      | ok q => have := hfu q rfl; have := hT.inv.1; omega
      | error e =>
        refine v_Reader_section_21 _ _ ⟨fun _ => ?_, fun q => absurd (hT.flt.mp q) (show ¬ false = true by decide)⟩
        refine T τ _ s1 t B hT h3 h5 hf (fun σ' v hv hp => hh σ' v hv ?_)
        rw [tap_leaf]; exact hp
    | succ f ih =>
      intro y τ s1 t B hfu hT h3 h4 h5 hf hh
      have hm2 := hf.liv hm1 hm1.1
      have eN : dclP tx n (f + 1) y = if isK y 1 = true then ((dclP tx n f (decP tx n y).1).1, tap (decP tx n y).2 (dclP tx n f (decP tx n y).1).2) else (y, .leaf) := rfl
      rw [eN] at hh
      have stop : isK y 1 = false → OkV w (d - 1) m_Reader_word [vR 17, vI 9] τ (fun s1 => Q (τ.1 5 6) s1) := by
        intro q
        rw [if_neg (by rw [q]; decide)] at hh
        refine T τ _ s1 t B hT h3 h5 hf (fun σ' v hv hp => hh σ' v hv ?_)
        rw [tap_leaf]; exact hp
      refine v_Reader_section_21 _ _ ⟨fun q => ?_, fun q => rc_isW (by omega) hT ⟨fun q2 => ?_, fun q2 => ?_⟩⟩
      · refine stop ?_
        cases y with
        | ok r => exact absurd (hT.flt.mpr rfl) q
        | error e => rfl
      · refine stop ?_
        have := (isW_k (b2_n0.mp q2)).1
        cases y with
        | ok r => exact decide_eq_false (by rw [of_decide_eq_true this]; decide)
        | error e => rfl
      · have ho := hT.flt.mp q
        refine rc_declaration (b' := b') (b := b + 1) (by omega) (hT.okb ho) (by omega) (by omega) hb' rfl hm2 (fun τ1 ⟨s2, hT1, f1⟩ => ?_)
        by_cases q3 : isK y 1 = true
        · rw [if_pos q3] at hh
          refine ih _ τ1 s2 _ (if isO (decP tx n y).1 = true then b + 1 else b') ?_ ?_ (by split <;> omega) (fun o => by rw [if_pos o]; exact Nat.le_refl _) (by split <;> omega) (Fst.cat hm1.1 hf f1 (fun o => MO.o MO.dec o)) (fun σ' v hv hp => hh σ' v hv (by rw [tap_assoc] at hp; exact hp))
          · exact SL.dec.fuel MO.dec hT.invs hfu
          · split
            · rename_i o; exact hT1.okb o
            · exact hT1
        · have e1 : decP tx n y = (flR 6 y, .leaf) := by unfold decP; rw [if_neg q3]
          rw [if_neg q3] at hh
          rw [e1] at hT1 f1
          have e9 : isW y 9 = false := b2_0.mp q2
          have e2 : wtR tx n (isW (flR 6 y) 9) (flR 6 y) = wtR tx n (isW y 9) y := by
            rw [e9]
            cases y <;> rfl
          refine v_Reader_section_21 _ _ ⟨fun _ => ?_, fun q => ?_⟩
          · refine rc_word (a' := a) (by omega) hT1 (by omega) (by omega) (fun τ2 hT2 => ?_)
            rw [e2] at hT2
            refine hh τ2 _ (fun o => by rw [wt_b o] at e9; exact absurd e9 (by decide)) ⟨s2, hT2, ?_⟩
            have o0 : isO (wtR tx n (isW y 9) y) = false := by rw [e9]; exact fl_no
            have f5 := Fst.cat hm1.1 hf f1 (fun o => by rw [fl_no] at o; exact absurd o (by decide))
            subst es
            exact Fst.node hp.1 (f5.any o0) (fun _ => rfl)
          · have := hT1.flt.mp q
            rw [fl_no] at this
            exact absurd this (by decide)
  exact loop (n + 1) _ σ2 s0 .leaf (b + 1) (fun q _ => by omega) hS2 (by omega) (fun _ => Nat.le_refl _) (by omega) Fst.nil h
end
