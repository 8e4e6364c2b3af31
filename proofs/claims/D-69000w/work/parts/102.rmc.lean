/-! 102: the reference reads types, constants, declarations -/
theorem i_1113 {v : Int32} (h1 : ¬ v < 11) (h2 : ¬ 14 ≤ v) : v = 11 ∨ v = 12 ∨ v = 13 := by
  obtain ⟨j, hj, e⟩ := nI_of (x := v) (fun q => h1 (Int32.lt_trans q (by decide)))
  subst e
  have h1 : ¬ nI j < nI 11 := h1
  have h2 : ¬ nI 14 ≤ nI j := h2
  rw [nI_ltI hj (by decide)] at h1
  rw [nI_leI (by decide) hj] at h2
  rcases (by omega : j = 11 ∨ j = 12 ∨ j = 13) with q | q | q <;> subst q
  · exact Or.inl rfl
  · exact Or.inr (Or.inl rfl)
  · exact Or.inr (Or.inr rfl)
section
variable {w : Wd} {d n : Nat} {tx : Nat → Int32} {σ0 σ : Sg} {x : RS} {s : NS} {op : List Kp} {a b b' p : Nat} {x1 : Int32} {Q : Sg → Prop}
/-- a node without children, of the token at hand, which is gone over -/
theorem rm_leaf {k v kk pl : Int32} (hd : 10 ≤ d) (hS : StM tx n σ0 σ x s op a b) (hab : a ≤ b) (hb : b + 1 ≤ b') (hb' : b' ≤ 33400) (h1 : x1 = nI p) (hp : Liv s p) (hk : isK x kk = true) (hk0 : kk ≠ 0) (hpl : pl = frI x) (h : ∀ σ', PoM tx n σ0 s op p (nxR tx n x, tN (k, frI x, v) .leaf .leaf) a b' σ' → Q σ') :
    OkI w d m_M_add [vR 81, vI x1, vI k, vI pl, vI v] σ (fun _ s2 => OkV w d m_M_next [vR 81] s2 (fun s3 => Q s3)) := by
  subst hpl
  refine rm_add (by omega) hS hab (by omega) h1 hp (fun σ1 hS1 => ?_)
  have o := FoN.one (k := k) (v := v) (q := frI x) hp.1 rfl
  exact rm_next (a' := a) (by omega) hS1 (by omega) (fun q' e => ⟨by omega, fun k0 => absurd k0 ((isK_0 hk hk0).2 q' e)⟩) (fun σ2 hS2 => h σ2 ⟨_, hS2.weak (Nat.le_refl _) (by omega), _, o.1, fun _ => o.2⟩)
/-- a node is added in a state of a fault -/
theorem rm_adde {e : Int32 × Nat} {K : Int32 → Sg → Prop} {k pl v : Int32} (hd : 2 ≤ d) (hS : StM tx n σ0 σ (.error e) s op a b) (hab : a ≤ b) (hb : b + 1 ≤ b') (hb' : b' ≤ 33400) (h1 : x1 = nI p) (hp : Liv s p) (h : ∀ σ' s', StM tx n σ0 σ' (.error e) s' op a b' → Fst s p false .leaf s' → K (nI s.1) σ') : OkI w d m_M_add [vR 81, vI x1, vI k, vI pl, vI v] σ K :=
  rm_add (by omega) hS hab (by omega) h1 hp (fun σ1 hS1 => h σ1 _ ((hS1.erra rfl).weak (Nat.le_refl _) hb) ((Fst.node (o := false) (t := .leaf) (q' := 0) hp.1 Fst.nil (fun o => absurd o (by decide))).any rfl))
theorem rm_simple (hd : 13 ≤ d) (hS : StM tx n σ0 σ x s op a b) (hab : a ≤ b) (hb : b + 1 ≤ b') (hb' : b' ≤ 33400) (h1 : x1 = nI p) (hp : Liv s p) (h : ∀ σ', PoM tx n σ0 s op p (simP tx n x) a b' σ' → Q σ') : OkV w d m_M_simple [vR 81, vI x1] σ Q := by
  unfold simP at h
  cases x with
  | error e =>
    have h : ∀ σ', PoM tx n σ0 s op p (.error e, .leaf) a b' σ' → Q σ' := h
    have wn : ∀ (y : Int32) (τ : Sg) (s' : NS) (b2 : Nat), StM tx n σ0 τ (.error e) s' op a b2 → a ≤ b2 → b2 ≤ b' → Fst s p false .leaf s' → OkV w (d - 1) m_M_want [vR 81, vI y] τ (fun s1 => Q s1) := fun y τ s' b2 hT h3 h4 hf => rm_want (c := false) (a' := a) (by omega) hT h3 (by omega) (fun o => absurd o (show ¬ false = true by decide)) (fun c => absurd c (by decide)) (fun τ' hT' => h τ' ⟨s', hT'.weak (Nat.le_refl _) h4, hf⟩)
    have b30 : Bk w d 0 0 m_M_simple 0 0 (qv Q) 30 [oR 81, oI x1, none, none] [] σ := v_M_simple_30 _ _ ⟨fun _ => wn 0 σ s b hS hab (by omega) Fst.nil, fun c => absurd rfl c⟩
    exact v_M_simple _ _ (by omega) ⟨fun _ => b30, fun _ => ⟨fun _ => b30, fun _ => ⟨fun _ => b30, fun _ => ⟨fun c => absurd c (by decide), fun _ => rm_adde (by omega) hS hab hb hb' h1 hp (fun τ s' hT hf => wn 1 τ s' b' hT (by omega) (Nat.le_refl _) hf)⟩⟩⟩⟩
  | ok q =>
    have ho : isO (.ok q) = true := rfl
    have b30 : (isW (.ok q) 11 || isW (.ok q) 12 || isW (.ok q) 13) = false → Bk w d 0 0 m_M_simple 0 0 (qv Q) 30 [oR 81, oI x1, none, none] [] σ := by
      intro c
      rw [if_neg (by rw [c]; decide)] at h
      exact v_M_simple_30 _ _ ⟨fun _ => rm_want (c := false) (a' := a) (by omega) hS hab (by omega) (fun _ => rfl) (fun c => absurd c (by decide)) (fun σ' hσ' => h σ' (PoM.nil (hσ'.weak (Nat.le_refl _) (by omega)))), fun c => absurd rfl c⟩
    refine v_M_simple _ _ (by omega) ?_
    rw [hS.knd ho]
    refine ⟨fun c => b30 ?_, fun c => ?_⟩
    · have c : decide (sK q = 2) = false := by rw [Bool.eq_false_iff]; exact c
      unfold isW; dsimp only
      rw [c]; rfl
    · rw [hS.val c (by decide)]
      have eW : ∀ k, isW (.ok q) k = decide (sV q = k) := fun k => by
        have c : decide (sK q = 2) = true := c
        unfold isW; dsimp only
        rw [c, Bool.true_and]
      have ev : vaI (.ok q) = sV q := rfl
      refine ⟨fun c2 => b30 ?_, fun c2 => ⟨fun c3 => b30 ?_, fun c3 => ⟨fun c => absurd c (by decide), fun _ => ?_⟩⟩⟩
      · rw [eW, eW, eW]
        rw [ev] at c2
        rw [decide_eq_false (fun q => by rw [q] at c2; exact absurd c2 (by decide)), decide_eq_false (fun q => by rw [q] at c2; exact absurd c2 (by decide)), decide_eq_false (fun q => by rw [q] at c2; exact absurd c2 (by decide))]; rfl
      · rw [eW, eW, eW]
        rw [ev] at c3
        rw [decide_eq_false (fun q => by rw [q] at c3; exact absurd c3 (by decide)), decide_eq_false (fun q => by rw [q] at c3; exact absurd c3 (by decide)), decide_eq_false (fun q => by rw [q] at c3; exact absurd c3 (by decide))]; rfl
      · have hc : (isW (.ok q) 11 || isW (.ok q) 12 || isW (.ok q) 13) = true := by
          rw [eW, eW, eW]
          rcases i_1113 c2 c3 with r | r | r
          · rw [decide_eq_true (show sV q = 11 from r)]; rfl
          · rw [decide_eq_true (show sV q = 12 from r)]; simp
          · rw [decide_eq_true (show sV q = 13 from r)]; simp
        rw [if_pos hc] at h
        rw [hS.fro ho]
        refine rm_add (by omega) hS hab (by omega) h1 hp (fun σ1 hS1 => ?_)
        have o := FoN.one (k := 8) (v := vaI (.ok q) - 11) (q := frI (.ok q)) hp.1 rfl
        refine rm_want (c := true) (a' := a) (by omega) hS1 (by omega) (by omega) (fun _ => rfl) (fun _ => (isK_0 c (by decide)).1) (fun σ2 hS2 => h σ2 ⟨_, hS2.weak (Nat.le_refl _) (by omega), _, o.1, fun _ => o.2⟩)
theorem rm_constant (hd : 13 ≤ d) (hS : StM tx n σ0 σ x s op a b) (hab : a ≤ b) (hb : b + 1 ≤ b') (hb' : b' ≤ 33400) (h1 : x1 = nI p) (hp : Liv s p) (h : ∀ σ', PoM tx n σ0 s op p (conP tx n x) a b' σ' → Q σ') : OkV w d m_M_constant [vR 81, vI x1] σ Q := by
  unfold conP at h
  have hmx := hS.many hab
  -- behind the sign
  have b70 : ∀ (y : RS) (m : Bool) (τ : Sg) (pl x3 : Int32) (a1 : Nat), StM tx n σ0 τ y s op a1 b → a1 ≤ a → (isO y = true → pl = frI x ∧ (x3 = 0 ↔ m = false)) → (∀ σ', PoM tx n σ0 s op p (cnuP tx n y (frI x) m) a b' σ' → Q σ') → Bk w d 0 0 m_M_constant 0 0 (qv Q) 70 [oR 81, oI x1, oI pl, oI x3, none, none] [] τ := by
    intro y m τ pl x3 a1 hT ha1 hpl hh
    have hmT := hT.many (by omega)
    unfold cnuP at hh
    have fin : ∀ (z : RS) (τ2 : Sg) (v : Int32) (a2 : Nat), StM tx n σ0 τ2 z s op a2 b → (∀ q, z = .ok q → a2 + 1 ≤ a) → a2 ≤ b → (∀ σ', PoM tx n σ0 s op p (z, tN (30, frI x, v) .leaf .leaf) a b' σ' → Q σ') → (isO z = true → pl = frI x) → OkI w (d - 1) m_M_add [vR 81, vI x1, vI 30, vI pl, vI v] τ2 (fun r2 s2 => Q s2) := by
      intro z τ2 v a2 hT2 ha2 ha3 hh2 hz
      refine rm_add (by omega) hT2 ha3 (by omega) h1 hp (fun τ3 hT3 => hh2 τ3 ⟨_, ?_, Fst.node hp.1 Fst.nil hz⟩)
      cases z with
      | ok q => exact hT3.weak (by have := ha2 q rfl; omega) (by omega)
      | error e => exact (hT3.erra rfl).weak (Nat.le_refl _) (by omega)
    have go : ∀ (r : Int32), (isO y = true → r = b2 (isK y 3)) → (isO y = true → isK y 3 = true → τ.1 81 9 = vaI y) → OkV w (d - 1) m_M_want [vR 81, vI r] τ (fun s1 => ((x3 = 0 → OkI w (d - 1) m_M_add [vR 81, vI x1, vI 30, vI pl, vI (τ.1 81 9)] s1 (fun r2 s2 => Q s2)) ∧ (¬ x3 = 0 → OkI w (d - 1) m_M_add [vR 81, vI x1, vI 30, vI pl, vI (-(τ.1 81 9))] s1 (fun r3 s3 => Q s3)))) := by
      intro r hr hv
      refine rm_want (c := isK y 3) (a' := a1 - 4) (by omega) hT (by omega) (by omega) hr (fun c => (isK_0 c (by decide)).1) (fun τ2 hT2 => ?_)
      by_cases hk : isK y 3 = true
      · have oy := isK_o hk
        rw [if_pos hk] at hh
        have ew : wtR tx n (isK y 3) y = nxR tx n y := by rw [hk]; rfl
        rw [ew] at hT2
        have hpay : 4 ≤ a1 := by
          cases y with
          | ok q => have := hT.pay ((isK_0 hk (by decide)).2 q rfl); omega
          | error e => exact absurd oy (show ¬ false = true by decide)
        rw [hv oy hk]
        refine ⟨fun c => fin _ τ2 _ (a1 - 4) hT2 (fun _ _ => by omega) (by omega) ?_ (fun o => (hpl oy).1), fun c => fin _ τ2 _ (a1 - 4) hT2 (fun _ _ => by omega) (by omega) ?_ (fun o => (hpl oy).1)⟩
        · rw [(hpl oy).2.mp c] at hh; exact hh
        · have : m = true := by cases m with | true => rfl | false => exact absurd ((hpl oy).2.mpr rfl) c
          rw [this] at hh; exact hh
      · rw [if_neg hk] at hh
        have hkf : isK y 3 = false := by rw [Bool.eq_false_iff]; exact hk
        have ew : wtR tx n (isK y 3) y = flR 6 y := by rw [hkf]; rfl
        rw [ew] at hT2
        have all : ∀ v, OkI w (d - 1) m_M_add [vR 81, vI x1, vI 30, vI pl, vI v] τ2 (fun r2 s2 => Q s2) := by
          intro v
          refine rm_add (by omega) (hT2.erra (a' := a1) fl_no) (by omega) (by omega) h1 hp (fun τ3 hT3 => hh τ3 ⟨_, (hT3.erra fl_no).weak (Nat.le_refl _) (by omega), ?_⟩)
          exact (Fst.node (o := false) (t := .leaf) (q' := 0) hp.1 Fst.nil (fun o => absurd o (by decide))).any fl_no
        exact ⟨fun _ => all _, fun _ => all _⟩
    refine v_M_constant_70 _ _ _ _ ⟨fun c => go 0 (fun o => ?_) (fun o k => absurd ((hT.knd o).mpr k) c), fun c => go 1 (fun o => ?_) (fun o k => hT.val k (by decide))⟩
    · have : isK y 3 = false := by
        rw [Bool.eq_false_iff]
        exact fun q => c ((hT.knd o).mpr q)
      rw [this]; rfl
    · rw [(hT.knd o).mp c]; rfl
  have b55 : (isW x 35 || isW x 36) = false → ∀ pl, (isO x = true → pl = frI x) → Bk w d 0 0 m_M_constant 0 0 (qv Q) 55 [oR 81, oI x1, oI pl, none, none, none] [] σ := by
    intro c pl hpl
    rw [if_neg (by rw [c]; decide)] at h
    refine v_M_constant_55 _ _ _ (rm_isS (by omega) hS ⟨fun r => ?_, fun r => ?_⟩)
    · have r' := b2_0.mp r
      rw [if_neg (by rw [r']; decide), r'] at h
      rw [r']
      exact b70 x false σ pl _ a hS (Nat.le_refl _) (fun o => ⟨hpl o, ⟨fun _ => rfl, fun _ => rfl⟩⟩) h
    · have r' := b2_n0.mp r
      rw [if_pos r', r'] at h
      rw [r']
      refine rm_next (a' := a) (by omega) hS hab (fun q e => ⟨by omega, fun k0 => Nat.le_refl _⟩) (fun τ hT => b70 _ true τ pl _ a hT (Nat.le_refl _) (fun o => ⟨hpl (MO.o MO.nx o), ⟨fun q => absurd q (by decide), fun q => absurd q (by decide)⟩⟩) h)
  cases x with
  | error e =>
    have h' : ∀ σ', PoM tx n σ0 s op p (.error e, .leaf) a b' σ' → Q σ' := h
    have tr : ∀ v, OkI w (d - 1) m_M_add [vR 81, vI x1, vI 31, vI (σ.1 81 7), vI v] σ (fun r1 s1 => OkV w (d - 1) m_M_next [vR 81] s1 (fun s2 => Q s2)) := fun v => rm_adde (by omega) hS hab hb hb' h1 hp (fun τ s' hT hf => rm_next (a' := a) (by omega) hT (by omega) (fun q hq => by cases hq) (fun τ2 hT2 => h' τ2 ⟨s', hT2, hf⟩))
    exact v_M_constant _ _ (by omega) ⟨fun _ => b55 rfl _ (fun o => absurd o (show ¬ false = true by decide)), fun _ => ⟨fun _ => tr _, fun _ => ⟨fun _ => b55 rfl _ (fun o => absurd o (show ¬ false = true by decide)), fun _ => tr _⟩⟩⟩
  | ok q =>
    have ho : isO (.ok q) = true := rfl
    refine v_M_constant _ _ (by omega) ?_
    rw [hS.knd ho, hS.fro ho]
    refine ⟨fun c => b55 ?_ _ (fun _ => rfl), fun c => ?_⟩
    · have c : decide (sK q = 2) = false := by rw [Bool.eq_false_iff]; exact c
      unfold isW; dsimp only
      rw [c]; rfl
    · rw [hS.val c (by decide)]
      have eW : ∀ k, isW (.ok q) k = decide (sV q = k) := fun k => by
        have c : decide (sK q = 2) = true := c
        unfold isW; dsimp only
        rw [c, Bool.true_and]
      have tr : (isW (.ok q) 35 || isW (.ok q) 36) = true → OkI w (d - 1) m_M_add [vR 81, vI x1, vI 31, vI (frI (.ok q)), vI (36 - vaI (.ok q))] σ (fun r1 s1 => OkV w (d - 1) m_M_next [vR 81] s1 (fun s2 => Q s2)) := by
        intro r
        rw [if_pos r] at h
        exact rm_leaf (by omega) hS hab hb hb' h1 hp c (by decide) rfl h
      refine ⟨fun c2 => tr (by rw [eW, decide_eq_true (show sV q = 35 from c2)]; rfl), fun c2 => ⟨fun c3 => b55 ?_ _ (fun _ => rfl), fun c3 => tr (by rw [eW, eW, decide_eq_true (show sV q = 36 from c3)]; simp)⟩⟩
      rw [eW, eW, decide_eq_false (show ¬ sV q = 35 from c2), decide_eq_false (show ¬ sV q = 36 from c3)]; rfl
end
