/-! 096: the component numbers its nodes in their order -/
section
variable {wd : Wd} {d : Nat}
/-- where the walk goes on from a node whose subtree is done: to v -/
def CL (wd : Wd) (d : Nat) (σ : Sg) (k v : Int32) : Prop := ∀ (Q : Int32 → Sg → Prop) (τ : Sg), (∀ j, τ.1 11 j = σ.1 11 j ∧ τ.1 14 j = σ.1 14 j) → Q v τ → Bk wd d 0 0 m_Nodes_following 0 0 (qi Q) 19 [oR 7, none, oI k] [] τ
theorem CL.top {σ : Sg} : CL wd d σ (-1) (-1) := fun Q τ _ hq => v_Nodes_following_19 _ _ ⟨fun _ => ⟨fun c => absurd rfl c, fun _ => hq⟩, fun c => absurd rfl c⟩
theorem CL.side {σ : Sg} {c : Nat} {v : Int32} (hc : c < 33500) (h : σ.1 14 c = v) (hv : v ≠ -1) : CL wd d σ (nI c) v := by
  intro Q τ ht hq
  have hin : vp_in (nI c) 33500 := vp_in_nI hc (by omega)
  have hn : ¬ nI c = -1 := nI_nm1 (by omega)
  refine v_Nodes_following_19 _ _ ⟨fun q => absurd q hn, fun _ => ⟨hin, fun _ => ⟨fun _ => ⟨hin, ?_⟩, fun q => absurd q hn⟩, fun q => ?_⟩⟩
  · rw [nI_clamp (by omega), (ht c).2, h]; exact hq
  · rw [nI_clamp (by omega), (ht c).2, h] at q; exact absurd q hv
theorem CL.above {σ : Sg} {c : Nat} {v p : Int32} (hc : c < 33500) (h : σ.1 14 c = -1) (hp : σ.1 11 c = p) (hv : CL wd d σ p v) : CL wd d σ (nI c) v := by
  intro Q τ ht hq
  have hin : vp_in (nI c) 33500 := vp_in_nI hc (by omega)
  have hn : ¬ nI c = -1 := nI_nm1 (by omega)
  refine v_Nodes_following_19 _ _ ⟨fun q => absurd q hn, fun _ => ⟨hin, fun q => ?_, fun _ => ⟨hin, ?_⟩⟩⟩
  · rw [nI_clamp (by omega), (ht c).2, h] at q; exact absurd rfl q
  · rw [nI_clamp (by omega), (ht c).1, hp]; exact hv Q τ ht hq
/-- what settle has written: nodes from k on, in their order -/
def Wr (τ : Sg) (ν : Nat → Nat) (k m : Nat) : Prop := ∀ i, k ≤ i → i < m → τ.1 16 i = nI (ν i) ∧ τ.1 15 (ν i) = nI i
def seF (k _j : Nat) : Bool := Nat.beq k 15 || Nat.beq k 16
/-- the node behind a subtree: the first of those beside it, or what is behind the one above -/
def upT (ν : Nat → Nat) (r : Tr) (k : Nat) (up : Int32) : Int32 := match r with
  | .leaf => up
  | .inner _ _ _ _ _ => nI (ν k)
/-- settle goes over a forest -/
theorem st_walk {Q : Sg → Prop} {σ : Sg} {ν : Nat → Nat} {M : Nat} (hd : 2 ≤ d) (hM : M ≤ 33500) (hν : ∀ i, i < M → ν i < 33500) (hinj : ∀ i j, i < M → j < M → ν i = ν j → i = j) : ∀ (t : Tr) (k : Nat) (p up : Int32) (τ : Sg), k + sz t ≤ M → PoT σ 8 ν t k p → Fr seF σ τ → Wr τ ν 0 k → CL wd (d - 1) σ p up →
    (∀ τ', Fr seF σ τ' → Wr τ' ν 0 (k + sz t) → Bk wd d 0 0 m_Nodes_settle 0 0 (qv Q) 4 [oR 7, none, oI (nI (k + sz t)), oI up] [] τ') → t ≠ .leaf →
    Bk wd d 0 0 m_Nodes_settle 0 0 (qv Q) 4 [oR 7, none, oI (nI k), oI (nI (ν k))] [] τ := by
  intro t
  induction t with
  | leaf => intro k p up τ _ _ _ _ _ _ h; exact absurd rfl h
  | inner z q v l r ihl ihr =>
    intro k p up τ hk hP hF hW hC hQ _
    simp only [sz] at hk
    obtain ⟨q0, q1, q2, q3, q4, q6, ql, qr⟩ := hP
    have hc : ν k < 33500 := hν k (by omega)
    have hne : ¬ nI (ν k) = -1 := nI_nm1 (by omega)
    -- behind this node's subtree
    have up2 : CL wd (d - 1) σ (nI (ν k)) (upT ν r (k + 1 + sz l) up) := by
      cases r with
      | leaf => exact CL.above hc q6 q3 hC
      | inner z1 k1 v1 l1 r1 =>
        exact CL.side hc q6 (nI_nm1 (by have := hν (k + 1 + sz l) (by simp only [sz] at hk; omega); omega))
    have tail : ∀ τ', Fr seF σ τ' → Wr τ' ν 0 (k + 1 + sz l) → Bk wd d 0 0 m_Nodes_settle 0 0 (qv Q) 4 [oR 7, none, oI (nI (k + 1 + sz l)), oI (upT ν r (k + 1 + sz l) up)] [] τ' := by
      intro τ' hF' hW'
      cases r with
      | leaf =>
        show Bk wd d 0 0 m_Nodes_settle 0 0 (qv Q) 4 [oR 7, none, oI (nI (k + 1 + sz l)), oI up] [] τ'
        have e : k + sz (.inner z q v l .leaf) = k + 1 + sz l := by simp only [sz]; omega
        have := hQ τ' hF' (by rw [e]; exact hW')
        rw [e] at this
        exact this
      | inner z1 k1 v1 l1 r1 =>
        refine ihr (k + 1 + sz l) p up τ' (by omega) qr hF' hW' hC (fun τ'' f w => ?_) (by simp)
        have e : k + sz (.inner z q v l (.inner z1 k1 v1 l1 r1)) = k + 1 + sz l + sz (.inner z1 k1 v1 l1 r1) := by simp only [sz]; omega
        have := hQ τ'' f (by rw [e]; exact w)
        rw [e] at this
        exact this
    refine v_Nodes_settle_4 _ _ _ ⟨fun c => absurd c hne, fun _ => ⟨vp_in_nI (by omega) (by omega), vp_in_nI hc (by omega), ?_⟩⟩
    rw [nI_clamp (n := k) (by omega), nI_clamp (n := ν k) (by omega), nI_1]
    have hF1 : Fr seF σ (wI (wI τ 16 k (nI (ν k))) 15 (ν k) (nI k)) := (hF.wI rfl).wI rfl
    have hW1 : Wr (wI (wI τ 16 k (nI (ν k))) 15 (ν k) (nI k)) ν 0 (k + 1) := by
      intro i _ hi
      simp only [wI_1]
      by_cases e : i = k
      · subst e
        simp
      · have w := hW i (Nat.zero_le _) (by omega)
        have hn : ¬ ν i = ν k := fun r => e (hinj i k (by omega) (by omega) r)
        rw [if_neg (by omega), if_neg (by omega), if_neg (by omega), if_neg (by omega)]
        exact w
    generalize wI (wI τ 16 k (nI (ν k))) 15 (ν k) (nI k) = τ1 at hF1 hW1
    have hag : ∀ j, τ1.1 11 j = σ.1 11 j ∧ τ1.1 14 j = σ.1 14 j := fun j => ⟨hF1.1 11 j rfl, hF1.1 14 j rfl⟩
    have e12 : τ1.1 12 (ν k) = hdT ν l (k + 1) := by rw [hF1.1 12 _ rfl]; exact q4
    refine v_Nodes_following _ _ (by omega) ⟨vp_in_nI hc (by omega), ?_⟩
    rw [nI_clamp (by omega), e12]
    by_cases hl : l = .leaf
    · subst hl
      refine ⟨fun _ => up2 _ τ1 hag ?_, fun c => absurd rfl c⟩
      exact tail τ1 hF1 hW1
    · obtain ⟨z1, k1, v1, l1, r1, el⟩ : ∃ z1 k1 v1 l1 r1, l = .inner z1 k1 v1 l1 r1 := by
        cases l with
        | leaf => exact absurd rfl hl
        | inner z1 k1 v1 l1 r1 => exact ⟨z1, k1, v1, l1, r1, rfl⟩
      have eh : hdT ν l (k + 1) = nI (ν (k + 1)) := by rw [el]; rfl
      rw [eh]
      have hsl : 0 < sz l := by rw [el]; simp only [sz]; omega
      have hc1 : ν (k + 1) < 33500 := hν (k + 1) (by omega)
      refine ⟨fun c => absurd c (nI_nm1 (by omega)), fun _ => ⟨vp_in_nI hc (by omega), ?_⟩⟩
      exact ihl (k + 1) (nI (ν k)) _ τ1 (by omega) ql hF1 hW1 up2 tail hl
/-- a row is written anew in the nodes' order: the old entry at ν k, through g -/
theorem nc_move {Q : Sg → Prop} {σ : Sg} {R m : Nat} {ν : Nat → Nat} {b : Bool} (g : Int32 → Int32)
    (hv : ∀ (x2 : Int32) (σ : Sg), Bk wd d 0 0 m_Nodes_move 0 0 (qv Q) 2 [oR 7, oR R, oI x2, oI 0] [] σ → OkV wd d m_Nodes_move [vR 7, vR R, vI x2] σ Q)
    (hv2 : ∀ (σ : Sg) (x2 x3 : Int32), (((σ.1 7 9) ≤ x3 → Bk wd d 0 0 m_Nodes_move 0 0 (qv Q) 32 [oR 7, oR R, oI (x2), oI (0)] [] σ) ∧ (¬ (σ.1 7 9) ≤ x3 → (vp_in x3 33500 ∧ (vp_in (σ.1 16 (Int32.toNatClampNeg x3)) 33500 ∧ (vp_in x3 33500 ∧ Bk wd d 0 0 m_Nodes_move 0 0 (qv Q) 2 [oR 7, oR R, oI (x2), oI (x3 + 1)] [] (wI σ 13 (Int32.toNatClampNeg x3) (σ.1 R (Int32.toNatClampNeg (σ.1 16 (Int32.toNatClampNeg x3)))))))))) → Bk wd d 0 0 m_Nodes_move 0 0 (qv Q) 2 [oR 7, oR R, oI x2, oI x3] [] σ)
    (hv3 : ∀ (σ : Sg) (x2 x3 : Int32), (((σ.1 7 9) ≤ x3 → Q σ) ∧ (¬ (σ.1 7 9) ≤ x3 → ((x2 = 0 → (vp_in x3 33500 ∧ (vp_in x3 33500 ∧ Bk wd d 0 0 m_Nodes_move 0 0 (qv Q) 32 [oR 7, oR R, oI (x2), oI (x3 + 1)] [] (wI σ R (Int32.toNatClampNeg x3) (σ.1 13 (Int32.toNatClampNeg x3)))))) ∧ (¬ x2 = 0 → (vp_in x3 33500 ∧ (((σ.1 13 (Int32.toNatClampNeg x3)) = ((-1)) → (vp_in x3 33500 ∧ (vp_in x3 33500 ∧ Bk wd d 0 0 m_Nodes_move 0 0 (qv Q) 32 [oR 7, oR R, oI (x2), oI (x3 + 1)] [] (wI σ R (Int32.toNatClampNeg x3) (σ.1 13 (Int32.toNatClampNeg x3)))))) ∧ (¬ (σ.1 13 (Int32.toNatClampNeg x3)) = ((-1)) → (vp_in x3 33500 ∧ (vp_in (σ.1 13 (Int32.toNatClampNeg x3)) 33500 ∧ (vp_in x3 33500 ∧ Bk wd d 0 0 m_Nodes_move 0 0 (qv Q) 32 [oR 7, oR R, oI (x2), oI (x3 + 1)] [] (wI σ R (Int32.toNatClampNeg x3) (σ.1 15 (Int32.toNatClampNeg (σ.1 13 (Int32.toNatClampNeg x3))))))))))))))) → Bk wd d 0 0 m_Nodes_move 0 0 (qv Q) 32 [oR 7, oR R, oI x2, oI x3] [] σ)
    (hR : R ≠ 13 ∧ R ≠ 15 ∧ R ≠ 16 ∧ R ≠ 7) (hm : m ≤ 33500) (h7 : σ.1 7 9 = nI m) (h16 : ∀ i, i < m → σ.1 16 i = nI (ν i)) (hν : ∀ i, i < m → ν i < 33500)
    (hg : ∀ i, i < m → if b = true then (σ.1 R (ν i) = -1 ∧ g (σ.1 R (ν i)) = -1) ∨ (∃ c, c < 33500 ∧ σ.1 R (ν i) = nI c ∧ g (σ.1 R (ν i)) = σ.1 15 c) else g (σ.1 R (ν i)) = σ.1 R (ν i))
    (h : ∀ τ, (∀ k j, k ≠ 13 → ¬ (k = R ∧ j < m) → τ.1 k j = σ.1 k j) → τ.2 = σ.2 → (∀ i, i < m → τ.1 R i = g (σ.1 R (ν i))) → Q τ) : OkV wd d m_Nodes_move [vR 7, vR R, vI (b2 b)] σ Q := by
  have second : ∀ (f k : Nat) (τ : Sg), k + f = m → (∀ k' j, k' ≠ 13 → ¬ (k' = R ∧ j < m) → τ.1 k' j = σ.1 k' j) → τ.2 = σ.2 → (∀ i, i < m → τ.1 13 i = σ.1 R (ν i)) → (∀ i, i < k → τ.1 R i = g (σ.1 R (ν i))) → Bk wd d 0 0 m_Nodes_move 0 0 (qv Q) 32 [oR 7, oR R, oI (b2 b), oI (nI k)] [] τ := by
    intro f
    induction f with
    | zero =>
      intro k τ hk f1 f2 f3 f4
      have hk : k = m := by omega
      subst hk
      refine hv3 _ _ _ ⟨fun _ => h τ f1 f2 f4, fun c => ?_⟩
      rw [f1 7 9 (by decide) (by omega), h7] at c
      exact absurd (Int32.le_refl _) c
    | succ f ih =>
      intro k τ hk f1 f2 f3 f4
      have hkm : k < m := by omega
      have hin : vp_in (nI k) 33500 := vp_in_nI (by omega) (by omega)
      have go : ∀ v, v = g (σ.1 R (ν k)) → Bk wd d 0 0 m_Nodes_move 0 0 (qv Q) 32 [oR 7, oR R, oI (b2 b), oI (nI k + 1)] [] (wI τ R k v) := by
        intro v hv'
        rw [nI_1]
        refine ih (k + 1) _ (by omega) (fun k' j h1 h2 => ?_) f2 (fun i hi => ?_) (fun i hi => ?_)
        · rw [wI_1, if_neg (by omega)]; exact f1 k' j h1 h2
        · rw [wI_1, if_neg (by omega)]; exact f3 i hi
        · rw [wI_1]
          split
          · rename_i e; rw [e.2]; exact hv'
          · exact f4 i (by omega)
      have hgk := hg k hkm
      refine hv3 _ _ _ ⟨fun c => ?_, fun _ => ⟨fun c => ⟨hin, hin, ?_⟩, fun c => ⟨hin, ?_⟩⟩⟩
      · rw [f1 7 9 (by decide) (by omega), h7, nI_leI (by omega) (by omega)] at c; omega
      · rw [nI_clamp (by omega), f3 k hkm]
        have hb : b = false := b2_0.mp c
        rw [hb, if_neg (by decide)] at hgk
        exact go _ hgk.symm
      · have hb : b = true := b2_n0.mp c
        rw [hb, if_pos rfl] at hgk
        rw [nI_clamp (by omega), f3 k hkm]
        rcases hgk with ⟨e1, e2⟩ | ⟨cc, hc, e1, e2⟩
        · refine ⟨fun _ => ⟨hin, hin, go _ ?_⟩, fun q => absurd e1 q⟩
          rw [e2, e1]
        · rw [e1, nI_clamp (by omega)]
          refine ⟨fun q => absurd q (nI_nm1 (by omega)), fun _ => ⟨hin, vp_in_nI hc (by omega), hin, go _ ?_⟩⟩
          rw [e2, f1 15 cc (by decide) (by omega)]
  have first : ∀ (f k : Nat) (τ : Sg), k + f = m → (∀ k' j, k' ≠ 13 → τ.1 k' j = σ.1 k' j) → τ.2 = σ.2 → (∀ i, i < k → τ.1 13 i = σ.1 R (ν i)) → Bk wd d 0 0 m_Nodes_move 0 0 (qv Q) 2 [oR 7, oR R, oI (b2 b), oI (nI k)] [] τ := by
    intro f
    induction f with
    | zero =>
      intro k τ hk f1 f2 f3
      have hk : k = m := by omega
      subst hk
      refine hv2 _ _ _ ⟨fun _ => second k 0 τ (by omega) (fun k' j h1 _ => f1 k' j h1) f2 f3 (fun i hi => absurd hi (by omega)), fun c => ?_⟩
      rw [f1 7 9 (by decide), h7] at c
      exact absurd (Int32.le_refl _) c
    | succ f ih =>
      intro k τ hk f1 f2 f3
      have hkm : k < m := by omega
      have hin : vp_in (nI k) 33500 := vp_in_nI (by omega) (by omega)
      refine hv2 _ _ _ ⟨fun c => ?_, fun _ => ⟨hin, ?_, hin, ?_⟩⟩
      · rw [f1 7 9 (by decide), h7, nI_leI (by omega) (by omega)] at c; omega
      · rw [nI_clamp (by omega), f1 16 k (by decide), h16 k hkm]; exact vp_in_nI (hν k hkm) (by omega)
      · rw [nI_clamp (by omega), f1 16 k (by decide), h16 k hkm, nI_clamp (by have := hν k hkm; omega), f1 R _ hR.1, nI_1]
        refine ih (k + 1) _ (by omega) (fun k' j h1 => by rw [wI_1, if_neg (by omega)]; exact f1 k' j h1) f2 (fun i hi => ?_)
        rw [wI_1]
        split
        · rename_i e; rw [e.2]
        · exact f3 i (by omega)
  exact hv _ _ (first m 0 σ (by omega) (fun _ _ _ => rfl) rfl (fun i hi => absurd hi (by omega)))
/-- the forest, its nodes kept by their numbers -/
theorem PoT_ren {σ τ : Sg} {ν : Nat → Nat} {M : Nat} {g : Int32 → Int32} (h0 : ∀ k, k < M → τ.1 8 k = σ.1 8 (ν k)) (h1 : ∀ k, k < M → τ.1 9 k = σ.1 9 (ν k)) (h2 : ∀ k, k < M → τ.1 10 k = σ.1 10 (ν k)) (h3 : ∀ k, k < M → τ.1 11 k = g (σ.1 11 (ν k))) (h4 : ∀ k, k < M → τ.1 12 k = g (σ.1 12 (ν k))) (h6 : ∀ k, k < M → τ.1 14 k = g (σ.1 14 (ν k)))
    (g0 : g (-1) = -1) (g1 : ∀ k, k < M → g (nI (ν k)) = nI k) : ∀ (t : Tr) (k : Nat) (p : Int32), k + sz t ≤ M → PoT σ 8 ν t k p → PoT τ 8 (fun j => j) t k (g p) := by
  have gh : ∀ (t : Tr) (k : Nat), k + sz t ≤ M → g (hdT ν t k) = hdT (fun j => j) t k := by
    intro t k hk
    cases t with
    | leaf => exact g0
    | inner z q v l r => exact g1 k (by simp only [sz] at hk; omega)
  intro t
  induction t with
  | leaf => intro k p _ _; trivial
  | inner z q v l r ihl ihr =>
    intro k p hk hP
    simp only [sz] at hk
    obtain ⟨q0, q1, q2, q3, q4, q6, ql, qr⟩ := hP
    refine ⟨by rw [h0 k (by omega)]; exact q0, by rw [h1 k (by omega)]; exact q1, by rw [h2 k (by omega)]; exact q2, ?_, ?_, ?_, ?_, ihr _ _ (by omega) qr⟩
    · show τ.1 11 k = _
      rw [h3 k (by omega)]
      exact congrArg g q3
    · show τ.1 12 k = _
      rw [h4 k (by omega), ← gh l (k + 1) (by omega)]
      exact congrArg g q4
    · show τ.1 14 k = _
      rw [h6 k (by omega), ← gh r (k + 1 + sz l) (by omega)]
      exact congrArg g q6
    · have := ihl (k + 1) (nI (ν k)) (by omega) ql
      rw [g1 k (by omega)] at this
      exact this
theorem PoT_all {σ : Sg} {ν : Nat → Nat} {M : Nat} : ∀ (t : Tr) (k : Nat) (p : Int32), k + sz t ≤ M → PoT σ 8 ν t k p → (p = -1 ∨ ∃ j, j < M ∧ p = nI (ν j)) → ∀ i, k ≤ i → i < k + sz t →
    (σ.1 11 (ν i) = -1 ∨ ∃ j, j < M ∧ σ.1 11 (ν i) = nI (ν j)) ∧ (σ.1 12 (ν i) = -1 ∨ ∃ j, j < M ∧ σ.1 12 (ν i) = nI (ν j)) ∧ (σ.1 14 (ν i) = -1 ∨ ∃ j, j < M ∧ σ.1 14 (ν i) = nI (ν j)) := by
  intro t
  induction t with
  | leaf => intro k p _ _ _ i h1 h2; simp only [sz] at h2; omega
  | inner z q v l r ihl ihr =>
    intro k p hk hP hp i h1 h2
    simp only [sz] at hk h2
    obtain ⟨q0, q1, q2, q3, q4, q6, ql, qr⟩ := hP
    by_cases e : i = k
    · subst e
      refine ⟨by rw [q3]; exact hp, ?_, ?_⟩
      · rw [q4]
        cases l with
        | leaf => exact Or.inl rfl
        | inner z1 k1 v1 l1 r1 => exact Or.inr ⟨i + 1, by simp only [sz] at hk; omega, rfl⟩
      · rw [q6]
        cases r with
        | leaf => exact Or.inl rfl
        | inner z1 k1 v1 l1 r1 => exact Or.inr ⟨i + 1 + sz l, by simp only [sz] at hk ⊢; omega, rfl⟩
    · by_cases hl : i < k + 1 + sz l
      · exact ihl (k + 1) _ (by omega) ql (Or.inr ⟨k, by omega, rfl⟩) i (by omega) (by omega)
      · exact ihr (k + 1 + sz l) p (by omega) qr hp i (by omega) (by omega)
def stF (k j : Nat) : Bool := (Nat.beq k 7 && Nat.beq j 9) || (Nat.ble 8 k && Nat.ble k 16)
theorem nc_settle {Q : Sg → Prop} {σ : Sg} {ν : Nat → Nat} {t : Tr} {x1 : Int32} (hd : 3 ≤ d) (hM : sz t ≤ 33500) (hν : ∀ i, i < sz t → ν i < 33500) (hinj : ∀ i j, i < sz t → j < sz t → ν i = ν j → i = j) (hP : PoT σ 8 ν t 0 (-1)) (ht : t ≠ .leaf) (hx : x1 = nI (ν 0))
    (h : ∀ τ, Fr stF σ τ → τ.1 7 9 = nI (sz t) → PoT τ 8 (fun j => j) t 0 (-1) → Q τ) : OkV wd d m_Nodes_settle [vR 7, vI x1] σ Q := by
  subst hx
  refine v_Nodes_settle _ _ (by omega) (st_walk (M := sz t) (by omega) hM hν hinj t 0 (-1) (-1) σ (by omega) hP Fr.rfl' (fun i _ hi => absurd hi (by omega)) CL.top (fun σ1 hF hW => ?_) ht)
  rw [Nat.zero_add] at hW ⊢
  refine v_Nodes_settle_4 _ _ _ ⟨fun _ => ?_, fun c => absurd rfl c⟩
  have hP1 : ∀ k j, ¬ (k = 15 ∨ k = 16) → σ1.1 k j = σ.1 k j := fun k j hk => hF.1 k j (by
    unfold seF
    rw [Bool.or_eq_false_iff, Bool.eq_false_iff, Bool.eq_false_iff]
    exact ⟨fun q => hk (Or.inl (Nat.eq_of_beq_eq_true q)), fun q => hk (Or.inr (Nat.eq_of_beq_eq_true q))⟩)
  have ents := PoT_all (M := sz t) t 0 (-1) (by omega) hP (Or.inl rfl)
  let g : Int32 → Int32 := fun v => if v = -1 then -1 else σ1.1 15 (Int32.toNatClampNeg v)
  have g0 : g (-1) = -1 := rfl
  have g1 : ∀ k, k < sz t → g (nI (ν k)) = nI k := by
    intro k hk
    have hc := hν k hk
    show (if nI (ν k) = -1 then (-1 : Int32) else σ1.1 15 (Int32.toNatClampNeg (nI (ν k)))) = _
    rw [if_neg (nI_nm1 (by omega)), nI_clamp (by omega)]
    exact (hW k (Nat.zero_le _) hk).2
  have h16 : ∀ i, i < sz t → σ1.1 16 i = nI (ν i) := fun i hi => (hW i (Nat.zero_le _) hi).1
  have gent : ∀ v, (v = -1 ∨ ∃ j, j < sz t ∧ v = nI (ν j)) → (v = -1 ∧ g v = -1) ∨ (∃ c, c < 33500 ∧ v = nI c ∧ g v = σ1.1 15 c) := by
    intro v hv
    rcases hv with e | ⟨j, hj, e⟩
    · exact Or.inl ⟨e, by rw [e]; exact g0⟩
    · refine Or.inr ⟨ν j, hν j hj, e, ?_⟩
      rw [e, g1 j hj]
      exact (hW j (Nat.zero_le _) hj).2.symm
  generalize es : wI σ1 7 9 (nI (sz t)) = σ2
  have e2 : ∀ k j, ¬ (k = 7 ∧ j = 9) → σ2.1 k j = σ1.1 k j := fun k j hk => by rw [← es, wI_1, if_neg hk]
  have e79 : σ2.1 7 9 = nI (sz t) := by rw [← es, wI_1, if_pos ⟨rfl, rfl⟩]
  have e22 : σ2.2 = σ.2 := by rw [← es]; exact hF.2
  refine nc_move (b := false) (fun v => v) (fun x2 σ hb => v_Nodes_move_0 _ _ (by omega) hb) (fun σ x2 x3 hb => v_Nodes_move_0_2 _ _ _ hb) (fun σ x2 x3 hb => v_Nodes_move_0_32 _ _ _ hb) (by decide) hM e79 (fun i hi => by rw [e2 16 i (by omega)]; exact h16 i hi) hν (fun i hi => by rw [if_neg (by decide)]) (fun σ3 f3 s3 r3 => ?_)
  refine nc_move (b := false) (fun v => v) (fun x2 σ hb => v_Nodes_move_1 _ _ (by omega) hb) (fun σ x2 x3 hb => v_Nodes_move_1_2 _ _ _ hb) (fun σ x2 x3 hb => v_Nodes_move_1_32 _ _ _ hb) (by decide) hM (by rw [f3 7 9 (by omega) (by omega)]; exact e79) (fun i hi => by rw [f3 16 i (by omega) (by omega), e2 16 i (by omega)]; exact h16 i hi) hν (fun i hi => by rw [if_neg (by decide)]) (fun σ4 f4 s4 r4 => ?_)
  refine nc_move (b := false) (fun v => v) (fun x2 σ hb => v_Nodes_move_2 _ _ (by omega) hb) (fun σ x2 x3 hb => v_Nodes_move_2_2 _ _ _ hb) (fun σ x2 x3 hb => v_Nodes_move_2_32 _ _ _ hb) (by decide) hM (by rw [f4 7 9 (by omega) (by omega), f3 7 9 (by omega) (by omega)]; exact e79) (fun i hi => by rw [f4 16 i (by omega) (by omega), f3 16 i (by omega) (by omega), e2 16 i (by omega)]; exact h16 i hi) hν (fun i hi => by rw [if_neg (by decide)]) (fun σ5 f5 s5 r5 => ?_)
  have k5 : ∀ k j, ¬ (k = 7 ∧ j = 9) → k ≠ 13 → k ≠ 8 → k ≠ 9 → k ≠ 10 → σ5.1 k j = σ1.1 k j := fun k j a1 a2 a3 a4 a5 => by rw [f5 k j a2 (by omega), f4 k j a2 (by omega), f3 k j a2 (by omega), e2 k j a1]
  have m5 : σ5.1 7 9 = nI (sz t) := by rw [f5 7 9 (by omega) (by omega), f4 7 9 (by omega) (by omega), f3 7 9 (by omega) (by omega)]; exact e79
  refine nc_move (b := true) g (fun x2 σ hb => v_Nodes_move_3 _ _ (by omega) hb) (fun σ x2 x3 hb => v_Nodes_move_3_2 _ _ _ hb) (fun σ x2 x3 hb => v_Nodes_move_3_32 _ _ _ hb) (by decide) hM m5 (fun i hi => by rw [k5 16 i (by omega) (by omega) (by omega) (by omega) (by omega)]; exact h16 i hi) hν (fun i hi => ?_) (fun σ6 f6 s6 r6 => ?_)
  · rw [if_pos rfl, k5 11 _ (by omega) (by omega) (by omega) (by omega) (by omega), hP1 11 _ (by omega)]
    rcases gent _ (ents i (Nat.zero_le _) (by omega)).1 with e | ⟨c, c1, c2, c3⟩
    · exact Or.inl e
    · exact Or.inr ⟨c, c1, c2, by rw [k5 15 _ (by omega) (by omega) (by omega) (by omega) (by omega)]; exact c3⟩
  have k6 : ∀ k j, ¬ (k = 7 ∧ j = 9) → k ≠ 13 → k ≠ 8 → k ≠ 9 → k ≠ 10 → k ≠ 11 → σ6.1 k j = σ1.1 k j := fun k j a1 a2 a3 a4 a5 a6 => by rw [f6 k j a2 (by omega), k5 k j a1 a2 a3 a4 a5]
  refine nc_move (b := true) g (fun x2 σ hb => v_Nodes_move_4 _ _ (by omega) hb) (fun σ x2 x3 hb => v_Nodes_move_4_2 _ _ _ hb) (fun σ x2 x3 hb => v_Nodes_move_4_32 _ _ _ hb) (by decide) hM (by rw [f6 7 9 (by omega) (by omega)]; exact m5) (fun i hi => by rw [k6 16 i (by omega) (by omega) (by omega) (by omega) (by omega) (by omega)]; exact h16 i hi) hν (fun i hi => ?_) (fun σ7 f7 s7 r7 => ?_)
  · rw [if_pos rfl, k6 12 _ (by omega) (by omega) (by omega) (by omega) (by omega) (by omega), hP1 12 _ (by omega)]
    rcases gent _ (ents i (Nat.zero_le _) (by omega)).2.1 with e | ⟨c, c1, c2, c3⟩
    · exact Or.inl e
    · exact Or.inr ⟨c, c1, c2, by rw [k6 15 _ (by omega) (by omega) (by omega) (by omega) (by omega) (by omega)]; exact c3⟩
  have k7 : ∀ k j, ¬ (k = 7 ∧ j = 9) → k ≠ 13 → k ≠ 8 → k ≠ 9 → k ≠ 10 → k ≠ 11 → k ≠ 12 → σ7.1 k j = σ1.1 k j := fun k j a1 a2 a3 a4 a5 a6 a7 => by rw [f7 k j a2 (by omega), k6 k j a1 a2 a3 a4 a5 a6]
  refine nc_move (b := true) g (fun x2 σ hb => v_Nodes_move_5 _ _ (by omega) hb) (fun σ x2 x3 hb => v_Nodes_move_5_2 _ _ _ hb) (fun σ x2 x3 hb => v_Nodes_move_5_32 _ _ _ hb) (by decide) hM (by rw [f7 7 9 (by omega) (by omega), f6 7 9 (by omega) (by omega)]; exact m5) (fun i hi => by rw [k7 16 i (by omega) (by omega) (by omega) (by omega) (by omega) (by omega) (by omega)]; exact h16 i hi) hν (fun i hi => ?_) (fun σ8 f8 s8 r8 => ?_)
  · rw [if_pos rfl, k7 14 _ (by omega) (by omega) (by omega) (by omega) (by omega) (by omega) (by omega), hP1 14 _ (by omega)]
    rcases gent _ (ents i (Nat.zero_le _) (by omega)).2.2 with e | ⟨c, c1, c2, c3⟩
    · exact Or.inl e
    · exact Or.inr ⟨c, c1, c2, by rw [k7 15 _ (by omega) (by omega) (by omega) (by omega) (by omega) (by omega) (by omega)]; exact c3⟩
  refine h σ8 ⟨fun k j hk => ?_, ?_⟩ ?_ ?_
  · have hk7 : ¬ (k = 7 ∧ j = 9) := fun q => by rw [q.1, q.2] at hk; exact absurd hk (by decide)
    have hk8 : ¬ (8 ≤ k ∧ k ≤ 16) := fun q => by
      unfold stF at hk
      rw [Bool.or_eq_false_iff, Bool.and_eq_false_iff, Bool.and_eq_false_iff] at hk
      have h1 : Nat.ble 8 k = true := Nat.ble_eq_true_of_le q.1
      have h2 : Nat.ble k 16 = true := Nat.ble_eq_true_of_le q.2
      rw [h1, h2] at hk
      rcases hk.2 with r | r <;> exact absurd r (by decide)
    rw [f8 k j (by omega) (by omega), k7 k j hk7 (by omega) (by omega) (by omega) (by omega) (by omega) (by omega)]
    exact hP1 k j (by omega)
  · rw [s8, s7, s6, s5, s4, s3, e22]
  · rw [f8 7 9 (by omega) (by omega), f7 7 9 (by omega) (by omega), f6 7 9 (by omega) (by omega)]; exact m5
  · have := PoT_ren (σ := σ) (τ := σ8) (ν := ν) (M := sz t) (g := g) (fun k hk => ?_) (fun k hk => ?_) (fun k hk => ?_) (fun k hk => ?_) (fun k hk => ?_) (fun k hk => ?_) g0 g1 t 0 (-1) (by omega) hP
    · rw [g0] at this; exact this
    · rw [f8 8 k (by omega) (by omega), f7 8 k (by omega) (by omega), f6 8 k (by omega) (by omega), f5 8 k (by omega) (by omega), f4 8 k (by omega) (by omega), r3 k hk, e2 8 _ (by omega), hP1 8 _ (by omega)]
    · rw [f8 9 k (by omega) (by omega), f7 9 k (by omega) (by omega), f6 9 k (by omega) (by omega), f5 9 k (by omega) (by omega), r4 k hk, f3 9 _ (by omega) (by omega), e2 9 _ (by omega), hP1 9 _ (by omega)]
    · rw [f8 10 k (by omega) (by omega), f7 10 k (by omega) (by omega), f6 10 k (by omega) (by omega), r5 k hk, f4 10 _ (by omega) (by omega), f3 10 _ (by omega) (by omega), e2 10 _ (by omega), hP1 10 _ (by omega)]
    · rw [f8 11 k (by omega) (by omega), f7 11 k (by omega) (by omega), r6 k hk, k5 11 _ (by omega) (by omega) (by omega) (by omega) (by omega), hP1 11 _ (by omega)]
    · rw [f8 12 k (by omega) (by omega), r7 k hk, k6 12 _ (by omega) (by omega) (by omega) (by omega) (by omega) (by omega), hP1 12 _ (by omega)]
    · rw [r8 k hk, k7 14 _ (by omega) (by omega) (by omega) (by omega) (by omega) (by omega) (by omega), hP1 14 _ (by omega)]
end
