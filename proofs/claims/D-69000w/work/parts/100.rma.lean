/-! 100: the reference's reader: its state, and its small methods -/
theorem tk_fp {tx : Nat → Int32} {n v e : Nat} {ok : Bool} : (takeS tx n ok v e).1 = 0 ∨ 0 < (takeS tx n ok v e).1 := by
  unfold takeS
  split
  · exact Or.inr (show (0 : Int32) < 4 by decide)
  · exact Or.inl rfl
theorem lex_fp {tx : Nat → Int32} {n a : Nat} {N : List (List Int32)} : (lexS tx n a N).2.1.1 = 0 ∨ 0 < (lexS tx n a N).2.1.1 := by
  unfold lexS
  generalize (skE tx n (n + 1) a).1 = p
  split
  · exact Or.inr (show (0 : Int32) < 2 by decide)
  · dsimp only
    split
    · exact Or.inl rfl
    · split
      · unfold timS; exact tk_fp
      · split
        · unfold namS
          split
          · exact Or.inr (show (0 : Int32) < 3 by decide)
          · split
            · exact Or.inl rfl
            · exact Or.inl rfl
        · split
          · unfold numS
            split
            · split
              · exact tk_fp
              · split
                · exact tk_fp
                · exact Or.inr (show (0 : Int32) < 4 by decide)
            · exact tk_fp
          · split
            · unfold plaS
              by_cases q : whS (grt (pk tx n (p + 1))) (grt (pk tx n (p + 2))) < 0
              · rw [if_pos q]; exact Or.inr (show (0 : Int32) < 5 by decide)
              · rw [if_neg q]
                by_cases q2 : (dgN tx n 10 (n + 1) (p + 3) 0).2 = p + 3 ∨ (if whS (grt (pk tx n (p + 1))) (grt (pk tx n (p + 2))) < 3 then 255 else 63) < (dgN tx n 10 (n + 1) (p + 3) 0).1 ∨ isPt (pk tx n (dgN tx n 10 (n + 1) (p + 3) 0).2) = true
                · rw [if_pos q2]; exact Or.inr (show (0 : Int32) < 5 by decide)
                · rw [if_neg q2]; exact Or.inl rfl
            · unfold sigS
              split
              · exact Or.inr (show (0 : Int32) < 1 by decide)
              · exact Or.inl rfl
/-- what reading may change -/
def mrF (k j : Nat) : Bool := (Nat.ble 83 k && Nat.ble k 96) || (Nat.beq k 81 && (Nat.beq j 3 || (Nat.ble 6 j && Nat.ble j 14) || Nat.beq j 22 || Nat.beq j 25))
/-- an operand that is kept, the sign behind it and that sign's place -/
abbrev Kp : Type := Nat × Int32 × Int32
def SkM (σ : Sg) (op : List Kp) : Prop := ∀ i, i < op.length → σ.1 94 i = nI (op.getD i (0, 0, 0)).1 ∧ σ.1 95 i = (op.getD i (0, 0, 0)).2.1 ∧ σ.1 96 i = (op.getD i (0, 0, 0)).2.2
def OrM (s : NS) (op : List Kp) : Prop := (∀ c, c ∈ op.map (fun q => q.1) → c < s.1 ∧ rp (s.2 c) = -1) ∧ (op.map (fun q => q.1)).Nodup
def PsM (tx : Nat → Int32) (n : Nat) (σ : Sg) (x : RS) (m a b : Nat) : Prop := match x with
  | .ok q => σ.1 81 10 = 0 ∧ σ.1 81 7 = nI (sF q) ∧ σ.1 81 6 = sK q ∧ (sK q ≠ 0 → σ.1 81 9 = sV q) ∧ σ.1 81 8 = nI (sB q) ∧ NmM σ (sN q) ∧ NmK tx n (sN q) ∧ σ.1 81 12 = nI (sD q) ∧ σ.1 81 13 = nI (sS q) ∧ InvS n q ∧ m + 4 * (n - sF q) ≤ a
  | .error e => σ.1 81 10 = e.1 ∧ 0 < e.1 ∧ σ.1 81 11 = nI e.2 ∧ m ≤ b ∧ (∃ c, c < 2 ^ 30 ∧ σ.1 81 8 = nI c) ∧ ∃ N, NmM σ N ∧ NmK tx n N
def StM (tx : Nat → Int32) (n : Nat) (σ0 σ : Sg) (x : RS) (s : NS) (op : List Kp) (a b : Nat) : Prop :=
  Fr mrF σ0 σ ∧ MX σ tx n ∧ n ≤ 1300 ∧ NM σ 85 s ∧ σ.1 81 14 = nI s.1 ∧ σ.1 81 25 = nI op.length ∧ (isO x = true → SkM σ op ∧ OrM s op) ∧ PsM tx n σ x s.1 a b
theorem NmM.cg {σ τ : Sg} {N : List (List Int32)} (h : NmM σ N) (h1 : τ.1 81 3 = σ.1 81 3) (h3 : ∀ j, τ.1 83 j = σ.1 83 j) (h4 : ∀ j, τ.1 84 j = σ.1 84 j) : NmM τ N :=
  ⟨by rw [h1]; exact h.1, fun k hk => ⟨by rw [h4]; exact (h.2.1 k hk).1, (h.2.1 k hk).2.1, fun i hi => by rw [h3]; exact (h.2.1 k hk).2.2 i hi⟩, h.2.2⟩
section
variable {w : Wd} {d n : Nat} {tx : Nat → Int32} {σ0 σ : Sg} {x : RS} {s : NS} {op : List Kp} {a b : Nat}
theorem StM.weak {a' b' : Nat} (h : StM tx n σ0 σ x s op a b) (ha : a ≤ a') (hb : b ≤ b') : StM tx n σ0 σ x s op a' b' := by
  obtain ⟨h1, h2, h3, h4, h5, h6, h7, h9⟩ := h
  refine ⟨h1, h2, h3, h4, h5, h6, h7, ?_⟩
  cases x with
  | ok q => obtain ⟨i1, i2, i3, i4, i5, i6, i7, i8, i9, i10, i11⟩ := h9; exact ⟨i1, i2, i3, i4, i5, i6, i7, i8, i9, i10, Nat.le_trans i11 ha⟩
  | error e => obtain ⟨i1, i2, i3, i4, i5⟩ := h9; exact ⟨i1, i2, i3, Nat.le_trans i4 hb, i5⟩
theorem StM.many (h : StM tx n σ0 σ x s op a b) (hab : a ≤ b) : s.1 ≤ b := by
  have h9 := h.2.2.2.2.2.2.2
  cases x with
  | ok q => obtain ⟨i1, i2, i3, i4, i5, i6, i7, i8, i9, i10, i11⟩ := h9; omega
  | error e => exact h9.2.2.2.1
theorem StM.okb {b' : Nat} (h : StM tx n σ0 σ x s op a b) (ho : isO x = true) : StM tx n σ0 σ x s op a b' := by
  cases x with
  | ok q => exact h
  | error e => exact absurd ho (show ¬ false = true by decide)
theorem StM.erra {a' : Nat} (h : StM tx n σ0 σ x s op a b) (ho : isO x = false) : StM tx n σ0 σ x s op a' b := by
  cases x with
  | ok q => exact absurd ho (show ¬ true = false by decide)
  | error e => exact h
theorem StM.inv {q : PS} (hS : StM tx n σ0 σ (.ok q) s op a b) : InvS n q := hS.2.2.2.2.2.2.2.2.2.2.2.2.2.2.2.2.1
theorem StM.invs (hS : StM tx n σ0 σ x s op a b) : ∀ q, x = .ok q → InvS n q := fun q e => by subst e; exact hS.inv
theorem StM.pay {q : PS} (hS : StM tx n σ0 σ (.ok q) s op a b) (hk : sK q ≠ 0) : s.1 + 4 ≤ a := by
  have h9 := hS.2.2.2.2.2.2.2
  obtain ⟨i1, i2, i3, i4, i5, i6, i7, i8, i9, i10, i11⟩ := h9
  have := i10.2.2.2.1 hk
  have := i10.2.2.1
  omega
theorem StM.flt (hS : StM tx n σ0 σ x s op a b) : σ.1 81 10 = 0 ↔ isO x = true := by
  cases x with
  | ok q => exact ⟨fun _ => rfl, fun _ => hS.2.2.2.2.2.2.2.1⟩
  | error e =>
    have h9 := hS.2.2.2.2.2.2.2
    refine ⟨fun h => ?_, fun h => absurd h (show ¬ false = true by decide)⟩
    have := h9.2.1
    rw [← h9.1, h] at this
    exact absurd this (by decide)
theorem StM.fle (hS : StM tx n σ0 σ x s op a b) : σ.1 81 10 ≤ 0 ↔ isO x = true := by
  cases x with
  | ok q =>
    have h9 := hS.2.2.2.2.2.2.2
    refine ⟨fun _ => rfl, fun _ => ?_⟩
    rw [h9.1]; decide
  | error e =>
    have h9 := hS.2.2.2.2.2.2.2
    refine ⟨fun h => ?_, fun h => absurd h (show ¬ false = true by decide)⟩
    rw [h9.1] at h
    exact absurd h9.2.1 (Int32.not_lt.mpr h)
theorem StM.val (hS : StM tx n σ0 σ x s op a b) {k : Int32} (h : isK x k = true) (hk : k ≠ 0) : σ.1 81 9 = vaI x := by
  cases x with
  | ok q => exact hS.2.2.2.2.2.2.2.2.2.2.1 ((isK_0 h hk).2 q rfl)
  | error e => exact absurd h (show ¬ false = true by decide)
theorem StM.fro (hS : StM tx n σ0 σ x s op a b) (h : isO x = true) : σ.1 81 7 = frI x := by
  cases x with
  | ok q => exact hS.2.2.2.2.2.2.2.2.1
  | error e => exact absurd h (show ¬ false = true by decide)
theorem StM.knd (hS : StM tx n σ0 σ x s op a b) (h : isO x = true) {k : Int32} : σ.1 81 6 = k ↔ isK x k = true := by
  cases x with
  | ok q =>
    have : σ.1 81 6 = sK q := hS.2.2.2.2.2.2.2.2.2.1
    rw [this]
    exact ⟨fun e => decide_eq_true e, fun e => of_decide_eq_true e⟩
  | error e => exact absurd h (show ¬ false = true by decide)
/-- the state told anew where few places changed -/
theorem StM.re {τ : Sg} {s' : NS} {op' : List Kp} {j : Nat} (hS : StM tx n σ0 σ x s op a b) (hF : Fr mrF σ τ) (hk : ∀ k i, (k = 82 ∨ k = 83 ∨ k = 84 ∨ (k = 81 ∧ (i ≤ 13))) → τ.1 k i = σ.1 k i) (hN : NM τ 85 s') (h14 : τ.1 81 14 = nI s'.1) (h25 : τ.1 81 25 = nI op'.length) (hor : isO x = true → SkM τ op' ∧ OrM s' op') (hj : s'.1 ≤ s.1 + j) : StM tx n σ0 τ x s' op' (a + j) (b + j) := by
  obtain ⟨g1, g2, g3, g4, g5, g6, g7, g9⟩ := hS
  refine ⟨g1.trans hF, ⟨g2.1, by rw [hk 81 1 (by omega)]; exact g2.2.1, fun i hi => by rw [hk 82 i (by omega)]; exact g2.2.2 i hi⟩, g3, hN, h14, h25, hor, ?_⟩
  have cg : ∀ {N}, NmM σ N → NmM τ N := fun h => h.cg (hk 81 3 (by omega)) (fun j => hk 83 j (by omega)) (fun j => hk 84 j (by omega))
  cases x with
  | error e =>
    obtain ⟨i1, i2, i3, i4, ⟨c, c1, c2⟩, N, n1, n2⟩ := g9
    exact ⟨by rw [hk 81 10 (by omega)]; exact i1, i2, by rw [hk 81 11 (by omega)]; exact i3, by omega, ⟨c, c1, by rw [hk 81 8 (by omega)]; exact c2⟩, N, cg n1, n2⟩
  | ok q =>
    obtain ⟨i1, i2, i3, i4, i5, i6, i7, i8, i9, i10, i11⟩ := g9
    exact ⟨by rw [hk 81 10 (by omega)]; exact i1, by rw [hk 81 7 (by omega)]; exact i2, by rw [hk 81 6 (by omega)]; exact i3, fun r => by rw [hk 81 9 (by omega)]; exact i4 r, by rw [hk 81 8 (by omega)]; exact i5, cg i6, i7, by rw [hk 81 12 (by omega)]; exact i8, by rw [hk 81 13 (by omega)]; exact i9, i10, by omega⟩
theorem rm_isW {Q : Int32 → Sg → Prop} {k : Int32} (hd : 1 ≤ d) (hS : StM tx n σ0 σ x s op a b) (h : Q (b2 (isW x k)) σ) : OkI w d m_M_isWord [vR 81, vI k] σ Q := by
  refine v_M_isWord _ _ hd ?_
  rw [hS.flt]
  refine ⟨fun r => ⟨Or.inl rfl, ?_⟩, fun r => ?_⟩
  · cases x with
    | ok q => exact absurd rfl r
    | error e => exact h
  · rw [hS.knd r]
    cases x with
    | error e => exact absurd r (show ¬ false = true by decide)
    | ok q =>
      have h : Q (b2 (decide (sK q = 2) && decide (sV q = k))) σ := h
      refine ⟨fun r2 => ⟨Or.inl rfl, ?_⟩, fun r2 => ?_⟩
      · have : decide (sK q = 2) = false := by rw [Bool.eq_false_iff]; exact r2
        rw [this, Bool.false_and] at h; exact h
      · have r3 : decide (sK q = 2) = true := r2
        rw [hS.val r2 (by decide)]
        rw [r3, Bool.true_and] at h
        refine ⟨fun r4 => ⟨Or.inl rfl, ?_⟩, fun r4 => ⟨Or.inr rfl, ?_⟩⟩
        · have : decide (sV q = k) = false := decide_eq_false r4
          rw [this] at h; exact h
        · have : decide (sV q = k) = true := decide_eq_true r4
          rw [this] at h; exact h
theorem rm_isS {Q : Int32 → Sg → Prop} {k : Int32} (hd : 1 ≤ d) (hS : StM tx n σ0 σ x s op a b) (h : Q (b2 (isS x k)) σ) : OkI w d m_M_isSign [vR 81, vI k] σ Q := by
  refine v_M_isSign _ _ hd ?_
  rw [hS.flt]
  refine ⟨fun r => ⟨Or.inl rfl, ?_⟩, fun r => ?_⟩
  · cases x with
    | ok q => exact absurd rfl r
    | error e => exact h
  · rw [hS.knd r]
    cases x with
    | error e => exact absurd r (show ¬ false = true by decide)
    | ok q =>
      have h : Q (b2 (decide (sK q = 5) && decide (sV q = k))) σ := h
      refine ⟨fun r2 => ⟨Or.inl rfl, ?_⟩, fun r2 => ?_⟩
      · have : decide (sK q = 5) = false := by rw [Bool.eq_false_iff]; exact r2
        rw [this, Bool.false_and] at h; exact h
      · have r3 : decide (sK q = 5) = true := r2
        rw [hS.val r2 (by decide)]
        rw [r3, Bool.true_and] at h
        refine ⟨fun r4 => ⟨Or.inl rfl, ?_⟩, fun r4 => ⟨Or.inr rfl, ?_⟩⟩
        · have : decide (sV q = k) = false := decide_eq_false r4
          rw [this] at h; exact h
        · have : decide (sV q = k) = true := decide_eq_true r4
          rw [this] at h; exact h
/-- a fault at the token at hand, if there is none yet -/
theorem rm_fail {Q : Sg → Prop} {c y : Int32} (hd : 1 ≤ d) (hS : StM tx n σ0 σ x s op a b) (hab : a ≤ b) (hc : 0 < c) (hy : isO x = true → y = frI x) (h : ∀ σ', (∀ k j, ¬ (k = 81 ∧ (j = 10 ∨ j = 11)) → σ'.1 k j = σ.1 k j) → StM tx n σ0 σ' (flR c x) s op a b → Q σ') : OkV w d m_M_fail [vR 81, vI c, vI y] σ Q := by
  have hm := hS.many hab
  have hS' := hS
  obtain ⟨g1, g2, g3, g4, g5, g6, g7, g9⟩ := hS
  refine v_M_fail _ _ _ hd ?_
  cases x with
  | error e => exact ⟨fun _ => h σ (fun _ _ _ => rfl) hS', fun r => absurd (hS'.flt.mp r) (show ¬ false = true by decide)⟩
  | ok q =>
    obtain ⟨i1, i2, i3, i4, i5, i6, i7, i8, i9, i10, i11⟩ := g9
    have hy := hy rfl
    subst hy
    refine ⟨fun r => absurd i1 r, fun _ => h _ (fun k j hk => by simp only [wI_1]; rw [if_neg (by omega), if_neg (by omega)]) ?_⟩
    refine ⟨(g1.wI rfl).wI rfl, ⟨g2.1, by simp [wI_1, g2.2.1], fun i hi => by simp [wI_1]; exact g2.2.2 i hi⟩, g3, g4.cong (fun i hi j _ => by simp only [wI_1]; rw [if_neg (by omega), if_neg (by omega)]), by simp [wI_1, g5], by simp [wI_1, g6], fun o => absurd o (show ¬ false = true by decide), ?_⟩
    exact ⟨by simp [wI_1], hc, by simp [wI_1]; rfl, hm, ⟨sB q, by have := i10.2.2.1; omega, by simp [wI_1, i5]⟩, sN q, i6.cg (by simp [wI_1]) (fun j => by simp [wI_1]) (fun j => by simp [wI_1]), i7⟩
/-- the next token, guarded or not -/
theorem rm_next {Q : Sg → Prop} {a' : Nat} (hd : 10 ≤ d) (hS : StM tx n σ0 σ x s op a b) (hab : a ≤ b) (ha : ∀ q, x = .ok q → a ≤ a' + 4 ∧ (sK q = 0 → a ≤ a')) (h : ∀ σ', StM tx n σ0 σ' (nxR tx n x) s op a' b → Q σ') : OkV w d m_M_next [vR 81] σ Q := by
  have hm := hS.many hab
  obtain ⟨g1, g2, g3, g4, g5, g6, g7, g9⟩ := hS
  have base : ∀ (υ : Sg) (P : Nat → Nat → Bool), Fr P σ υ → (∀ k j, P k j = true → k = 83 ∨ k = 84 ∨ (k = 81 ∧ (j = 3 ∨ (6 ≤ j ∧ j ≤ 11)))) → ∀ y, (isO y = true → isO x = true) → PsM tx n υ y s.1 a' b → StM tx n σ0 υ y s op a' b := by
    intro υ P hF hP y hyx hy
    have hk : ∀ k j, ¬ (k = 83 ∨ k = 84 ∨ (k = 81 ∧ (j = 3 ∨ (6 ≤ j ∧ j ≤ 11)))) → υ.1 k j = σ.1 k j := fun k j hn => hF.1 k j (by
      cases hq : P k j with
      | false => rfl
      | true => exact absurd (hP k j hq) hn)
    refine ⟨g1.trans (hF.mono (fun k j hk2 => ?_)), ⟨g2.1, by rw [hk 81 1 (by omega)]; exact g2.2.1, fun i hi => by rw [hk 82 i (by omega)]; exact g2.2.2 i hi⟩, g3, g4.cong (fun i hi j _ => hk _ _ (by omega)), by rw [hk 81 14 (by omega)]; exact g5, by rw [hk 81 25 (by omega)]; exact g6, fun o => ?_, hy⟩
    · cases hq : P k j with
      | false => rfl
      | true =>
        exfalso
        rcases hP k j hq with e | e | ⟨e, e2⟩
        · subst e; exact absurd hk2 (show ¬ true = false by decide)
        · subst e; exact absurd hk2 (show ¬ true = false by decide)
        · subst e
          have : mrF 81 j = true := by
            rcases e2 with e2 | e2
            · subst e2; rfl
            · rcases (by omega : j = 6 ∨ j = 7 ∨ j = 8 ∨ j = 9 ∨ j = 10 ∨ j = 11) with r | r | r | r | r | r <;> subst r <;> rfl
          rw [this] at hk2; exact absurd hk2 (by decide)
    · obtain ⟨k1, k2⟩ := g7 (hyx o)
      refine ⟨fun i hi => ?_, k2⟩
      rw [hk 94 i (by omega), hk 95 i (by omega), hk 96 i (by omega)]
      exact k1 i hi
  cases x with
  | error e =>
    obtain ⟨i1, i2, i3, i4, ⟨c, c1, c2⟩, N, n1, n2⟩ := g9
    have h0 : ¬ σ.1 81 10 = 0 := by
      intro q
      rw [← i1, q] at i2
      exact absurd i2 (by decide)
    refine me_next hd g3 g2 n1 n2 h0 c2 c1 (fun υ ⟨u1, u2, u3⟩ => h υ ?_)
    refine base υ meY u1 (fun k j hq => ?_) _ (fun o => o) ⟨by rw [u1.1 81 10 rfl]; exact i1, i2, by rw [u1.1 81 11 rfl]; exact i3, i4, (by obtain ⟨c', c3, c4⟩ := u2; exact ⟨c', by omega, c4⟩), u3⟩
    unfold meY meX meT mnF at hq
    simp only [Bool.or_eq_true, Bool.and_eq_true, Nat.beq_eq] at hq
    omega
  | ok q =>
    obtain ⟨i1, i2, i3, i4, i5, i6, i7, i8, i9, i10, i11⟩ := g9
    have hlen := i7.len
    refine mk_next hd g2 i6 i1 (by omega) i5 i10.2.2.1 (fun υ ⟨t1, t2, t3, t4, t5⟩ => ?_)
    have hnk := i7.lex (a := sB q) g2.1 i10.2.2.1
    have hP : ∀ k j, myF k j = true → k = 83 ∨ k = 84 ∨ (k = 81 ∧ (j = 3 ∨ (6 ≤ j ∧ j ≤ 11))) := by
      intro k j hq
      unfold myF mxF mkF mnF at hq
      simp only [Bool.or_eq_true, Bool.and_eq_true, Nat.beq_eq] at hq
      omega
    have en : nxR tx n (.ok q) = nxS tx n q := rfl
    rw [en] at h
    by_cases h0 : (lexS tx n (sB q) (sN q)).2.1.1 = 0
    · have e1 : nxS tx n q = .ok ((lexS tx n (sB q) (sN q)).1, (lexS tx n (sB q) (sN q)).2.1.2.1, (lexS tx n (sB q) (sN q)).2.1.2.2.1, (lexS tx n (sB q) (sN q)).2.1.2.2.2, (lexS tx n (sB q) (sN q)).2.2, sD q, sS q) := by unfold nxS; rw [if_pos h0]
      have o := nx_ok e1 i10
      rw [e1] at h
      obtain ⟨t31, t32, t33, t34⟩ := t3 h0
      refine h υ (base υ myF t5 hP _ (fun _ => rfl) ⟨by rw [t1]; exact h0, t31, t32, t33, t34, t4, hnk, by rw [t5.1 81 12 rfl]; exact i8, by rw [t5.1 81 13 rfl]; exact i9, o.1, ?_⟩)
      have o1 := o.1.1
      have o2 := o.2.1
      have hA := ha q rfl
      by_cases hk : sK q = 0
      · have := hA.2 hk
        have := i10.2.1
        omega
      · have := hA.1
        have := i10.2.2.2.1 hk
        omega
    · have e1 : nxS tx n q = .error ((lexS tx n (sB q) (sN q)).2.1.1, (lexS tx n (sB q) (sN q)).1) := by unfold nxS; rw [if_neg h0]
      rw [e1] at h
      refine h υ (base υ myF t5 hP _ (fun o => absurd o (show ¬ false = true by decide)) ⟨t1, lex_fp.resolve_left h0, (t2 h0).1, hm, (t2 h0).2, (lexS tx n (sB q) (sN q)).2.2, t4, hnk⟩)
end
