/-! 084: the component's reader: its state, and its small methods -/
/-- what reading may change; the place where the first name begins is not among it -/
def rdF (k j : Nat) : Bool := Nat.ble 2 k && Nat.ble k 20 && !(Nat.beq k 4 && Nat.beq j 0)
/-- signs and operands that wait -/
def SkC (σ : Sg) (sg : List (Int32 × Int32)) (op : List Nat) : Prop := σ.1 17 9 = nI sg.length ∧ σ.1 17 10 = nI op.length ∧ (∀ i, i < sg.length → σ.1 18 i = (sg.getD i (0, 0)).1 ∧ σ.1 19 i = (sg.getD i (0, 0)).2) ∧ ∀ i, i < op.length → σ.1 20 i = nI (op.getD i 0)
def PsC (n : Nat) (σ : Sg) (x : RS) (m a b : Nat) : Prop := match x with
  | .ok q => σ.1 17 2 = 0 ∧ σ.1 5 8 = 0 ∧ σ.1 5 6 = nI (sF q) ∧ σ.1 5 5 = sK q ∧ (sK q ≠ 0 → σ.1 5 7 = sV q) ∧ σ.1 5 4 = nI (sB q) ∧ NmC σ (sN q) ∧ σ.1 17 4 = nI (sD q) ∧ σ.1 17 5 = nI (sS q) ∧ InvS n q ∧ m + 4 * (n - sF q) ≤ a
  | .error e => σ.1 17 2 = e.1 ∧ e.1 ≠ 0 ∧ σ.1 17 3 = nI e.2 ∧ m ≤ b
def StC (tx : Nat → Int32) (n : Nat) (σ0 σ : Sg) (x : RS) (s : NS) (sg : List (Int32 × Int32)) (op : List Nat) (a b : Nat) : Prop :=
  Fr rdF σ0 σ ∧ TX σ tx n ∧ n ≤ 1300 ∧ NM σ 8 s ∧ σ.1 7 9 = nI s.1 ∧ SkC σ sg op ∧ (∀ c, c ∈ op → c < s.1 ∧ rp (s.2 c) = -1) ∧ op.Nodup ∧ PsC n σ x s.1 a b
theorem NmC.cg {σ τ : Sg} {N : List (List Int32)} (h : NmC σ N) (h2 : ∀ j, τ.1 2 j = σ.1 2 j) (h3 : ∀ j, τ.1 3 j = σ.1 3 j) (h4 : ∀ j, τ.1 4 j = σ.1 4 j) : NmC τ N :=
  ⟨by rw [h2]; exact h.1, fun k hk => by rw [h4]; exact h.2.1 k hk, fun i hi => by rw [h3]; exact h.2.2.1 i hi, h.2.2.2⟩
section
variable {w : Wd} {d n : Nat} {tx : Nat → Int32} {σ0 σ : Sg} {x : RS} {s : NS} {sg : List (Int32 × Int32)} {op : List Nat} {a b : Nat}
theorem StC.weak {a' b' : Nat} (h : StC tx n σ0 σ x s sg op a b) (ha : a ≤ a') (hb : b ≤ b') : StC tx n σ0 σ x s sg op a' b' := by
  obtain ⟨h1, h2, h3, h4, h5, h6, h7, h8, h9⟩ := h
  refine ⟨h1, h2, h3, h4, h5, h6, h7, h8, ?_⟩
  cases x with
  | ok q => obtain ⟨i1, i2, i3, i4, i5, i6, i7, i8, i9, i10, i11⟩ := h9; exact ⟨i1, i2, i3, i4, i5, i6, i7, i8, i9, i10, Nat.le_trans i11 ha⟩
  | error e => obtain ⟨i1, i2, i3, i4⟩ := h9; exact ⟨i1, i2, i3, Nat.le_trans i4 hb⟩
/-- how many nodes there are -/
theorem StC.many (h : StC tx n σ0 σ x s sg op a b) (hab : a ≤ b) : s.1 ≤ b := by
  have h9 := h.2.2.2.2.2.2.2.2
  cases x with
  | ok q => obtain ⟨i1, i2, i3, i4, i5, i6, i7, i8, i9, i10, i11⟩ := h9; omega
  | error e => exact h9.2.2.2
/-- the state depends on few places of the memory -/
theorem StC.cong {τ : Sg} (h : StC tx n σ0 σ x s sg op a b) (hF : Fr rdF σ τ) (h5 : ∀ j, τ.1 5 j = σ.1 5 j) (h2 : ∀ j, τ.1 2 j = σ.1 2 j) (h3 : ∀ j, τ.1 3 j = σ.1 3 j) (h4 : ∀ j, τ.1 4 j = σ.1 4 j) (h7 : τ.1 7 9 = σ.1 7 9) (hn : ∀ i, i ≤ 6 → ∀ j, τ.1 (8 + i) j = σ.1 (8 + i) j) (h17 : ∀ j, τ.1 17 j = σ.1 17 j) (h18 : ∀ j, τ.1 18 j = σ.1 18 j) (h19 : ∀ j, τ.1 19 j = σ.1 19 j) (h20 : ∀ j, τ.1 20 j = σ.1 20 j) : StC tx n σ0 τ x s sg op a b := by
  obtain ⟨g1, g2, g3, g4, g5, g6, g7, g8, g9⟩ := h
  refine ⟨g1.trans hF, ⟨g2.1, by rw [h5]; exact g2.2.1, fun i hi => by rw [hF.1 1 i rfl]; exact g2.2.2 i hi⟩, g3, g4.cong (fun i hi j _ => hn i hi j), by rw [h7]; exact g5, ⟨by rw [h17]; exact g6.1, by rw [h17]; exact g6.2.1, fun i hi => by rw [h18, h19]; exact g6.2.2.1 i hi, fun i hi => by rw [h20]; exact g6.2.2.2 i hi⟩, g7, g8, ?_⟩
  cases x with
  | ok q =>
    obtain ⟨i1, i2, i3, i4, i5, i6, i7, i8, i9, i10, i11⟩ := g9
    exact ⟨by rw [h17]; exact i1, by rw [h5]; exact i2, by rw [h5]; exact i3, by rw [h5]; exact i4, fun q => by rw [h5]; exact i5 q, by rw [h5]; exact i6, ⟨by rw [h2]; exact i7.1, fun k hk => by rw [h4]; exact i7.2.1 k hk, fun i hi => by rw [h3]; exact i7.2.2.1 i hi, i7.2.2.2⟩, by rw [h17]; exact i8, by rw [h17]; exact i9, i10, i11⟩
  | error e => exact ⟨by rw [h17]; exact g9.1, g9.2.1, by rw [h17]; exact g9.2.2.1, g9.2.2.2⟩
theorem rc_isK {Q : Int32 → Sg → Prop} {k : Int32} (hd : 1 ≤ d) (hS : StC tx n σ0 σ x s sg op a b) (h : Q (b2 (isK x k)) σ) : OkI w d m_Reader_isKind [vR 17, vI k] σ Q := by
  have h9 := hS.2.2.2.2.2.2.2.2
  refine v_Reader_isKind _ _ hd ?_
  cases x with
  | ok q =>
    obtain ⟨i1, i2, i3, i4, i5, i6, i7, i8, i9, i10, i11⟩ := h9
    rw [i1, i4]
    refine ⟨fun r => absurd rfl r, fun _ => ⟨fun r => ⟨Or.inl rfl, ?_⟩, fun r => ⟨Or.inr rfl, ?_⟩⟩⟩
    · have e : isK (.ok q) k = false := decide_eq_false r
      rw [e] at h; exact h
    · have e : isK (.ok q) k = true := decide_eq_true r
      rw [e] at h; exact h
  | error e => exact ⟨fun _ => ⟨Or.inl rfl, h⟩, fun r => absurd (h9.1.symm.trans r) h9.2.1⟩
theorem rc_isW {Q : Int32 → Sg → Prop} {k : Int32} (hd : 1 ≤ d) (hS : StC tx n σ0 σ x s sg op a b) (h : Q (b2 (isW x k)) σ) : OkI w d m_Reader_isWord [vR 17, vI k] σ Q := by
  have h9 := hS.2.2.2.2.2.2.2.2
  refine v_Reader_isWord _ _ hd ?_
  cases x with
  | ok q =>
    obtain ⟨i1, i2, i3, i4, i5, i6, i7, i8, i9, i10, i11⟩ := h9
    rw [i1, i4]
    have h : Q (b2 (decide (sK q = 2) && decide (sV q = k))) σ := h
    refine ⟨fun r => absurd rfl r, fun _ => ⟨fun r => ⟨Or.inl rfl, ?_⟩, fun r => ?_⟩⟩
    · rw [decide_eq_false r, Bool.false_and] at h; exact h
    · rw [i5 (by rw [r]; decide)]
      rw [decide_eq_true r, Bool.true_and] at h
      refine ⟨fun r2 => ⟨Or.inl rfl, ?_⟩, fun r2 => ⟨Or.inr rfl, ?_⟩⟩
      · rw [decide_eq_false r2] at h; exact h
      · rw [decide_eq_true r2] at h; exact h
  | error e => exact ⟨fun _ => ⟨Or.inl rfl, h⟩, fun r => absurd (h9.1.symm.trans r) h9.2.1⟩
theorem rc_isS {Q : Int32 → Sg → Prop} {k : Int32} (hd : 1 ≤ d) (hS : StC tx n σ0 σ x s sg op a b) (h : Q (b2 (isS x k)) σ) : OkI w d m_Reader_isSign [vR 17, vI k] σ Q := by
  have h9 := hS.2.2.2.2.2.2.2.2
  refine v_Reader_isSign _ _ hd ?_
  cases x with
  | ok q =>
    obtain ⟨i1, i2, i3, i4, i5, i6, i7, i8, i9, i10, i11⟩ := h9
    rw [i1, i4]
    have h : Q (b2 (decide (sK q = 5) && decide (sV q = k))) σ := h
    refine ⟨fun r => absurd rfl r, fun _ => ⟨fun r => ⟨Or.inl rfl, ?_⟩, fun r => ?_⟩⟩
    · rw [decide_eq_false r, Bool.false_and] at h; exact h
    · rw [i5 (by rw [r]; decide)]
      rw [decide_eq_true r, Bool.true_and] at h
      refine ⟨fun r2 => ⟨Or.inl rfl, ?_⟩, fun r2 => ⟨Or.inr rfl, ?_⟩⟩
      · rw [decide_eq_false r2] at h; exact h
      · rw [decide_eq_true r2] at h; exact h
  | error e => exact ⟨fun _ => ⟨Or.inl rfl, h⟩, fun r => absurd (h9.1.symm.trans r) h9.2.1⟩
theorem rc_fail {Q : Sg → Prop} {c : Int32} (hd : 1 ≤ d) (hS : StC tx n σ0 σ x s sg op a b) (hab : a ≤ b) (hc : c ≠ 0) (h : ∀ σ', StC tx n σ0 σ' (flR c x) s sg op a b → Q σ') : OkV w d m_Reader_fail [vR 17, vI c] σ Q := by
  have hm := hS.many hab
  obtain ⟨g1, g2, g3, g4, g5, g6, g7, g8, g9⟩ := hS
  refine v_Reader_fail _ _ hd ?_
  cases x with
  | ok q =>
    obtain ⟨i1, i2, i3, i4, i5, i6, i7, i8, i9, i10, i11⟩ := g9
    refine ⟨fun r => absurd i1 r, fun _ => h _ ?_⟩
    refine ⟨(g1.wI rfl).wI rfl, ⟨g2.1, by simp [wI_1, g2.2.1], fun i hi => by simp [wI_1]; exact g2.2.2 i hi⟩, g3, g4.cong (fun i hi j _ => by simp only [wI_1]; rw [if_neg (by omega), if_neg (by omega)]), by simp [wI_1, g5], ⟨by simp [wI_1, g6.1], by simp [wI_1, g6.2.1], fun i hi => by simp [wI_1]; exact g6.2.2.1 i hi, fun i hi => by simp [wI_1]; exact g6.2.2.2 i hi⟩, g7, g8, ?_⟩
    exact ⟨by simp [wI_1], hc, by simp [wI_1, i3], hm⟩
  | error e =>
    refine ⟨fun _ => h _ ⟨g1, g2, g3, g4, g5, g6, g7, g8, g9⟩, fun r => absurd (g9.1.symm.trans r) g9.2.1⟩
/-- the next token, and a look at its fault -/
theorem rc_next0 {Q : Sg → Prop} {q : PS} {a' d1 d2 : Nat} (hd1 : 6 ≤ d1) (hd2 : 1 ≤ d2) (g1 : Fr rdF σ0 σ) (g2 : TX σ tx n) (g3 : n ≤ 1300) (g4 : NM σ 8 s) (g5 : σ.1 7 9 = nI s.1) (g6 : SkC σ sg op) (g7 : ∀ c, c ∈ op → c < s.1 ∧ rp (s.2 c) = -1) (g8 : op.Nodup) (i1 : σ.1 17 2 = 0) (i2 : σ.1 5 8 = 0) (i6 : σ.1 5 4 = nI (sB q)) (i7 : NmC σ (sN q)) (i8 : σ.1 17 4 = nI (sD q)) (i9 : σ.1 17 5 = nI (sS q)) (i10 : InvS n q) (hm : s.1 ≤ b) (ha : ∀ r, nxS tx n q = .ok r → s.1 + 4 * (n - sF r) ≤ a')
    (h : ∀ σ', StC tx n σ0 σ' (nxS tx n q) s sg op a' b → Q σ') : OkV w d1 m_Tokens_next [vR 5] σ (fun s1 => OkV w d2 m_Reader_check [vR 17] s1 (fun s2 => Q s2)) := by
  refine tk_next (by omega) g2 i7 i2 (by have := i10.2.2.1; have := i10.2.2.2.2.1; omega) (by have := i10.2.2.1; have := i10.2.2.2.2.2.1; omega) i6 i10.2.2.1 (fun υ hυ => ?_)
  obtain ⟨t1, t2, t3, t4, t5, t6⟩ := hυ
  have h40 : υ.1 4 0 = σ.1 4 0 := by rw [t5.2.1 0 (Nat.zero_le _), i7.2.1 0 (Nat.zero_le _)]; rfl
  have hF : Fr rdF σ υ := by
    refine ⟨fun k j r => ?_, t6.2⟩
    by_cases e : k = 4 ∧ j = 0
    · rw [e.1, e.2]; exact h40
    · refine t6.1 k j ?_
      cases hl : lxF k j with
      | false => rfl
      | true =>
        exfalso
        have : k = 2 ∨ k = 3 ∨ k = 4 ∨ k = 5 ∨ k = 6 := by
          unfold lxF txF tkF nmF at hl
          simp only [Bool.or_eq_true, Bool.and_eq_true, Nat.beq_eq] at hl
          omega
        have hn : (Nat.beq k 4 && Nat.beq j 0) = false := by
          rw [Bool.eq_false_iff]
          intro q
          rw [Bool.and_eq_true, Nat.beq_eq, Nat.beq_eq] at q
          exact e q
        unfold rdF at r
        rw [hn] at r
        rcases this with e | e | e | e | e <;> subst e <;> exact absurd r (by decide)
  have r17 : υ.1 17 2 = 0 := by rw [t6.1 17 2 rfl]; exact i1
  refine v_Reader_check _ (by omega) ?_
  have base : ∀ τ, Fr rdF σ τ → (∀ j, j ≠ 2 → j ≠ 3 → τ.1 17 j = υ.1 17 j) → (∀ k j, k ≠ 17 → τ.1 k j = υ.1 k j) → ∀ y, PsC n τ y s.1 a' b → StC tx n σ0 τ y s sg op a' b := by
    intro τ k1 k2 k3 y hy
    refine ⟨g1.trans k1, ⟨g2.1, by rw [k3 5 3 (by decide), t6.1 5 3 rfl]; exact g2.2.1, fun i hi => by rw [k3 1 i (by decide), t6.1 1 i rfl]; exact g2.2.2 i hi⟩, g3, g4.cong (fun i hi j _ => ?_), by rw [k3 7 9 (by decide), t6.1 7 9 rfl]; exact g5, ⟨by rw [k2 9 (by decide) (by decide), t6.1 17 9 rfl]; exact g6.1, by rw [k2 10 (by decide) (by decide), t6.1 17 10 rfl]; exact g6.2.1, fun i hi => by rw [k3 18 i (by decide), k3 19 i (by decide), t6.1 18 i rfl, t6.1 19 i rfl]; exact g6.2.2.1 i hi, fun i hi => by rw [k3 20 i (by decide), t6.1 20 i rfl]; exact g6.2.2.2 i hi⟩, g7, g8, hy⟩
    rw [k3 (8 + i) j (by omega), t6.1 (8 + i) j]
    rcases (by omega : i = 0 ∨ i = 1 ∨ i = 2 ∨ i = 3 ∨ i = 4 ∨ i = 5 ∨ i = 6) with e | e | e | e | e | e | e <;> subst e <;> rfl
  by_cases h0 : (lexS tx n (sB q) (sN q)).2.1.1 = 0
  · rw [h0] at t2
    refine ⟨fun _ => ?_, fun r => absurd t2 r⟩
    have e1 : nxS tx n q = .ok ((lexS tx n (sB q) (sN q)).1, (lexS tx n (sB q) (sN q)).2.1.2.1, (lexS tx n (sB q) (sN q)).2.1.2.2.1, (lexS tx n (sB q) (sN q)).2.1.2.2.2, (lexS tx n (sB q) (sN q)).2.2, sD q, sS q) := by unfold nxS; rw [if_pos h0]
    have o := nx_ok e1 i10
    have ha := ha _ e1
    rw [e1] at h
    refine h υ (base υ hF (fun _ _ _ => rfl) (fun _ _ _ => rfl) _ ?_)
    have t4 := t4 h0
    exact ⟨r17, t2, t1, t3, t4.1, t4.2, t5, by rw [t6.1 17 4 rfl]; exact i8, by rw [t6.1 17 5 rfl]; exact i9, o.1, ha⟩
  · have e1 : nxS tx n q = .error ((lexS tx n (sB q) (sN q)).2.1.1, (lexS tx n (sB q) (sN q)).1) := by unfold nxS; rw [if_neg h0]
    rw [e1] at h
    refine ⟨fun r => absurd (t2.symm.trans r) h0, fun _ => ⟨fun r => absurd r17 r, fun _ => ?_⟩⟩
    refine h _ (base _ ((hF.wI rfl).wI rfl) (fun j h1 h2 => by simp only [wI_1]; rw [if_neg (by omega), if_neg (by omega)]) (fun k j hk => by simp only [wI_1]; rw [if_neg (by omega), if_neg (by omega)]) _ ?_)
    exact ⟨by simp [wI_1, t2], h0, by simp [wI_1, t1], hm⟩
/-- the next token; a token that is no END pays for four nodes -/
theorem rc_next {Q : Sg → Prop} {a' : Nat} (hd : 8 ≤ d) (hS : StC tx n σ0 σ x s sg op a b) (hab : a ≤ b) (ha : ∀ q, x = .ok q → a ≤ a' + 4 ∧ (sK q = 0 → a ≤ a')) (h : ∀ σ', StC tx n σ0 σ' (nxR tx n x) s sg op a' b → Q σ') : OkV w d m_Reader_next [vR 17] σ Q := by
  have hm := hS.many hab
  obtain ⟨g1, g2, g3, g4, g5, g6, g7, g8, g9⟩ := hS
  refine v_Reader_next _ (by omega) ?_
  cases x with
  | error e => exact ⟨fun _ => h _ ⟨g1, g2, g3, g4, g5, g6, g7, g8, g9⟩, fun r => absurd (g9.1.symm.trans r) g9.2.1⟩
  | ok q =>
    obtain ⟨i1, i2, i3, i4, i5, i6, i7, i8, i9, i10, i11⟩ := g9
    refine ⟨fun r => absurd i1 r, fun _ => ?_⟩
    refine rc_next0 (by omega) (by omega) g1 g2 g3 g4 g5 g6 g7 g8 i1 i2 i6 i7 i8 i9 i10 hm (fun r hr => ?_) h
    have o := nx_ok hr i10
    have o1 := o.1.1
    have o2 := o.2.1
    have hA := ha q rfl
    by_cases hk : sK q = 0
    · have := hA.2 hk
      have := i10.2.1
      omega
    · have := hA.1
      have := i10.2.2.2.1 hk
      omega
theorem rc_word {Q : Sg → Prop} {k : Int32} {a' : Nat} (hd : 9 ≤ d) (hS : StC tx n σ0 σ x s sg op a b) (hab : a ≤ b) (ha : a ≤ a' + 4) (h : ∀ σ', StC tx n σ0 σ' (wtR tx n (isW x k) x) s sg op a' b → Q σ') : OkV w d m_Reader_word [vR 17, vI k] σ Q := by
  refine v_Reader_word _ _ (by omega) (rc_isW (by omega) hS ?_)
  unfold wtR at h
  refine ⟨fun r => ?_, fun r => ?_⟩
  · rw [b2_0.mp r, if_neg (by decide)] at h
    refine rc_fail (by omega) hS hab (by decide) (fun σ' hσ' => h σ' ?_)
    cases x with
    | ok q => exact ⟨hσ'.1, hσ'.2.1, hσ'.2.2.1, hσ'.2.2.2.1, hσ'.2.2.2.2.1, hσ'.2.2.2.2.2.1, hσ'.2.2.2.2.2.2.1, hσ'.2.2.2.2.2.2.2.1, hσ'.2.2.2.2.2.2.2.2⟩
    | error e => exact ⟨hσ'.1, hσ'.2.1, hσ'.2.2.1, hσ'.2.2.2.1, hσ'.2.2.2.2.1, hσ'.2.2.2.2.2.1, hσ'.2.2.2.2.2.2.1, hσ'.2.2.2.2.2.2.2.1, hσ'.2.2.2.2.2.2.2.2⟩
  · have r := b2_n0.mp r
    rw [r, if_pos rfl] at h
    refine rc_next (by omega) hS hab (fun q hq => ⟨ha, fun hk => ?_⟩) h
    subst hq
    unfold isW at r
    simp only [Bool.and_eq_true, decide_eq_true_eq] at r
    rw [hk] at r; exact absurd r.1 (by decide)
theorem rc_sign {Q : Sg → Prop} {k : Int32} {a' : Nat} (hd : 9 ≤ d) (hS : StC tx n σ0 σ x s sg op a b) (hab : a ≤ b) (ha : a ≤ a' + 4) (h : ∀ σ', StC tx n σ0 σ' (wtR tx n (isS x k) x) s sg op a' b → Q σ') : OkV w d m_Reader_sign [vR 17, vI k] σ Q := by
  refine v_Reader_sign _ _ (by omega) (rc_isS (by omega) hS ?_)
  unfold wtR at h
  refine ⟨fun r => ?_, fun r => ?_⟩
  · rw [b2_0.mp r, if_neg (by decide)] at h
    refine rc_fail (by omega) hS hab (by decide) (fun σ' hσ' => h σ' ?_)
    cases x with
    | ok q => exact ⟨hσ'.1, hσ'.2.1, hσ'.2.2.1, hσ'.2.2.2.1, hσ'.2.2.2.2.1, hσ'.2.2.2.2.2.1, hσ'.2.2.2.2.2.2.1, hσ'.2.2.2.2.2.2.2.1, hσ'.2.2.2.2.2.2.2.2⟩
    | error e => exact ⟨hσ'.1, hσ'.2.1, hσ'.2.2.1, hσ'.2.2.2.1, hσ'.2.2.2.2.1, hσ'.2.2.2.2.2.1, hσ'.2.2.2.2.2.2.1, hσ'.2.2.2.2.2.2.2.1, hσ'.2.2.2.2.2.2.2.2⟩
  · have r := b2_n0.mp r
    rw [r, if_pos rfl] at h
    refine rc_next (by omega) hS hab (fun q hq => ⟨ha, fun hk => ?_⟩) h
    subst hq
    unfold isS at r
    simp only [Bool.and_eq_true, decide_eq_true_eq] at r
    rw [hk] at r; exact absurd r.1 (by decide)
theorem rc_takes {Q : Int32 → Sg → Prop} {k : Int32} (hd : 9 ≤ d) (hS : StC tx n σ0 σ x s sg op a b) (hab : a ≤ b) (h : isS x k = false → Q 0 σ) (h' : isS x k = true → ∀ σ', StC tx n σ0 σ' (nxR tx n x) s sg op (a - 4) b → Q 1 σ') : OkI w d m_Reader_takes [vR 17, vI k] σ Q := by
  refine v_Reader_takes _ _ (by omega) (rc_isS (by omega) hS ?_)
  refine ⟨fun r => ?_, fun r => ?_⟩
  · have r2 := b2_0.mp r
    rw [r2]
    exact ⟨Or.inl rfl, h r2⟩
  · have r2 := b2_n0.mp r
    rw [r2]
    refine rc_next (by omega) hS hab (fun q hq => ⟨by omega, fun hk => ?_⟩) (fun σ' hσ' => ⟨Or.inr rfl, h' r2 σ' hσ'⟩)
    subst hq
    unfold isS at r2
    simp only [Bool.and_eq_true, decide_eq_true_eq] at r2
    rw [hk] at r2; exact absurd r2.1 (by decide)
theorem rc_name {Q : Int32 → Sg → Prop} {a' : Nat} (hd : 9 ≤ d) (hS : StC tx n σ0 σ x s sg op a b) (hab : a ≤ b) (ha : a ≤ a' + 4) (h : ∀ σ' v, (isK x 1 = true → v = vaI x) → StC tx n σ0 σ' (wtR tx n (isK x 1) x) s sg op a' b → Q v σ') : OkI w d m_Reader_name [vR 17] σ Q := by
  refine v_Reader_name _ (by omega) (rc_isK (by omega) hS ?_)
  unfold wtR at h
  refine ⟨fun r => ?_, fun r => ?_⟩
  · have r := b2_n0.mp r
    rw [r, if_pos rfl] at h
    have hk : ∀ q, x = .ok q → sK q = 1 := fun q hq => by subst hq; exact of_decide_eq_true r
    refine rc_next (by omega) hS hab (fun q hq => ⟨ha, fun k0 => ?_⟩) (fun σ' hσ' => h σ' _ (fun _ => ?_) hσ')
    · rw [hk q hq] at k0; exact absurd k0 (by decide)
    · cases x with
      | ok q => exact hS.2.2.2.2.2.2.2.2.2.2.2.2.1 (by rw [hk q rfl]; decide)
      | error e => exact absurd r (show ¬ false = true by decide)
  · have r := b2_0.mp r
    rw [r, if_neg (by decide)] at h
    refine rc_fail (by omega) hS hab (by decide) (fun σ' hσ' => h σ' _ (fun q => absurd q (by decide)) ?_)
    cases x with
    | ok q => exact ⟨hσ'.1, hσ'.2.1, hσ'.2.2.1, hσ'.2.2.2.1, hσ'.2.2.2.2.1, hσ'.2.2.2.2.2.1, hσ'.2.2.2.2.2.2.1, hσ'.2.2.2.2.2.2.2.1, hσ'.2.2.2.2.2.2.2.2⟩
    | error e => exact ⟨hσ'.1, hσ'.2.1, hσ'.2.2.1, hσ'.2.2.2.1, hσ'.2.2.2.2.1, hσ'.2.2.2.2.2.1, hσ'.2.2.2.2.2.2.1, hσ'.2.2.2.2.2.2.2.1, hσ'.2.2.2.2.2.2.2.2⟩
/-- a write to the reader's depth, in a state of a fault or with the new depth told -/
theorem StC.dep {v : Int32} {y : RS} (h : StC tx n σ0 σ x s sg op a b) (hy : ∀ e, x = .error e → y = x) (hy' : ∀ q, x = .ok q → ∃ k, y = .ok (sDS q k (sS q)) ∧ v = nI k ∧ k ≤ 60) : StC tx n σ0 (wI σ 17 4 v) y s sg op a b := by
  obtain ⟨g1, g2, g3, g4, g5, g6, g7, g8, g9⟩ := h
  refine ⟨g1.wI rfl, ⟨g2.1, by simp [wI_1, g2.2.1], fun i hi => by simp [wI_1]; exact g2.2.2 i hi⟩, g3, g4.cong (fun i hi j _ => by simp only [wI_1]; rw [if_neg (by omega)]), by simp [wI_1, g5], ⟨by simp [wI_1, g6.1], by simp [wI_1, g6.2.1], fun i hi => by simp [wI_1]; exact g6.2.2.1 i hi, fun i hi => by simp [wI_1]; exact g6.2.2.2 i hi⟩, g7, g8, ?_⟩
  cases x with
  | error e => rw [hy e rfl]; exact ⟨by simp [wI_1, g9.1], g9.2.1, by simp [wI_1, g9.2.2.1], g9.2.2.2⟩
  | ok q =>
    obtain ⟨k, e1, e2, e3⟩ := hy' q rfl
    subst e1 e2
    obtain ⟨i1, i2, i3, i4, i5, i6, i7, i8, i9, i10, i11⟩ := g9
    obtain ⟨j1, j2, j3, j4, j5, j6, j7⟩ := i10
    exact ⟨by simp [wI_1, i1], by simp [wI_1, i2], by simp [wI_1]; exact i3, by simp [wI_1]; exact i4, fun r => by simp [wI_1]; exact i5 r, by simp [wI_1]; exact i6, i7.cg (fun _ => by simp [wI_1]) (fun _ => by simp [wI_1]) (fun _ => by simp [wI_1]), by simp [wI_1]; rfl, by simp [wI_1]; exact i9, ⟨j1, j2, j3, j4, j5, j6, e3⟩, i11⟩
theorem StC.close (h : StC tx n σ0 σ x s sg op a b) (hd : ∀ q, x = .ok q → 1 ≤ sD q) : StC tx n σ0 (wI σ 17 4 (σ.1 17 4 - 1)) (clR x) s sg op a b := by
  refine h.dep (fun e he => by rw [he]; rfl) (fun q hq => ?_)
  have := hd q hq
  subst hq
  have h9 := h.2.2.2.2.2.2.2.2
  obtain ⟨i1, i2, i3, i4, i5, i6, i7, i8, i9, i10, i11⟩ := h9
  refine ⟨sD q - 1, rfl, ?_, by have := i10.2.2.2.2.2.2; omega⟩
  rw [i8]
  have e : nI (sD q) = nI (sD q - 1 + 1) := by congr 1; omega
  rw [e, nI_pred]
theorem rc_open {Q : Sg → Prop} (hd : 2 ≤ d) (hS : StC tx n σ0 σ x s sg op a b) (hab : a ≤ b) (h : ∀ σ', StC tx n σ0 σ' (opR x) s sg op a b → Q σ') : OkV w d m_Reader_open [vR 17] σ Q := by
  refine v_Reader_open _ (by omega) ?_
  cases x with
  | error e =>
    have hS' : StC tx n σ0 (wI σ 17 4 (σ.1 17 4 + 1)) (.error e) s sg op a b := hS.dep (fun _ _ => rfl) (fun q hq => by cases hq)
    exact ⟨fun _ => h _ hS', fun _ => rc_fail (by omega) hS' hab (by decide) (fun σ' hσ' => h σ' hσ')⟩
  | ok q =>
    have h9 := hS.2.2.2.2.2.2.2.2
    obtain ⟨i1, i2, i3, i4, i5, i6, i7, i8, i9, i10, i11⟩ := h9
    have hd60 := i10.2.2.2.2.2.2
    rw [i8, nI_1]
    have z : (60 : Int32) = nI 60 := rfl
    rw [z, nI_leI (by omega) (by decide)]
    unfold opR at h
    dsimp only at h
    refine ⟨fun r => ?_, fun r => ?_⟩
    · rw [if_neg (by omega)] at h
      exact h _ (hS.dep (fun e he => by cases he) (fun q' hq => by cases hq; exact ⟨sD q + 1, rfl, rfl, r⟩))
    · rw [if_pos (by omega)] at h
      have hm := hS.many hab
      obtain ⟨g1, g2, g3, g4, g5, g6, g7, g8, g9⟩ := hS
      refine v_Reader_fail _ _ (by omega) ⟨fun r => absurd (by simp [wI_1, i1]) r, fun _ => h _ ?_⟩
      refine ⟨((g1.wI rfl).wI rfl).wI rfl, ⟨g2.1, by simp [wI_1, g2.2.1], fun i hi => by simp [wI_1]; exact g2.2.2 i hi⟩, g3, g4.cong (fun i hi j _ => by simp only [wI_1]; rw [if_neg (by omega), if_neg (by omega), if_neg (by omega)]), by simp [wI_1, g5], ⟨by simp [wI_1, g6.1], by simp [wI_1, g6.2.1], fun i hi => by simp [wI_1]; exact g6.2.2.1 i hi, fun i hi => by simp [wI_1]; exact g6.2.2.2 i hi⟩, g7, g8, ?_⟩
      exact ⟨by simp [wI_1], show ¬ (7 : Int32) = 0 by decide, by simp [wI_1, i3], hm⟩
/-- nodes -/
def Liv (s : NS) (p : Nat) : Prop := p < s.1 ∧ rp (s.2 p) ≠ -2
theorem addN_lt {k p v : Int32} {j : Nat} (h : j < s.1) : (addN s k p v).2 j = s.2 j := by show upR s.2 s.1 _ j = _; rw [upR_at, if_neg (by omega)]
theorem nc_add {Q : Int32 → Sg → Prop} {k p v : Int32} (hd : 1 ≤ d) (hS : StC tx n σ0 σ x s sg op a b) (hab : a ≤ b) (hb : b < 33500) (h : ∀ σ', StC tx n σ0 σ' x (addN s k p v) sg op (a + 1) (b + 1) → Q (nI s.1) σ') : OkI w d m_Nodes_add [vR 7, vI k, vI p, vI v] σ Q := by
  have hm := hS.many hab
  obtain ⟨g1, g2, g3, g4, g5, g6, g7, g8, g9⟩ := hS
  refine v_Nodes_add _ _ _ _ hd ?_
  rw [g5, nI_clamp (by omega), nI_1]
  have hin : vp_in (nI s.1) 33500 := vp_in_nI (by omega) (by omega)
  refine ⟨hin, hin, hin, hin, hin, hin, hin, h _ ?_⟩
  refine ⟨(((((((g1.wI rfl).wI rfl).wI rfl).wI rfl).wI rfl).wI rfl).wI rfl).wI rfl, ⟨g2.1, by simp [wI_1, g2.2.1], fun i hi => by simp [wI_1]; exact g2.2.2 i hi⟩, g3, ?_, by simp [wI_1]; rfl, ⟨by simp [wI_1, g6.1], by simp [wI_1, g6.2.1], fun i hi => by simp [wI_1]; exact g6.2.2.1 i hi, fun i hi => by simp [wI_1]; exact g6.2.2.2 i hi⟩, fun c hc => ?_, g8, ?_⟩
  · refine g4.add (by omega) (by simp [wI_1]) (by simp [wI_1]) (by simp [wI_1]) (by simp [wI_1]) (by simp [wI_1]) (by simp [wI_1]) (by simp [wI_1]) (fun i hi j hj => ?_)
    simp only [wI_1]
    rw [if_neg (by omega), if_neg (by omega), if_neg (by omega), if_neg (by omega), if_neg (by omega), if_neg (by omega), if_neg (by omega), if_neg (by omega)]
  · have := g7 c hc
    exact ⟨by show c < s.1 + 1; omega, by rw [addN_lt this.1]; exact this.2⟩
  · cases x with
    | error e => exact ⟨by simp [wI_1, g9.1], g9.2.1, by simp [wI_1, g9.2.2.1], by show s.1 + 1 ≤ b + 1; have := g9.2.2.2; omega⟩
    | ok q =>
      obtain ⟨i1, i2, i3, i4, i5, i6, i7, i8, i9, i10, i11⟩ := g9
      exact ⟨by simp [wI_1, i1], by simp [wI_1, i2], by simp [wI_1]; exact i3, by simp [wI_1]; exact i4, fun r => by simp [wI_1]; exact i5 r, by simp [wI_1]; exact i6, i7.cg (fun _ => by simp [wI_1]) (fun _ => by simp [wI_1]) (fun _ => by simp [wI_1]), by simp [wI_1]; exact i8, by simp [wI_1]; exact i9, i10, by show s.1 + 1 + _ ≤ a + 1; omega⟩
theorem putN_n {p c j : Nat} (h1 : j ≠ p) (h2 : j ≠ c) : (putN s p c).2 j = s.2 j := by
  show upR _ p _ j = _
  rw [upR_at, if_neg h1, upR_at, if_neg h2]
theorem putN_rp {p c j : Nat} (h2 : j ≠ c) : rp ((putN s p c).2 j) = rp (s.2 j) := by
  show rp (upR _ p _ j) = _
  rw [upR_at]
  split
  · rename_i e; rw [e]; rfl
  · rw [upR_at, if_neg h2]
theorem nc_put {Q : Sg → Prop} {p c : Nat} {x1 x2 : Int32} (hd : 1 ≤ d) (hS : StC tx n σ0 σ x s sg op a b) (hab : a ≤ b) (hb : b ≤ 33500) (h1 : x1 = nI p) (h2 : x2 = nI c) (hp : Liv s p) (hc : c < s.1) (hpc : p ≠ c) (hco : rp (s.2 c) = -1) (hop : c ∉ op) (h : ∀ σ', StC tx n σ0 σ' x (putN s p c) sg op a b → Q σ') : OkV w d m_Nodes_put [vR 7, vI x1, vI x2] σ Q := by
  subst h1 h2
  have hm := hS.many hab
  obtain ⟨g1, g2, g3, g4, g5, g6, g7, g8, g9⟩ := hS
  have hpl := hp.2
  have hp := hp.1
  refine v_Nodes_put _ _ _ hd ?_
  rw [nI_clamp (by omega), nI_clamp (by omega)]
  obtain ⟨p0, p1, p2, p3, p4, p5, p6, p7, p8, p9⟩ := g4 p hp hpl
  have hinp : vp_in (nI p) 33500 := vp_in_nI (by omega) (by omega)
  have hinc : vp_in (nI c) 33500 := vp_in_nI (by omega) (by omega)
  have hd4 : hdI (rc (s.2 p)) = -1 ↔ rc (s.2 p) = [] := hdI_neg (fun e he => by have := (p8 e he).1; omega)
  have e12 : σ.1 12 p = hdI (rc (s.2 p)) := p4
  have e13 : σ.1 13 p = laI (rc (s.2 p)) := p5
  rw [e12, e13, hd4]
  have fin : ∀ τ, Fr rdF σ0 τ → (∀ k j, ¬ (k = 11 ∨ k = 12 ∨ k = 13 ∨ k = 14) → τ.1 k j = σ.1 k j) → NM τ 8 (putN s p c) → Q τ := by
    intro τ f1 f2 f3
    refine h τ ⟨f1, ⟨g2.1, by rw [f2 5 3 (by decide)]; exact g2.2.1, fun i hi => by rw [f2 1 i (by decide)]; exact g2.2.2 i hi⟩, g3, f3, by rw [f2 7 9 (by decide)]; exact g5, ⟨by rw [f2 17 9 (by decide)]; exact g6.1, by rw [f2 17 10 (by decide)]; exact g6.2.1, fun i hi => by rw [f2 18 i (by decide), f2 19 i (by decide)]; exact g6.2.2.1 i hi, fun i hi => by rw [f2 20 i (by decide)]; exact g6.2.2.2 i hi⟩, fun e he => ?_, g8, ?_⟩
    · have := g7 e he
      exact ⟨this.1, by rw [putN_rp (by intro q; exact hop (q ▸ he))]; exact this.2⟩
    · cases x with
      | error e => exact ⟨by rw [f2 17 2 (by decide)]; exact g9.1, g9.2.1, by rw [f2 17 3 (by decide)]; exact g9.2.2.1, g9.2.2.2⟩
      | ok q =>
        obtain ⟨i1, i2, i3, i4, i5, i6, i7, i8, i9, i10, i11⟩ := g9
        exact ⟨by rw [f2 17 2 (by decide)]; exact i1, by rw [f2 5 8 (by decide)]; exact i2, by rw [f2 5 6 (by decide)]; exact i3, by rw [f2 5 5 (by decide)]; exact i4, fun r => by rw [f2 5 7 (by decide)]; exact i5 r, by rw [f2 5 4 (by decide)]; exact i6, i7.cg (fun j => f2 2 j (by decide)) (fun j => f2 3 j (by decide)) (fun j => f2 4 j (by decide)), by rw [f2 17 4 (by decide)]; exact i8, by rw [f2 17 5 (by decide)]; exact i9, i10, i11⟩
  refine ⟨hinc, hinp, fun hne => ⟨hinp, ?_, hinp, ?_⟩, fun he => ⟨hinp, hinp, ?_⟩⟩
  · obtain ⟨l, hl, el⟩ := laI_mem hne
    have := (p8 l hl).1
    rw [el]; exact vp_in_nI (by omega) (by omega)
  · obtain ⟨l, hl, el⟩ := laI_mem hne
    have hlm := (p8 l hl).1
    rw [el, nI_clamp (by omega)]
    refine fin _ (((g1.wI rfl).wI rfl).wI rfl) (fun k j hk => by simp only [wI_1]; rw [if_neg (by omega), if_neg (by omega), if_neg (by omega)]) ?_
    have hiff : ∀ e, e < s.1 → (nI e = laI (rc (s.2 p)) ↔ e = l) := fun e he => by rw [el]; exact nI_eq (by omega) (by omega)
    refine g4.put (by omega) hp hc hpc hpl hco (by simp [wI_1]) (by simp [wI_1, hne]; exact e12) (by simp [wI_1]) (fun e he hes => ?_) (fun j _ => by simp [wI_1]) (fun j _ => by simp [wI_1]) (fun j _ => by simp [wI_1]) (fun j _ hj => by simp [wI_1, hj]) (fun j _ hj => by simp [wI_1, hj]) (fun j _ hj => by simp [wI_1, hj]) (fun e hes he => ?_)
    · rw [(hiff e hes).mp he]; simp [wI_1]
    · have : ¬ e = l := fun q => he ((hiff e hes).mpr q)
      simp [wI_1, this]
  · refine fin _ (((g1.wI rfl).wI rfl).wI rfl) (fun k j hk => by simp only [wI_1]; rw [if_neg (by omega), if_neg (by omega), if_neg (by omega)]) ?_
    refine g4.put (by omega) hp hc hpc hpl hco (by simp [wI_1]) (by simp [wI_1, he]) (by simp [wI_1]) (fun e hq hes => ?_) (fun j _ => by simp [wI_1]) (fun j _ => by simp [wI_1]) (fun j _ => by simp [wI_1]) (fun j _ hj => by simp [wI_1, hj]) (fun j _ hj => by simp [wI_1, hj]) (fun j _ hj => by simp [wI_1, hj]) (fun e hes hq => by simp [wI_1])
    rw [he] at hq
    exact absurd hq (nI_nm1 (by omega))
theorem addN_top {k p v : Int32} : (addN s k p v).2 s.1 = (k, p, v, -1, []) := by show upR s.2 s.1 _ s.1 = _; rw [upR_at, if_pos rfl]
/-- a new node below p, at the token at hand -/
theorem rc_add {Q : Int32 → Sg → Prop} {k v : Int32} {p : Nat} {x1 : Int32} (hd : 2 ≤ d) (hS : StC tx n σ0 σ x s sg op a b) (hab : a ≤ b) (hb : b < 33500) (h1 : x1 = nI p) (hp : Liv s p) (h : ∀ σ' q, (isO x = true → q = frI x) → (isO x = true → isK x 0 = false → σ'.1 5 7 = vaI x) → StC tx n σ0 σ' x (putN (addN s k q v) p s.1) sg op (a + 1) (b + 1) → Q (nI s.1) σ') : OkI w d m_Reader_add [vR 17, vI x1, vI k, vI v] σ Q := by
  have h6 : isO x = true → σ.1 5 6 = frI x := by
    intro q
    cases x with
    | ok r => exact hS.2.2.2.2.2.2.2.2.2.2.1
    | error e => exact absurd q (show ¬ false = true by decide)
  have hq := hS.2.2.2.2.2.2.1
  refine v_Reader_add _ _ _ _ (by omega) (nc_add (by omega) hS hab hb (fun σ1 hS1 => ?_))
  refine nc_put (by omega) hS1 (by omega) (by omega) h1 rfl ⟨Nat.lt_succ_of_lt hp.1, by rw [addN_lt hp.1]; exact hp.2⟩ (Nat.lt_succ_self _) (by have := hp.1; omega) (by rw [addN_top]; rfl) (fun r => by have := (hq _ r).1; omega) (fun σ2 hS2 => h σ2 _ h6 (fun o k0 => ?_) hS2)
  cases x with
  | ok r => exact hS2.2.2.2.2.2.2.2.2.2.2.2.2.1 (of_decide_eq_false k0)
  | error e => exact absurd o (show ¬ false = true by decide)
theorem setN_rp {m j : Nat} {q : Nd} : rp ((setN s m q).2 j) = rp (s.2 j) := by
  show rp (upR s.2 m _ j) = _
  rw [upR_at]
  split
  · rename_i e; rw [e]; rfl
  · rfl
/-- a node's place or value is told anew -/
theorem StC.set {τ : Sg} {m : Nat} {q : Nd} (hS : StC tx n σ0 σ x s sg op a b) (hm : m < s.1) (hF : Fr rdF σ τ) (h0 : τ.1 8 m = q.1) (h1 : τ.1 9 m = q.2.1) (h2 : τ.1 10 m = q.2.2) (g : ∀ k j, ¬ ((k = 9 ∨ k = 10) ∧ j = m) → τ.1 k j = σ.1 k j) : StC tx n σ0 τ x (setN s m q) sg op a b := by
  obtain ⟨g1, g2, g3, g4, g5, g6, g7, g8, g9⟩ := hS
  refine ⟨g1.trans hF, ⟨g2.1, by rw [g 5 3 (by omega)]; exact g2.2.1, fun i hi => by rw [g 1 i (by omega)]; exact g2.2.2 i hi⟩, g3, ?_, by rw [g 7 9 (by omega)]; exact g5, ⟨by rw [g 17 9 (by omega)]; exact g6.1, by rw [g 17 10 (by omega)]; exact g6.2.1, fun i hi => by rw [g 18 i (by omega), g 19 i (by omega)]; exact g6.2.2.1 i hi, fun i hi => by rw [g 20 i (by omega)]; exact g6.2.2.2 i hi⟩, fun e he => ⟨(g7 e he).1, by rw [setN_rp]; exact (g7 e he).2⟩, g8, ?_⟩
  · exact g4.set hm h0 h1 h2 (fun j _ hj => g _ _ (by omega)) (fun j _ hj => g _ _ (by omega)) (fun j _ hj => g _ _ (by omega)) (fun i h3 h6 j _ => g _ _ (by omega))
  · cases x with
    | error e => exact ⟨by rw [g 17 2 (by omega)]; exact g9.1, g9.2.1, by rw [g 17 3 (by omega)]; exact g9.2.2.1, g9.2.2.2⟩
    | ok q =>
      obtain ⟨i1, i2, i3, i4, i5, i6, i7, i8, i9, i10, i11⟩ := g9
      exact ⟨by rw [g 17 2 (by omega)]; exact i1, by rw [g 5 8 (by omega)]; exact i2, by rw [g 5 6 (by omega)]; exact i3, by rw [g 5 5 (by omega)]; exact i4, fun r => by rw [g 5 7 (by omega)]; exact i5 r, by rw [g 5 4 (by omega)]; exact i6, i7.cg (fun j => g 2 j (by omega)) (fun j => g 3 j (by omega)) (fun j => g 4 j (by omega)), by rw [g 17 4 (by omega)]; exact i8, by rw [g 17 5 (by omega)]; exact i9, i10, i11⟩
theorem StC.setV {m : Nat} {k p v u : Int32} (hS : StC tx n σ0 σ x s sg op a b) (hm : Liv s m) (hk : rk (s.2 m) = (k, p, u)) : StC tx n σ0 (wI σ 10 m v) x (setN s m (k, p, v)) sg op a b := by
  obtain ⟨p0, p1, p2, p3, p4, p5, p6, p7, p8, p9⟩ := hS.2.2.2.1 m hm.1 hm.2
  unfold rk at hk
  simp only [Prod.mk.injEq] at hk
  refine hS.set hm.1 (Fr.rfl'.wI rfl) ?_ ?_ ?_ (fun k j h => ?_)
  · rw [wI_1, if_neg (by omega)]; exact p0.trans hk.1
  · rw [wI_1, if_neg (by omega)]; exact p1.trans hk.2.1
  · rw [wI_1, if_pos ⟨rfl, rfl⟩]
  · rw [wI_1, if_neg (by omega)]
theorem StC.setP {m : Nat} {k p v u : Int32} (hS : StC tx n σ0 σ x s sg op a b) (hm : Liv s m) (hk : rk (s.2 m) = (k, u, v)) : StC tx n σ0 (wI σ 9 m p) x (setN s m (k, p, v)) sg op a b := by
  obtain ⟨p0, p1, p2, p3, p4, p5, p6, p7, p8, p9⟩ := hS.2.2.2.1 m hm.1 hm.2
  unfold rk at hk
  simp only [Prod.mk.injEq] at hk
  refine hS.set hm.1 (Fr.rfl'.wI rfl) ?_ ?_ ?_ (fun k j h => ?_)
  · rw [wI_1, if_neg (by omega)]; exact p0.trans hk.1
  · rw [wI_1, if_pos ⟨rfl, rfl⟩]
  · rw [wI_1, if_neg (by omega)]; exact p2.trans hk.2.2
  · rw [wI_1, if_neg (by omega)]
/-- a forest came below p -/
def Fst (s : NS) (p : Nat) (o : Bool) (t : Tr) (s' : NS) : Prop := ∃ L, Ext s p L s' ∧ (o = true → FoN s'.2 s.1 s'.1 t L)
/-- what a method leaves that puts nodes below p -/
def PoC (tx : Nat → Int32) (n : Nat) (σ0 : Sg) (s : NS) (sg : List (Int32 × Int32)) (op : List Nat) (p : Nat) (r : RS × Tr) (a b : Nat) (σ' : Sg) : Prop :=
  ∃ s', StC tx n σ0 σ' r.1 s' sg op a b ∧ Fst s p (isO r.1) r.2 s'
theorem Ext.liv {s' : NS} {p j : Nat} {L : List Nat} (h : Ext s p L s') (hj : Liv s j) (hp : p < s.1) : Liv s' j := ⟨Nat.lt_of_lt_of_le hj.1 h.1, by rw [h.par hp j hj.1]; exact hj.2⟩
/-- the new node itself -/
theorem add_liv {k q v : Int32} {p : Nat} (hp : p < s.1) (hs : s.1 < 2 ^ 30) : Liv (putN (addN s k q v) p s.1) s.1 := by
  refine ⟨Nat.lt_succ_self _, ?_⟩
  have : (putN (addN s k q v) p s.1).2 s.1 = (k, q, v, nI p, []) := by
    show upR (upR (upR s.2 s.1 _) s.1 _) p _ s.1 = _
    rw [upR_at, if_neg (by omega), upR_at, if_pos rfl]
    rw [addN_top]; rfl
  rw [this]
  exact nI_nm2 (by omega)
theorem MO.o {x y : RS} (h : MO n x y) (hy : isO y = true) : isO x = true := by
  cases x with
  | ok q => rfl
  | error e => rw [h.1 e rfl] at hy; exact hy
theorem isK_o {k : Int32} (h : isK x k = true) : isO x = true := by cases x with | ok q => rfl | error e => exact h
theorem isW_o {k : Int32} (h : isW x k = true) : isO x = true := by cases x with | ok q => rfl | error e => exact h
theorem isS_o {k : Int32} (h : isS x k = true) : isO x = true := by cases x with | ok q => rfl | error e => exact h
theorem isW_k {k : Int32} (h : isW x k = true) : isK x 2 = true ∧ vaI x = k := by
  cases x with
  | ok q => unfold isW at h; simp only [Bool.and_eq_true, decide_eq_true_eq] at h; exact ⟨decide_eq_true h.1, h.2⟩
  | error e => exact absurd h (show ¬ false = true by decide)
theorem isS_k {k : Int32} (h : isS x k = true) : isK x 5 = true ∧ vaI x = k := by
  cases x with
  | ok q => unfold isS at h; simp only [Bool.and_eq_true, decide_eq_true_eq] at h; exact ⟨decide_eq_true h.1, h.2⟩
  | error e => exact absurd h (show ¬ false = true by decide)
theorem isK_0 {k : Int32} (h : isK x k = true) (hk : k ≠ 0) : isK x 0 = false ∧ ∀ q, x = .ok q → sK q ≠ 0 := by
  cases x with
  | ok q =>
    have h : sK q = k := of_decide_eq_true h
    exact ⟨decide_eq_false (by rw [h]; exact hk), fun q' e => by cases e; rw [h]; exact hk⟩
  | error e => exact absurd h (show ¬ false = true by decide)
theorem StC.val (hS : StC tx n σ0 σ x s sg op a b) {k : Int32} (h : isK x k = true) (hk : k ≠ 0) : σ.1 5 7 = vaI x := by
  cases x with
  | ok q => exact hS.2.2.2.2.2.2.2.2.2.2.2.2.1 ((isK_0 h hk).2 q rfl)
  | error e => exact absurd h (show ¬ false = true by decide)
theorem StC.fro (hS : StC tx n σ0 σ x s sg op a b) (h : isO x = true) : σ.1 5 6 = frI x := by
  cases x with
  | ok q => exact hS.2.2.2.2.2.2.2.2.2.2.1
  | error e => exact absurd h (show ¬ false = true by decide)
theorem StC.flt (hS : StC tx n σ0 σ x s sg op a b) : σ.1 17 2 = 0 ↔ isO x = true := by
  cases x with
  | ok q => exact ⟨fun _ => rfl, fun _ => hS.2.2.2.2.2.2.2.2.1⟩
  | error e => exact ⟨fun h => absurd (hS.2.2.2.2.2.2.2.2.1.symm.trans h) hS.2.2.2.2.2.2.2.2.2.1, fun h => absurd h (show ¬ false = true by decide)⟩
theorem Fst.nil {p : Nat} {o : Bool} : Fst s p o .leaf s := ⟨[], Ext.rfl', fun _ => rfl⟩
theorem Fst.cat {s1 s2 : NS} {p : Nat} {o1 o2 : Bool} {t u : Tr} (hp : p < s.1) (h1 : Fst s p o1 t s1) (h2 : Fst s1 p o2 u s2) (ho : o2 = true → o1 = true) : Fst s p o2 (tap t u) s2 := by
  obtain ⟨L, e1, f1⟩ := h1
  obtain ⟨M, e2, f2⟩ := h2
  exact ⟨L ++ M, e1.trans e2, fun o => FoN.join hp e1 e2 (f1 (ho o)) (f2 o)⟩
theorem Fst.node {s2 : NS} {p : Nat} {k v q q' : Int32} {o : Bool} {t : Tr} (hp : p < s.1) (h : Fst (putN (addN s k q v) p s.1) s.1 o t s2) (hq : o = true → q = q') : Fst s p o (tN (k, q', v) t .leaf) s2 := by
  obtain ⟨L, e1, f1⟩ := h
  refine ⟨[s.1], e1.node' hp, fun o => ?_⟩
  rw [← hq o]
  exact FoN.node' hp e1 (f1 o)
theorem Fst.nodeS {s2 : NS} {p : Nat} {k v q k' v' q' : Int32} {o : Bool} {t : Tr} {z : Nd} (hp : p < s.1) (h : Fst (putN (addN s k q v) p s.1) s.1 o t s2) (hq : o = true → z = (k', q', v')) : Fst s p o (tN (k', q', v') t .leaf) (setN s2 s.1 z) := by
  obtain ⟨L, e1, f1⟩ := h
  refine ⟨[s.1], e1.node hp, fun o => ?_⟩
  rw [← hq o]
  exact FoN.node hp e1 (f1 o)
theorem Fst.key {s2 : NS} {p : Nat} {k v q : Int32} {o : Bool} {t : Tr} (hp : p < s.1) (h : Fst (putN (addN s k q v) p s.1) s.1 o t s2) : rk (s2.2 s.1) = (k, q, v) := by
  obtain ⟨L, e1, f1⟩ := h
  exact e1.key hp
theorem Fst.liv {s' : NS} {p j : Nat} {o : Bool} {t : Tr} (h : Fst s p o t s') (hj : Liv s j) (hp : p < s.1) : Liv s' j := by
  obtain ⟨L, e1, f1⟩ := h
  exact e1.liv hj hp
theorem Fst.weak {s' : NS} {p : Nat} {o o' : Bool} {t : Tr} (h : Fst s p o t s') (ho : o' = true → o = true) : Fst s p o' t s' := by
  obtain ⟨L, e1, f1⟩ := h
  exact ⟨L, e1, fun q => f1 (ho q)⟩
theorem FoN.one {s' : NS} {p : Nat} {k v q : Int32} (hp : p < s.1) (h : s' = putN (addN s k q v) p s.1) : Ext s p [s.1] s' ∧ FoN s'.2 s.1 s'.1 (tN (k, q, v) .leaf .leaf) [s.1] := by
  subst h
  have e : Ext (putN (addN s k q v) p s.1) s.1 [] (putN (addN s k q v) p s.1) := Ext.rfl'
  exact ⟨e.node' hp, FoN.node' hp e rfl⟩
theorem StC.okb {b' : Nat} (h : StC tx n σ0 σ x s sg op a b) (ho : isO x = true) : StC tx n σ0 σ x s sg op a b' := by
  cases x with
  | ok q => exact h
  | error e => exact absurd ho (show ¬ false = true by decide)
theorem wt_b {c : Bool} {y : RS} (h : isO (wtR tx n c y) = true) : c = true := by
  unfold wtR at h
  split at h
  · assumption
  · exfalso
    cases y with
    | ok q => exact absurd h (show ¬ false = true by decide)
    | error e => exact absurd h (show ¬ false = true by decide)
theorem fl_no {c : Int32} {y : RS} : isO (flR c y) = false := by cases y <;> rfl
theorem Fst.any {s' : NS} {p : Nat} {o o' : Bool} {t u : Tr} (h : Fst s p o t s') (ho : o' = false) : Fst s p o' u s' := by
  obtain ⟨L, e1, f1⟩ := h
  exact ⟨L, e1, fun q => by rw [ho] at q; exact absurd q (by decide)⟩
theorem StC.inv {q : PS} (hS : StC tx n σ0 σ (.ok q) s sg op a b) : InvS n q := hS.2.2.2.2.2.2.2.2.2.2.2.2.2.2.2.2.2.1
/-- a token is gone over: fuel -/
theorem nx_fuel {y : RS} {f : Nat} (hk : isK y 0 = false) (hi : ∀ q, y = .ok q → InvS n q) (hf : ∀ q, y = .ok q → n + 1 ≤ sF q + (f + 1)) : ∀ q, nxR tx n y = .ok q → n + 1 ≤ sF q + f := by
  intro q hq
  cases y with
  | error e => cases hq
  | ok r =>
    have := nx_lt hq (hi r rfl) (of_decide_eq_false hk)
    have := hf r rfl
    omega
theorem mo_fuel {y z : RS} {f : Nat} (hm : MO n y z) (hi : ∀ q, y = .ok q → InvS n q) (hf : ∀ q, y = .ok q → n + 1 ≤ sF q + f) : ∀ q, z = .ok q → n + 1 ≤ sF q + f := by
  intro q hq
  cases y with
  | error e => rw [hm.1 e rfl] at hq; cases hq
  | ok r =>
    have := (hm.2 r q rfl hq (hi r rfl)).2.1
    have := hf r rfl
    omega
/-- the place grows -/
def SL (n : Nat) (x y : RS) : Prop := ∀ s q, x = .ok s → y = .ok q → InvS n s → sF s + 1 ≤ sF q
theorem SL.nx {y z : RS} (hm : MO n y z) (hk : isK z 0 = false) : SL n y (nxR tx n z) := by
  intro s q h1 h2 hi
  cases z with
  | error e => cases h2
  | ok r =>
    have a1 := hm.2 s r h1 rfl hi
    have := nx_lt h2 a1.1 (of_decide_eq_false hk)
    have := a1.2.1
    omega
theorem SL.wt {y z : RS} {c : Bool} (hm : MO n y z) (hk : c = true → isK z 0 = false) : SL n y (wtR tx n c z) := by
  unfold wtR
  split
  · rename_i hc; exact SL.nx hm (hk hc)
  · intro s q h1 h2
    exfalso
    cases z <;> cases h2
theorem SL.wS {y z : RS} {k : Int32} (hm : MO n y z) : SL n y (wtR tx n (isS z k) z) := SL.wt hm (fun h => (isK_0 (isS_k h).1 (by decide)).1)
theorem SL.wW {y z : RS} {k : Int32} (hm : MO n y z) : SL n y (wtR tx n (isW z k) z) := SL.wt hm (fun h => (isK_0 (isW_k h).1 (by decide)).1)
theorem SL.mo {y z u : RS} (h : SL n y z) (hm : MO n z u) (hyz : MO n y z) : SL n y u := by
  intro s q h1 h2 hi
  cases z with
  | error e => rw [hm.1 e rfl] at h2; cases h2
  | ok r =>
    have := h s r h1 rfl hi
    have := (hm.2 r q rfl h2 (hyz.2 s r h1 rfl hi).1).2.1
    omega
theorem SL.fuel {y z : RS} {f : Nat} (h : SL n y z) (hyz : MO n y z) (hi : ∀ q, y = .ok q → InvS n q) (hf : ∀ q, y = .ok q → n + 1 ≤ sF q + (f + 1)) : ∀ q, z = .ok q → n + 1 ≤ sF q + f := by
  intro q hq
  cases y with
  | error e => rw [hyz.1 e rfl] at hq; cases hq
  | ok r =>
    have := h r q rfl hq (hi r rfl)
    have := hf r rfl
    omega
theorem StC.invs (hS : StC tx n σ0 σ x s sg op a b) : ∀ q, x = .ok q → InvS n q := fun q e => by subst e; exact hS.inv
theorem SL.dec {y : RS} : SL n y (decP tx n y).1 := by
  unfold decP
  split
  · exact SL.wS (((((MO.nml _).trans MO.at).trans MO.wt).trans MO.typ).trans MO.ini)
  · intro s q h1 h2
    exfalso
    cases y <;> cases h2
end
