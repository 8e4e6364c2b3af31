/-! 120: nodes by their numbers, as a table -/
/-- a node: what it says; the one above, the first below, the next beside, the last below -/
abbrev NI : Type := Nd × Option Nat × Option Nat × Option Nat × Option Nat
def gK (g : Nat → NI) (k : Nat) : Int32 := (g k).1.1
def gP (g : Nat → NI) (k : Nat) : Int32 := (g k).1.2.1
def gV (g : Nat → NI) (k : Nat) : Int32 := (g k).1.2.2
def gU (g : Nat → NI) (k : Nat) : Option Nat := (g k).2.1
def gF (g : Nat → NI) (k : Nat) : Option Nat := (g k).2.2.1
def gX (g : Nat → NI) (k : Nat) : Option Nat := (g k).2.2.2.1
def gL (g : Nat → NI) (k : Nat) : Option Nat := (g k).2.2.2.2
def fsT : Tr → Nat → Option Nat
  | .leaf, _ => none
  | .inner _ _ _ _ _, b => some b
def lsT : Tr → Nat → Option Nat
  | .leaf, _ => none
  | .inner _ _ _ l r, b => match r with
    | .leaf => some b
    | .inner a q c x y => lsT (.inner a q c x y) (b + 1 + sz l)
def rowsT : Tr → Nat → Option Nat → List NI
  | .leaf, _, _ => []
  | .inner _ q _ l r, b, p => (q, p, fsT l (b + 1), fsT r (b + 1 + sz l), lsT l (b + 1)) :: (rowsT l (b + 1) (some b) ++ rowsT r (b + 1 + sz l) p)
def gT (t : Tr) : Nat → NI := fun k => (rowsT t 0 none).getD k ((-1, -1, -1), none, none, none, none)
/-- a forest stands in a table, from k on, below p -/
def SubT (g : Nat → NI) : Tr → Nat → Option Nat → Prop
  | .leaf, _, _ => True
  | .inner _ q _ l r, k, p => g k = (q, p, fsT l (k + 1), fsT r (k + 1 + sz l), lsT l (k + 1)) ∧ SubT g l (k + 1) (some k) ∧ SubT g r (k + 1 + sz l) p
theorem rowsT_len : ∀ (t : Tr) (b : Nat) (p : Option Nat), (rowsT t b p).length = sz t := by
  intro t
  induction t with
  | leaf => intro b p; rfl
  | inner z q v l r ihl ihr =>
    intro b p
    simp only [rowsT, sz, List.length_cons, List.length_append, ihl, ihr]
    omega
theorem SubT_of {g : Nat → NI} : ∀ (t : Tr) (k : Nat) (p : Option Nat), (∀ i, i < sz t → g (k + i) = (rowsT t k p).getD i ((-1, -1, -1), none, none, none, none)) → SubT g t k p := by
  intro t
  induction t with
  | leaf => intro k p _; trivial
  | inner z q v l r ihl ihr =>
    intro k p h
    refine ⟨by have := h 0 (by simp only [sz]; omega); rw [Nat.add_zero] at this; rw [this]; rfl, ihl (k + 1) (some k) (fun i hi => ?_), ihr (k + 1 + sz l) p (fun i hi => ?_)⟩
    · have := h (i + 1) (by simp only [sz]; omega)
      rw [show k + 1 + i = k + (i + 1) by omega, this]
      simp only [rowsT]
      rw [List.getD_cons_succ, List.getD_eq_getElem?_getD, List.getD_eq_getElem?_getD, List.getElem?_append_left (by rw [rowsT_len]; exact hi)]
    · have := h (sz l + i + 1) (by simp only [sz]; omega)
      rw [show k + 1 + sz l + i = k + (sz l + i + 1) by omega, this]
      simp only [rowsT]
      rw [List.getD_cons_succ, List.getD_eq_getElem?_getD, List.getD_eq_getElem?_getD, List.getElem?_append_right (by rw [rowsT_len]; omega), rowsT_len]
      congr 2; omega
theorem SubT_gT (t : Tr) : SubT (gT t) t 0 none := SubT_of t 0 none (fun i _ => by rw [Nat.zero_add]; rfl)
def oN (ν : Nat → Nat) : Option Nat → Int32
  | none => -1
  | some j => nI (ν j)
/-- the table as a memory has it -/
def TbX (σ : Sg) (B : Nat) (ν : Nat → Nat) (g : Nat → NI) (M : Nat) : Prop := ∀ k, k < M → σ.1 B (ν k) = gK g k ∧ σ.1 (B + 1) (ν k) = gP g k ∧ σ.1 (B + 2) (ν k) = gV g k ∧ σ.1 (B + 3) (ν k) = oN ν (gU g k) ∧ σ.1 (B + 4) (ν k) = oN ν (gF g k) ∧ σ.1 (B + 6) (ν k) = oN ν (gX g k)
theorem hdT_fs {ν : Nat → Nat} {t : Tr} {k : Nat} : hdT ν t k = oN ν (fsT t k) := by cases t <;> rfl
theorem laT_ls {ν : Nat → Nat} : ∀ {t : Tr} {k : Nat}, laT ν t k = oN ν (lsT t k) := by
  intro t
  induction t with
  | leaf => intro k; rfl
  | inner z q v l r ihl ihr =>
    intro k
    cases r with
    | leaf => rfl
    | inner a b c x y => exact ihr
theorem TbX_of {σ : Sg} {B : Nat} {ν : Nat → Nat} {g : Nat → NI} : ∀ (t : Tr) (k : Nat) (p : Option Nat), PoT σ B ν t k (oN ν p) → SubT g t k p → ∀ j, k ≤ j → j < k + sz t → σ.1 B (ν j) = gK g j ∧ σ.1 (B + 1) (ν j) = gP g j ∧ σ.1 (B + 2) (ν j) = gV g j ∧ σ.1 (B + 3) (ν j) = oN ν (gU g j) ∧ σ.1 (B + 4) (ν j) = oN ν (gF g j) ∧ σ.1 (B + 6) (ν j) = oN ν (gX g j) := by
  intro t
  induction t with
  | leaf => intro k p _ _ j h1 h2; simp only [sz] at h2; omega
  | inner z q v l r ihl ihr =>
    intro k p ⟨h0, h1, h2, h3, h4, h6, hl, hr⟩ ⟨e, sl, sr⟩ j hj1 hj2
    simp only [sz] at hj2
    by_cases e1 : j = k
    · subst e1
      unfold gK gP gV gU gF gX
      rw [e]
      exact ⟨h0, h1, h2, h3, by rw [h4, hdT_fs], by rw [h6, hdT_fs]⟩
    · by_cases e2 : j < k + 1 + sz l
      · exact ihl (k + 1) (some k) hl sl j (by omega) e2
      · exact ihr (k + 1 + sz l) p hr sr j (by omega) (by omega)
theorem LaX_of {σ : Sg} {B : Nat} {ν : Nat → Nat} {g : Nat → NI} : ∀ (t : Tr) (k : Nat) (p : Option Nat), LaT σ B ν t k → SubT g t k p → ∀ j, k ≤ j → j < k + sz t → σ.1 (B + 5) (ν j) = oN ν (gL g j) := by
  intro t
  induction t with
  | leaf => intro k p _ _ j h1 h2; simp only [sz] at h2; omega
  | inner z q v l r ihl ihr =>
    intro k p ⟨h5, hl, hr⟩ ⟨e, sl, sr⟩ j hj1 hj2
    simp only [sz] at hj2
    by_cases e1 : j = k
    · subst e1
      unfold gL
      rw [e]
      exact h5.trans laT_ls
    · by_cases e2 : j < k + 1 + sz l
      · exact ihl (k + 1) (some k) hl sl j (by omega) e2
      · exact ihr (k + 1 + sz l) p hr sr j (by omega) (by omega)
theorem lsT_lt : ∀ {t : Tr} {k j : Nat}, lsT t k = some j → k ≤ j ∧ j < k + sz t := by
  intro t
  induction t with
  | leaf => intro k j h; cases h
  | inner z q v l r ihl ihr =>
    intro k j h
    cases r with
    | leaf => cases h; simp only [sz]; omega
    | inner a b c x y =>
      have := ihr (k := k + 1 + sz l) (j := j) h
      simp only [sz] at this ⊢
      omega
/-- where a table's numbers may point -/
def BdG (g : Nat → NI) (M : Nat) : Prop := ∀ k, k < M → (∀ j, gU g k = some j → j < k) ∧ (∀ j, gF g k = some j → j = k + 1 ∧ j < M ∧ gU g j = some k) ∧ (∀ j, gX g k = some j → k < j ∧ j < M ∧ gU g j = gU g k) ∧ (∀ j, gL g k = some j → k < j ∧ j < M) ∧ (gF g k = none ↔ gL g k = none)
theorem SubT.top {g : Nat → NI} {t : Tr} {k : Nat} {p : Option Nat} (h : SubT g t k p) : ∀ j, fsT t k = some j → gU g j = p := by
  intro j hj
  cases t with
  | leaf => cases hj
  | inner z q v l r => cases hj; unfold gU; rw [h.1]
theorem fsT_lt {t : Tr} {k j : Nat} (h : fsT t k = some j) : j = k ∧ 0 < sz t := by
  cases t with
  | leaf => cases h
  | inner z q v l r => cases h; exact ⟨rfl, by simp only [sz]; omega⟩
theorem BdG_of {g : Nat → NI} {M : Nat} : ∀ (t : Tr) (k : Nat) (p : Option Nat), SubT g t k p → k + sz t ≤ M → (∀ q, p = some q → q < k) → ∀ j, k ≤ j → j < k + sz t → (∀ i, gU g j = some i → i < j) ∧ (∀ i, gF g j = some i → i = j + 1 ∧ i < M ∧ gU g i = some j) ∧ (∀ i, gX g j = some i → j < i ∧ i < M ∧ gU g i = gU g j) ∧ (∀ i, gL g j = some i → j < i ∧ i < M) ∧ (gF g j = none ↔ gL g j = none) := by
  intro t
  induction t with
  | leaf => intro k p _ _ _ j h1 h2; simp only [sz] at h2; omega
  | inner z q v l r ihl ihr =>
    intro k p ⟨e, sl, sr⟩ hM hp j hj1 hj2
    simp only [sz] at hj2 hM
    by_cases e1 : j = k
    · subst e1
      refine ⟨fun i hi => ?_, fun i hi => ?_, fun i hi => ?_, fun i hi => ?_, ?_⟩
      · unfold gU at hi; rw [e] at hi; exact hp i hi
      · unfold gF at hi; rw [e] at hi
        have := fsT_lt hi
        exact ⟨this.1, by omega, sl.top i hi⟩
      · unfold gX at hi; rw [e] at hi
        have := fsT_lt hi
        refine ⟨by omega, by omega, ?_⟩
        rw [sr.top i hi]; unfold gU; rw [e]
      · unfold gL at hi; rw [e] at hi
        have := lsT_lt hi
        omega
      · unfold gF gL; rw [e]
        cases l with
        | leaf => exact ⟨fun _ => rfl, fun _ => rfl⟩
        | inner a b c x y =>
          refine ⟨fun h => (by cases h), fun h => ?_⟩
          exfalso
          have aux : ∀ (t : Tr) (k : Nat), t ≠ .leaf → lsT t k ≠ none := by
            intro t
            induction t with
            | leaf => intro k h; exact absurd rfl h
            | inner z q v l r ihl ihr =>
              intro k _
              cases r with
              | leaf => simp [lsT]
              | inner a b c x y => exact ihr _ (by simp)
          exact aux _ _ (by simp) h
    · by_cases e2 : j < k + 1 + sz l
      · exact ihl (k + 1) (some k) sl (by omega) (fun q hq => by cases hq; omega) j (by omega) e2
      · exact ihr (k + 1 + sz l) p sr (by omega) (fun q hq => by have := hp q hq; omega) j (by omega) (by omega)
theorem BdG_gT (t : Tr) : BdG (gT t) (sz t) := fun k hk => BdG_of t 0 none (SubT_gT t) (by omega) (fun q hq => by cases hq) k (Nat.zero_le _) (by omega)
