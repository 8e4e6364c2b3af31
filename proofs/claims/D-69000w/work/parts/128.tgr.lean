/-! 128: the grammar, seen in the table of nodes -/
/-- where the row below a node of a kind begins in the grammar -/
def stOL : List (Int32 × Nat) := [(0, 1), (1, 2), (2, 3), (3, 3), (4, 4), (5, 5), (9, 10), (11, 7), (12, 13), (13, 15), (14, 14), (15, 16), (16, 18), (17, 21), (18, 22), (19, 24), (22, 20), (23, 33), (24, 35), (25, 38), (28, 27), (32, 14), (33, 27), (34, 26), (35, 28), (36, 14)]
def stO (k : Int32) : Nat := match stOL.find? (fun p => decide (p.1 = k)) with | some p => p.2 | none => 0
theorem gr_all : grL.all (fun q => decide (q.2.2.1 = stO q.2.1)) = true := by decide +kernel
theorem gr_c {a c e : Nat} {x : Int32} (h : (a, x, c, e) ∈ grL) : c = stO x := by
  have := List.all_eq_true.mp gr_all _ h
  exact of_decide_eq_true this
/-- what may come at a place of the grammar: the kind, where it goes on -/
def nxG (a : Nat) : List (Int32 × Nat) := (grL.filter (fun q => Nat.beq q.1 a)).map (fun q => (q.2.1, q.2.2.2))
theorem gr_nx {a c e : Nat} {x : Int32} (h : (a, x, c, e) ∈ grL) : (x, e) ∈ nxG a :=
  List.mem_map.mpr ⟨(a, x, c, e), List.mem_filter.mpr ⟨h, Nat.beq_refl a⟩, rfl⟩
def Chn (g : Nat → NI) : Option Nat → List Nat → Prop
  | o, [] => o = none
  | o, c :: L => o = some c ∧ Chn g (gX g c) L
def RowG (g : Nat → NI) : Nat → List Nat → Nat → Prop
  | a, [], b => a = b
  | a, x :: L, b => ∃ e, (gK g x, e) ∈ nxG a ∧ RowG g e L b
/-- each node's row below it is one of the grammar's -/
def GrT (g : Nat → NI) (M : Nat) : Prop := ∀ k, k < M → ∃ L f, Chn g (gF g k) L ∧ RowG g (stO (gK g k)) L f ∧ fin f ∧ ∀ c, c ∈ L → k < c ∧ c < M ∧ gU g c = some k
theorem row_of {g : Nat → NI} {m : Nat} : ∀ {t : Tr} {k a b : Nat} {p : Option Nat}, SubT g t k p → WT m a t b → ∃ L, Chn g (fsT t k) L ∧ RowG g a L b ∧ ∀ c, c ∈ L → k ≤ c ∧ c < k + sz t ∧ gU g c = p := by
  intro t
  induction t with
  | leaf => intro k a b p _ h; exact ⟨[], rfl, h, fun c hc => absurd hc (by simp)⟩
  | inner z q v l r ihl ihr =>
    rintro k a b p ⟨e, sl, sr⟩ ⟨c, x, h1, h2, h3, h4⟩
    obtain ⟨L, hc, hr, hL⟩ := ihr sr h4
    have ek : gK g k = q.1 := by unfold gK; rw [e]
    have ex : gX g k = fsT r (k + 1 + sz l) := by unfold gX; rw [e]
    refine ⟨k :: L, ⟨rfl, by rw [ex]; exact hc⟩, ⟨x, by rw [ek]; exact gr_nx h1, hr⟩, fun y hy => ?_⟩
    simp only [sz]
    rcases List.mem_cons.mp hy with hy | hy
    · subst hy; exact ⟨Nat.le_refl _, by omega, by unfold gU; rw [e]⟩
    · have := hL y hy; exact ⟨by omega, by omega, this.2.2⟩
theorem GrT_of {g : Nat → NI} {m M : Nat} : ∀ {t : Tr} {k a b : Nat} {p : Option Nat}, SubT g t k p → WT m a t b → k + sz t ≤ M → ∀ j, k ≤ j → j < k + sz t → ∃ L f, Chn g (gF g j) L ∧ RowG g (stO (gK g j)) L f ∧ fin f ∧ ∀ c, c ∈ L → j < c ∧ c < M ∧ gU g c = some j := by
  intro t
  induction t with
  | leaf => intro k a b p _ _ _ j h1 h2; simp only [sz] at h2; omega
  | inner z q v l r ihl ihr =>
    rintro k a b p ⟨e, sl, sr⟩ ⟨c, x, h1, h2, ⟨f, h3, hf⟩, h4⟩ hM j hj1 hj2
    simp only [sz] at hj2 hM
    by_cases e1 : j = k
    · subst e1
      obtain ⟨L, hc, hr, hL⟩ := row_of sl h3
      refine ⟨L, f, ?_, ?_, hf, fun y hy => ?_⟩
      · unfold gF; rw [e]; exact hc
      · have : gK g j = q.1 := by unfold gK; rw [e]
        rw [this, ← gr_c h1]; exact hr
      · have := hL y hy; exact ⟨by omega, by omega, this.2.2⟩
    · by_cases e2 : j < k + 1 + sz l
      · exact ihl sl h3 (by omega) j (by omega) e2
      · exact ihr sr h4 (by omega) j (by omega) (by omega)
theorem Chn.len {g : Nat → NI} {M : Nat} (hB : BdG g M) : ∀ {L : List Nat} {o : Option Nat} {k : Nat}, Chn g o L → (∀ c, o = some c → k ≤ c ∧ c < M) → k ≤ M → L.length + k ≤ M := by
  intro L
  induction L with
  | nil => intro o k _ _ h; simp; exact h
  | cons c L ih =>
    rintro o k ⟨h1, h2⟩ ho hk
    have hc := ho c h1
    have := ih (k := c + 1) h2 (fun e he => by have := (hB c hc.2).2.2.1 e he; omega) (by omega)
    simp only [List.length_cons]; omega
theorem chs_of {g : Nat → NI} : ∀ {L : List Nat} {o : Option Nat} {f : Nat}, Chn g o L → L.length ≤ f → chs g f o = L := by
  intro L
  induction L with
  | nil => intro o f h _; have h : o = none := h; subst h; cases f <;> rfl
  | cons c L ih =>
    rintro o f ⟨h1, h2⟩ hf
    subst h1
    cases f with
    | zero => simp at hf
    | succ f => rw [chs, ih h2 (by simp at hf; omega)]
theorem kid_of {g : Nat → NI} {M k : Nat} {L : List Nat} (hB : BdG g M) (hk : k < M) (h : Chn g (gF g k) L) : kid g M k = L := by
  have := Chn.len hB (k := k + 1) h (fun c hc => by have := (hB k hk).2.1 c hc; omega) (by omega)
  exact chs_of h (by omega)
section
variable {g : Nat → NI} {M : Nat}
theorem RowG.cons {a b x : Nat} {L : List Nat} (h : RowG g a (x :: L) b) : ∃ e, (gK g x, e) ∈ nxG a ∧ RowG g e L b := h
/-- a row that begins where it must end by fin -/
theorem nx0 : nxG 0 = [] := by decide +kernel
theorem RowG.z {L : List Nat} {f : Nat} (h : RowG g 0 L f) : L = [] ∧ f = 0 := by
  cases L with
  | nil => exact ⟨rfl, (show 0 = f from h).symm⟩
  | cons x L => obtain ⟨e, h1, _⟩ := h; rw [nx0] at h1; cases h1
theorem nx10 : nxG 10 = [(30, 11), (31, 11)] := by decide +kernel
theorem nx11 : nxG 11 = [(30, 12), (31, 12)] := by decide +kernel
theorem nx12 : nxG 12 = [(8, 0)] := by decide +kernel
theorem nx2 : nxG 2 = [(8, 3)] := by decide +kernel
theorem nx3 : nxG 3 = [(4, 3), (11, 0), (22, 0)] := by decide +kernel
theorem nx5 : nxG 5 = [(6, 6)] := by decide +kernel
theorem nx6 : nxG 6 = [(6, 6), (7, 8), (8, 9), (9, 9), (10, 9)] := by decide +kernel
theorem nx8 : nxG 8 = [(8, 9), (9, 9), (10, 9)] := by decide +kernel
theorem nx9 : nxG 9 = [(30, 0), (31, 0)] := by decide +kernel
theorem nx13 : nxG 13 = [(6, 14), (32, 14)] := by decide +kernel
theorem nx14 : nxG 14 = [(6, 0), (30, 0), (31, 0), (32, 0), (33, 0), (34, 0), (35, 0), (36, 0)] := by decide +kernel
theorem nx15 : nxG 15 = [(14, 15)] := by decide +kernel
theorem nx16 : nxG 16 = [(6, 17), (30, 17), (31, 17), (32, 17), (33, 17), (34, 17), (35, 17), (36, 17)] := by decide +kernel
theorem nx17 : nxG 17 = [(11, 29)] := by decide +kernel
theorem nx29 : nxG 29 = [(11, 0), (6, 17), (30, 17), (31, 17), (32, 17), (33, 17), (34, 17), (35, 17), (36, 17)] := by decide +kernel
theorem nx18 : nxG 18 = [(6, 19), (30, 19), (31, 19), (32, 19), (33, 19), (34, 19), (35, 19), (36, 19)] := by decide +kernel
theorem nx19 : nxG 19 = [(17, 19), (11, 0)] := by decide +kernel
theorem nx21 : nxG 21 = [(18, 23)] := by decide +kernel
theorem nx23 : nxG 23 = [(18, 23), (11, 0)] := by decide +kernel
theorem nx22 : nxG 22 = [(30, 25), (31, 25)] := by decide +kernel
theorem nx25 : nxG 25 = [(30, 0), (31, 0)] := by decide +kernel
theorem nx24 : nxG 24 = [(30, 30), (31, 30)] := by decide +kernel
theorem nx30 : nxG 30 = [(30, 31), (31, 31)] := by decide +kernel
theorem nx31 : nxG 31 = [(30, 32), (31, 32), (11, 0)] := by decide +kernel
theorem nx32 : nxG 32 = [(11, 0)] := by decide +kernel
theorem nx26 : nxG 26 = [(6, 26), (30, 26), (31, 26), (32, 26), (33, 26), (34, 26), (35, 26), (36, 26)] := by decide +kernel
theorem nx27 : nxG 27 = [(6, 0)] := by decide +kernel
theorem nx28 : nxG 28 = [(6, 14), (30, 14), (31, 14), (32, 14), (33, 14), (34, 14), (35, 14), (36, 14)] := by decide +kernel
theorem nx20 : nxG 20 = [(23, 20)] := by decide +kernel
theorem nx33 : nxG 33 = [(24, 34)] := by decide +kernel
theorem nx34 : nxG 34 = [(24, 34)] := by decide +kernel
theorem nx35 : nxG 35 = [(25, 36), (26, 36), (27, 36), (28, 36)] := by decide +kernel
theorem nx36 : nxG 36 = [(25, 36), (26, 36), (27, 36), (28, 36), (29, 35)] := by decide +kernel
theorem nx38 : nxG 38 = [(6, 0), (33, 0)] := by decide +kernel
theorem nx1 : nxG 1 = [(1, 1), (2, 1), (3, 1)] := by decide +kernel
theorem nx4 : nxG 4 = [(5, 4)] := by decide +kernel
theorem nx7 : nxG 7 = [(12, 7), (13, 7), (15, 7), (16, 7), (19, 7), (20, 7), (21, 7)] := by decide +kernel
/-- kinds of expressions -/
def isX (k : Int32) : Prop := k = 6 ∨ k = 30 ∨ k = 31 ∨ k = 32 ∨ k = 33 ∨ k = 34 ∨ k = 35 ∨ k = 36
/-- one step of a row -/
theorem RowG.one {a b x e0 : Nat} {L : List Nat} (hx : ∀ q ∈ nxG a, q.2 = e0) (h : RowG g a (x :: L) b) : RowG g e0 L b ∧ (gK g x, e0) ∈ nxG a := by
  obtain ⟨e, h1, h2⟩ := h
  have := hx _ h1
  have this : e = e0 := this
  subst this; exact ⟨h2, h1⟩
theorem RowG.nfin {a f : Nat} {L : List Nat} (h : RowG g a L f) (hf : fin f) (ha : ¬ fin a) : ∃ x R, L = x :: R := by
  cases L with
  | nil => have h : a = f := h; subst h; exact absurd hf ha
  | cons x R => exact ⟨x, R, rfl⟩
/-- rows of one expression -/
theorem row14 {L : List Nat} {f : Nat} (h : RowG g 14 L f) (hf : fin f) : ∃ a, L = [a] ∧ isX (gK g a) := by
  obtain ⟨a, R, e⟩ := h.nfin hf (by decide)
  subst e
  obtain ⟨h1, h2⟩ := h.one (e0 := 0) (by rw [nx14]; decide)
  rw [nx14] at h2
  refine ⟨a, by rw [h1.z.1], ?_⟩
  simp only [List.mem_cons, Prod.mk.injEq, List.not_mem_nil, or_false] at h2
  unfold isX; grind
theorem row28 {L : List Nat} {f : Nat} (h : RowG g 28 L f) (hf : fin f) : ∃ a b, L = [a, b] ∧ isX (gK g a) ∧ isX (gK g b) := by
  obtain ⟨a, R, e⟩ := h.nfin hf (by decide)
  subst e
  obtain ⟨h1, h2⟩ := h.one (e0 := 14) (by rw [nx28]; decide)
  obtain ⟨b, e, hb⟩ := row14 h1 hf
  subst e
  rw [nx28] at h2
  refine ⟨a, b, rfl, ?_, hb⟩
  simp only [List.mem_cons, Prod.mk.injEq, List.not_mem_nil, or_false] at h2
  unfold isX; grind
theorem row27 {L : List Nat} {f : Nat} (h : RowG g 27 L f) (hf : fin f) : ∃ a, L = [a] ∧ gK g a = 6 := by
  obtain ⟨a, R, e⟩ := h.nfin hf (by decide)
  subst e
  obtain ⟨h1, h2⟩ := h.one (e0 := 0) (by rw [nx27]; decide)
  rw [nx27] at h2
  simp only [List.mem_cons, Prod.mk.injEq, List.not_mem_nil, or_false] at h2
  exact ⟨a, by rw [h1.z.1], h2.1⟩
theorem row38 {L : List Nat} {f : Nat} (h : RowG g 38 L f) (hf : fin f) : ∃ a, L = [a] ∧ (gK g a = 6 ∨ gK g a = 33) := by
  obtain ⟨a, R, e⟩ := h.nfin hf (by decide)
  subst e
  obtain ⟨h1, h2⟩ := h.one (e0 := 0) (by rw [nx38]; decide)
  rw [nx38] at h2
  simp only [List.mem_cons, Prod.mk.injEq, List.not_mem_nil, or_false] at h2
  exact ⟨a, by rw [h1.z.1], by grind⟩
theorem row13 {L : List Nat} {f : Nat} (h : RowG g 13 L f) (hf : fin f) : ∃ a b, L = [a, b] ∧ (gK g a = 6 ∨ gK g a = 32) ∧ isX (gK g b) := by
  obtain ⟨a, R, e⟩ := h.nfin hf (by decide)
  subst e
  obtain ⟨h1, h2⟩ := h.one (e0 := 14) (by rw [nx13]; decide)
  obtain ⟨b, e, hb⟩ := row14 h1 hf
  subst e
  rw [nx13] at h2
  simp only [List.mem_cons, Prod.mk.injEq, List.not_mem_nil, or_false] at h2
  exact ⟨a, b, rfl, by grind, hb⟩
theorem row10 {L : List Nat} {f : Nat} (h : RowG g 10 L f) (hf : fin f) : ∃ a b c, L = [a, b, c] ∧ (gK g a = 30 ∨ gK g a = 31) ∧ (gK g b = 30 ∨ gK g b = 31) ∧ gK g c = 8 := by
  obtain ⟨a, R, e⟩ := h.nfin hf (by decide)
  subst e
  obtain ⟨h1, h2⟩ := h.one (e0 := 11) (by rw [nx10]; decide)
  obtain ⟨b, R, e⟩ := h1.nfin hf (by decide)
  subst e
  obtain ⟨h3, h4⟩ := h1.one (e0 := 12) (by rw [nx11]; decide)
  obtain ⟨c, R, e⟩ := h3.nfin hf (by decide)
  subst e
  obtain ⟨h5, h6⟩ := h3.one (e0 := 0) (by rw [nx12]; decide)
  rw [nx10] at h2; rw [nx11] at h4; rw [nx12] at h6
  simp only [List.mem_cons, Prod.mk.injEq, List.not_mem_nil, or_false] at h2 h4 h6
  exact ⟨a, b, c, by rw [h5.z.1], by grind, by grind, h6.1⟩
theorem row22 {L : List Nat} {f : Nat} (h : RowG g 22 L f) (hf : fin f) : ∃ a, (gK g a = 30 ∨ gK g a = 31) ∧ (L = [a] ∨ ∃ b, L = [a, b] ∧ (gK g b = 30 ∨ gK g b = 31)) := by
  obtain ⟨a, R, e⟩ := h.nfin hf (by decide)
  subst e
  obtain ⟨h1, h2⟩ := h.one (e0 := 25) (by rw [nx22]; decide)
  rw [nx22] at h2
  simp only [List.mem_cons, Prod.mk.injEq, List.not_mem_nil, or_false] at h2
  refine ⟨a, by grind, ?_⟩
  cases R with
  | nil => exact Or.inl rfl
  | cons b R =>
    obtain ⟨h3, h4⟩ := h1.one (e0 := 0) (by rw [nx25]; decide)
    rw [nx25] at h4
    simp only [List.mem_cons, Prod.mk.injEq, List.not_mem_nil, or_false] at h4
    exact Or.inr ⟨b, by rw [h3.z.1], by grind⟩
/-- a FOR: two constants, a third, the body -/
theorem row24 {L : List Nat} {f : Nat} (h : RowG g 24 L f) (hf : fin f) : ∃ a b c, (gK g a = 30 ∨ gK g a = 31) ∧ (gK g b = 30 ∨ gK g b = 31) ∧ ((L = [a, b, c] ∧ gK g c = 11) ∨ ∃ e, L = [a, b, c, e] ∧ (gK g c = 30 ∨ gK g c = 31) ∧ gK g e = 11) := by
  obtain ⟨a, R, e⟩ := h.nfin hf (by decide)
  subst e
  obtain ⟨h1, h2⟩ := h.one (e0 := 30) (by rw [nx24]; decide)
  obtain ⟨b, R, e⟩ := h1.nfin hf (by decide)
  subst e
  obtain ⟨h3, h4⟩ := h1.one (e0 := 31) (by rw [nx30]; decide)
  obtain ⟨c, R, e⟩ := h3.nfin hf (by decide)
  subst e
  obtain ⟨e, h5, h6⟩ := h3
  rw [nx24] at h2; rw [nx30] at h4; rw [nx31] at h5
  simp only [List.mem_cons, Prod.mk.injEq, List.not_mem_nil, or_false] at h2 h4 h5
  refine ⟨a, b, c, by grind, by grind, ?_⟩
  rcases h5 with h5 | h5 | h5
  · rw [h5.2] at h6
    obtain ⟨x, R, ex⟩ := h6.nfin hf (by decide)
    subst ex
    obtain ⟨h7, h8⟩ := h6.one (e0 := 0) (by rw [nx32]; decide)
    rw [nx32] at h8
    simp only [List.mem_cons, Prod.mk.injEq, List.not_mem_nil, or_false] at h8
    exact Or.inr ⟨x, by rw [h7.z.1], Or.inl h5.1, h8.1⟩
  · rw [h5.2] at h6
    obtain ⟨x, R, ex⟩ := h6.nfin hf (by decide)
    subst ex
    obtain ⟨h7, h8⟩ := h6.one (e0 := 0) (by rw [nx32]; decide)
    rw [nx32] at h8
    simp only [List.mem_cons, Prod.mk.injEq, List.not_mem_nil, or_false] at h8
    exact Or.inr ⟨x, by rw [h7.z.1], Or.inr h5.1, h8.1⟩
  · rw [h5.2] at h6
    exact Or.inl ⟨by rw [h6.z.1], h5.1⟩
end
/-- each node is in the row below the one above it; the last of its own row is told -/
def KdG (g : Nat → NI) (M : Nat) : Prop := ∀ k, k < M → (∀ p, gU g k = some p → p < M ∧ ∃ L, Chn g (gF g p) L ∧ k ∈ L) ∧ ∀ L, Chn g (gF g k) L → gL g k = L.getLast?
theorem lsT_last {g : Nat → NI} : ∀ {t : Tr} {k : Nat} {p : Option Nat} {L : List Nat}, SubT g t k p → Chn g (fsT t k) L → lsT t k = L.getLast? := by
  intro t
  induction t with
  | leaf =>
    intro k p L _ h
    cases L with
    | nil => rfl
    | cons c L => cases h.1
  | inner z q v l r ihl ihr =>
    rintro k p L ⟨e, sl, sr⟩ h
    have ex : gX g k = fsT r (k + 1 + sz l) := by unfold gX; rw [e]
    cases L with
    | nil => cases (show some k = none from h)
    | cons c L =>
      have e1 : some k = some c := h.1
      have e1 := Option.some.inj e1
      subst e1
      have h2 : Chn g (fsT r (k + 1 + sz l)) L := by rw [← ex]; exact h.2
      cases r with
      | leaf =>
        cases L with
        | nil => rfl
        | cons x L => cases h2.1
      | inner a b c x y =>
        have := ihr sr h2
        cases L with
        | nil => cases (show some (k + 1 + sz l) = none from h2)
        | cons x L =>
          rw [List.getLast?_cons_cons]
          exact this
theorem gL_of {g : Nat → NI} : ∀ {t : Tr} {k : Nat} {p : Option Nat}, SubT g t k p → ∀ j, k ≤ j → j < k + sz t → ∀ L, Chn g (gF g j) L → gL g j = L.getLast? := by
  intro t
  induction t with
  | leaf => intro k p _ j h1 h2; simp only [sz] at h2; omega
  | inner z q v l r ihl ihr =>
    rintro k p ⟨e, sl, sr⟩ j h1 h2 L hL
    simp only [sz] at h2
    by_cases e1 : j = k
    · subst e1
      have ef : gF g j = fsT l (j + 1) := by unfold gF; rw [e]
      have el : gL g j = lsT l (j + 1) := by unfold gL; rw [e]
      rw [el]; rw [ef] at hL
      exact lsT_last sl hL
    · by_cases e2 : j < k + 1 + sz l
      · exact ihl sl j (by omega) e2 L hL
      · exact ihr sr j (by omega) (by omega) L hL
theorem chn_ex {g : Nat → NI} : ∀ {t : Tr} {k : Nat} {p : Option Nat}, SubT g t k p → ∃ L, Chn g (fsT t k) L := by
  intro t
  induction t with
  | leaf => intro k p _; exact ⟨[], rfl⟩
  | inner z q v l r ihl ihr =>
    rintro k p ⟨e, sl, sr⟩
    obtain ⟨L, hL⟩ := ihr sr
    exact ⟨k :: L, rfl, by unfold gX; rw [e]; exact hL⟩
theorem KdG_of {g : Nat → NI} : ∀ {t : Tr} {k : Nat} {p : Option Nat}, SubT g t k p → ∀ j, k ≤ j → j < k + sz t → (∃ L, Chn g (fsT t k) L ∧ j ∈ L ∧ gU g j = p) ∨ (∃ q L, gU g j = some q ∧ k ≤ q ∧ q < k + sz t ∧ Chn g (gF g q) L ∧ j ∈ L) := by
  intro t
  induction t with
  | leaf => intro k p _ j h1 h2; simp only [sz] at h2; omega
  | inner z q v l r ihl ihr =>
    rintro k p ⟨e, sl, sr⟩ j h1 h2
    simp only [sz] at h2 ⊢
    have ex : gX g k = fsT r (k + 1 + sz l) := by unfold gX; rw [e]
    have ef : gF g k = fsT l (k + 1) := by unfold gF; rw [e]
    by_cases e1 : j = k
    · subst e1
      obtain ⟨L, hL⟩ := chn_ex sr
      exact Or.inl ⟨j :: L, ⟨rfl, by rw [ex]; exact hL⟩, List.mem_cons_self, by unfold gU; rw [e]⟩
    · by_cases e2 : j < k + 1 + sz l
      · rcases ihl sl j (by omega) e2 with ⟨L, c1, c2, c3⟩ | ⟨a, L, c1, c2, c3, c4, c5⟩
        · exact Or.inr ⟨k, L, c3, Nat.le_refl _, by omega, by rw [ef]; exact c1, c2⟩
        · exact Or.inr ⟨a, L, c1, by omega, by omega, c4, c5⟩
      · rcases ihr sr j (by omega) (by omega) with ⟨L, c1, c2, c3⟩ | ⟨a, L, c1, c2, c3, c4, c5⟩
        · exact Or.inl ⟨k :: L, ⟨rfl, by rw [ex]; exact c1⟩, List.mem_cons_of_mem _ c2, c3⟩
        · exact Or.inr ⟨a, L, c1, by omega, by omega, c4, c5⟩
theorem KdG_gT (t : Tr) : KdG (gT t) (sz t) := by
  intro k hk
  refine ⟨fun p hp => ?_, gL_of (SubT_gT t) k (Nat.zero_le _) (by omega)⟩
  rcases KdG_of (SubT_gT t) k (Nat.zero_le _) (by omega) with ⟨L, c1, c2, c3⟩ | ⟨a, L, c1, c2, c3, c4, c5⟩
  · rw [c3] at hp; cases hp
  · rw [c1] at hp; cases hp
    exact ⟨by omega, L, c4, c5⟩
theorem chn_lt {g : Nat → NI} {M : Nat} (hB : BdG g M) : ∀ {R : List Nat} {o : Option Nat} {k : Nat} {P : List Nat}, Chn g o (R ++ k :: P) → (∀ c, o = some c → c < M) → ∀ c, c ∈ R → c < k := by
  intro R
  induction R with
  | nil => intro o k P _ _ c hc; cases hc
  | cons x R ih =>
    rintro o k P ⟨h1, h2⟩ ho c hc
    have hx := ho x h1
    have hX : ∀ e, gX g x = some e → x < e ∧ e < M := fun e he => by have := (hB x hx).2.2.1 e he; exact ⟨this.1, this.2.1⟩
    have rest := ih h2 (fun e he => (hX e he).2)
    rcases List.mem_cons.mp hc with q | q
    · subst q
      cases R with
      | nil => exact (hX k h2.1).1
      | cons y R => have := (hX y h2.1).1; have := rest y List.mem_cons_self; omega
    · exact rest c q
