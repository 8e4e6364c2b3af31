/-! 122: the tree's grammar: which nodes may stand where -/
/-- below an expression's node -/
def eML : List (Int32 × Nat) := [(6, 0), (30, 0), (31, 0), (32, 14), (33, 27), (34, 26), (35, 28), (36, 14)]
/-- where an expression may stand, and what comes behind it -/
def xML : List (Nat × Nat) := [(14, 0), (16, 17), (18, 19), (26, 26), (28, 14), (29, 17)]
def grL : List (Nat × Int32 × Nat × Nat) :=
  [(1, 1, 2, 1), (1, 2, 3, 1), (1, 3, 3, 1), (2, 8, 0, 3), (3, 4, 4, 3), (3, 11, 7, 0), (3, 22, 20, 0), (4, 5, 5, 4), (5, 6, 0, 6), (6, 6, 0, 6), (6, 7, 0, 8), (6, 8, 0, 9), (6, 9, 10, 9), (6, 10, 0, 9), (8, 8, 0, 9), (8, 9, 10, 9), (8, 10, 0, 9), (9, 30, 0, 0), (9, 31, 0, 0), (10, 30, 0, 11), (10, 31, 0, 11), (11, 30, 0, 12), (11, 31, 0, 12), (12, 8, 0, 0),
   (7, 12, 13, 7), (7, 13, 15, 7), (7, 15, 16, 7), (7, 16, 18, 7), (7, 19, 24, 7), (7, 20, 0, 7), (7, 21, 0, 7), (13, 6, 0, 14), (13, 32, 14, 14), (15, 14, 14, 15), (17, 11, 7, 29), (29, 11, 7, 0), (19, 17, 21, 19), (19, 11, 7, 0), (21, 18, 22, 23), (23, 18, 22, 23), (23, 11, 7, 0), (22, 30, 0, 25), (22, 31, 0, 25), (25, 30, 0, 0), (25, 31, 0, 0),
   (24, 30, 0, 30), (24, 31, 0, 30), (30, 30, 0, 31), (30, 31, 0, 31), (31, 30, 0, 32), (31, 31, 0, 32), (31, 11, 7, 0), (32, 11, 7, 0), (27, 6, 0, 0), (20, 23, 33, 20), (33, 24, 35, 34), (34, 24, 35, 34), (35, 25, 38, 36), (35, 26, 0, 36), (35, 27, 0, 36), (35, 28, 27, 36), (36, 25, 38, 36), (36, 26, 0, 36), (36, 27, 0, 36), (36, 28, 27, 36), (36, 29, 0, 35), (38, 6, 0, 0), (38, 33, 27, 0)]
  ++ xML.flatMap (fun p => eML.map (fun e => (p.1, e.1, e.2, p.2)))
/-- where a row may end -/
abbrev fin (m : Nat) : Prop := m ∈ [0, 1, 4, 7, 9, 15, 19, 20, 25, 26, 29, 34, 36]
/-- what a node may say, of m names -/
def vOK (m : Nat) (k v : Int32) : Prop := (k ∈ [(1 : Int32), 2, 3, 6, 10, 13, 14, 19, 32, 33, 34] → ∃ j, j < m ∧ v = nI j) ∧ (k = 8 ∨ k = 4 → ∃ j, j < 3 ∧ v = nI j) ∧ (k = 31 ∨ k = 36 → v = 0 ∨ v = 1) ∧ (k = 35 → ∃ j, j < 14 ∧ v = nI j) ∧ (k = 25 ∨ k = 28 → ∃ j, j < 4 ∧ v = nI j) ∧ (k = 7 → ∃ a i, a < 6 ∧ i < (if a < 3 then 256 else 64) ∧ v = nI (256 * a + i))
def WT (m : Nat) : Nat → Tr → Nat → Prop
  | a, .leaf, b => a = b
  | a, .inner _ q _ l r, b => ∃ c e, (a, q.1, c, e) ∈ grL ∧ vOK m q.1 q.2.2 ∧ (∃ f, WT m c l f ∧ fin f) ∧ WT m e r b
theorem vOK.mono {m m' : Nat} {k v : Int32} (h : vOK m k v) (hm : m ≤ m') : vOK m' k v := ⟨fun r => by obtain ⟨j, h1, h2⟩ := h.1 r; exact ⟨j, by omega, h2⟩, h.2⟩
theorem WT.mono {m m' : Nat} (hm : m ≤ m') : ∀ {t : Tr} {a b : Nat}, WT m a t b → WT m' a t b := by
  intro t
  induction t with
  | leaf => intro a b h; exact h
  | inner z q v l r ihl ihr =>
    rintro a b ⟨c, e, h1, h2, ⟨f, h3, h4⟩, h5⟩
    exact ⟨c, e, h1, h2.mono hm, ⟨f, ihl h3, h4⟩, ihr h5⟩
theorem WT.app {m : Nat} : ∀ {t u : Tr} {a b c : Nat}, WT m a t b → WT m b u c → WT m a (tap t u) c := by
  intro t
  induction t with
  | leaf => intro u a b c h h2; have h : a = b := h; subst h; exact h2
  | inner z q v l r ihl ihr =>
    rintro u a b c ⟨c', e, h1, h2, h3, h5⟩ hu
    exact ⟨c', e, h1, h2, h3, ihr h5 hu⟩
/-- a tree that is one expression -/
def EX (m : Nat) : Tr → Prop
  | .leaf => False
  | .inner _ q _ l r => r = .leaf ∧ ∃ c, (q.1, c) ∈ eML ∧ vOK m q.1 q.2.2 ∧ ∃ f, WT m c l f ∧ fin f
theorem EX.mono {m m' : Nat} {t : Tr} (hm : m ≤ m') (h : EX m t) : EX m' t := by
  cases t with
  | leaf => exact h
  | inner z q v l r => obtain ⟨h0, c, h1, h2, f, h3, h4⟩ := h; exact ⟨h0, c, h1, h2.mono hm, f, h3.mono hm, h4⟩
theorem EX.wt {m a b : Nat} {t : Tr} (h : EX m t) (hab : (a, b) ∈ xML) : WT m a t b := by
  cases t with
  | leaf => exact h.elim
  | inner z q v l r =>
    obtain ⟨h0, c, h1, h2, f, h3, h4⟩ := h
    subst h0
    refine ⟨c, b, ?_, h2, ⟨f, h3, h4⟩, rfl⟩
    refine List.mem_append.mpr (Or.inr (List.mem_flatMap.mpr ⟨(a, b), hab, List.mem_map.mpr ⟨(q.1, c), h1, rfl⟩⟩))
theorem EX.two {m : Nat} {t u : Tr} {s p : Int32} (h1 : EX m t) (h2 : EX m u) (hs : ∃ j, j < 14 ∧ s = nI j) : EX m (two t s p u) := by
  refine ⟨rfl, 28, (show ((35 : Int32), 28) ∈ eML by decide), (show vOK m 35 s from ⟨fun q => absurd q (by decide), fun q => absurd q (by decide), fun q => absurd q (by decide), fun _ => hs, fun q => absurd q (by decide), fun q => absurd q (by decide)⟩), 0, (h1.wt (b := 14) (by decide)).app (h2.wt (b := 0) (by decide)), by decide⟩
theorem rdA_ex {m : Nat} : ∀ {w : Wt} {c : Tr}, (∀ q, q ∈ w → EX m q.1 ∧ ∃ j, j < 14 ∧ q.2.1 = nI j) → EX m c → EX m (rdA w c) := by
  intro w
  induction w with
  | nil => intro c _ h; exact h
  | cons q w ih => intro c hw h; exact ih (fun r hr => hw r (List.mem_cons_of_mem _ hr)) ((hw q List.mem_cons_self).1.two h (hw q List.mem_cons_self).2)
theorem rdW_ex {m : Nat} {b : Int32} : ∀ {w : Wt} {c : Tr}, (∀ q, q ∈ w → EX m q.1 ∧ ∃ j, j < 14 ∧ q.2.1 = nI j) → EX m c → EX m (rdW b w c).2 := by
  intro w
  induction w with
  | nil => intro c _ h; exact h
  | cons q w ih =>
    intro c hw h
    rw [rdW]
    split
    · exact ih (fun r hr => hw r (List.mem_cons_of_mem _ hr)) ((hw q List.mem_cons_self).1.two h (hw q List.mem_cons_self).2)
    · exact h
theorem srT_ex {m : Nat} : ∀ {L : List ((Int32 × Int32) × Tr)} {w : Wt} {c : Tr}, (∀ q, q ∈ w → EX m q.1 ∧ ∃ j, j < 14 ∧ q.2.1 = nI j) → EX m c → (∀ r, r ∈ L → EX m r.2 ∧ ∃ j, j < 14 ∧ r.1.1 = nI j) → EX m (srT w c L) := by
  intro L
  induction L with
  | nil => intro w c hw hc _; exact rdA_ex hw hc
  | cons r L ih =>
    intro w c hw hc hL
    rw [srT]
    refine ih (fun q hq => ?_) (hL r List.mem_cons_self).1 (fun r' hr => hL r' (List.mem_cons_of_mem _ hr))
    rw [List.mem_cons] at hq
    rcases hq with hq | hq
    · subst hq; exact ⟨rdW_ex hw hc, (hL r List.mem_cons_self).2⟩
    · exact hw q (rdW_sub _ _ q hq)
section
variable {tx : Nat → Int32} {n : Nat}
/-- from a state on, a row of nodes from one place of the grammar to another -/
def GW (x : RS) (r : RS × Tr) (a b : Nat) : Prop := ∀ s y, x = .ok s → r.1 = .ok y → TV s → WT (sN y).length a r.2 b
def GE (x : RS) (r : RS × Tr) : Prop := ∀ s y, x = .ok s → r.1 = .ok y → TV s → EX (sN y).length r.2
theorem GE.w {x : RS} {r : RS × Tr} {a b : Nat} (h : GE x r) (hab : (a, b) ∈ xML) : GW x r a b := fun s y h1 h2 h3 => (h s y h1 h2 h3).wt hab
theorem GW.nil {x y : RS} {a : Nat} : GW x (y, .leaf) a a := fun _ _ _ _ _ => rfl
theorem GW.bad {x y : RS} {t : Tr} {a b : Nat} (h : isO y = false) : GW x (y, t) a b := fun s z _ h2 _ => by have h2 : y = .ok z := h2; rw [h2] at h; exact absurd h (show ¬ true = false by decide)
theorem GW.cat {x y z : RS} {t u : Tr} {a b c : Nat} (h1 : GW x (y, t) a b) (h2 : GW y (z, u) b c) (m1 : ML x y) (m2 : ML y z) : GW x (z, tap t u) a c := by
  intro s q hs hq hv
  have hq : z = .ok q := hq
  cases hy : y with
  | error e => have := m2.1 e hy; rw [hq] at this; cases this
  | ok r =>
    have g := m1.2 s r hs hy
    exact ((h1 s r hs hy hv).mono (m2.2 r q hy hq).1).app (h2 r q hy hq (g.2 hv))
theorem GW.pre {x y : RS} {r : RS × Tr} {a b : Nat} (h : GW y r a b) (m1 : ML x y) (m2 : ML y r.1) : GW x r a b := by
  intro s q hs hq hv
  cases hy : y with
  | error e => have := m2.1 e hy; rw [hq] at this; cases this
  | ok z => exact h z q hy hq ((m1.2 s z hs hy).2 hv)
theorem GW.post {x y z : RS} {t : Tr} {a b : Nat} (h : GW x (y, t) a b) (m2 : ML y z) : GW x (z, t) a b := by
  intro s q hs hq hv
  have hq : z = .ok q := hq
  cases hy : y with
  | error e => have := m2.1 e hy; rw [hq] at this; cases this
  | ok r => exact (h s r hs hy hv).mono (m2.2 r q hy hq).1
theorem GW.node {x y : RS} {t : Tr} {a c e f : Nat} {k p v : Int32} (h : GW x (y, t) c f) (hf : fin f) (hs : (a, k, c, e) ∈ grL) (hv : ∀ s z, x = .ok s → y = .ok z → TV s → vOK (sN z).length k v) : GW x (y, tN (k, p, v) t .leaf) a e :=
  fun s z h1 h2 h3 => ⟨c, e, hs, hv s z h1 h2 h3, ⟨f, h s z h1 h2 h3, hf⟩, rfl⟩
theorem GE.node {x y : RS} {t : Tr} {c f : Nat} {k p v : Int32} (h : GW x (y, t) c f) (hf : fin f) (hs : (k, c) ∈ eML) (hv : ∀ s z, x = .ok s → y = .ok z → TV s → vOK (sN z).length k v) : GE x (y, tN (k, p, v) t .leaf) :=
  fun s z h1 h2 h3 => ⟨rfl, c, hs, hv s z h1 h2 h3, f, h s z h1 h2 h3, hf⟩
/-- what says nothing that is bound -/
theorem vOK.free {m : Nat} {k v : Int32} (h : k ∈ [(0 : Int32), 5, 9, 11, 12, 15, 16, 17, 18, 20, 21, 22, 23, 24, 26, 27, 29, 30]) : vOK m k v := by
  simp only [List.mem_cons, List.not_mem_nil, or_false] at h
  rcases h with h | h | h | h | h | h | h | h | h | h | h | h | h | h | h | h | h | h <;> subst h <;> exact ⟨fun q => absurd q (by decide), fun q => absurd q (by decide), fun q => absurd q (by decide), fun q => absurd q (by decide), fun q => absurd q (by decide), fun q => absurd q (by decide)⟩
theorem vOK.name {m j : Nat} {k v : Int32} (h : k ∈ [(1 : Int32), 2, 3, 6, 10, 13, 14, 19, 32, 33, 34]) (hj : j < m) (hv : v = nI j) : vOK m k v := by
  have hh : ∃ j, j < m ∧ v = nI j := ⟨j, hj, hv⟩
  simp only [List.mem_cons, List.not_mem_nil, or_false] at h
  rcases h with h | h | h | h | h | h | h | h | h | h | h <;> subst h <;> exact ⟨fun q => hh, fun q => absurd q (by decide), fun q => absurd q (by decide), fun q => absurd q (by decide), fun q => absurd q (by decide), fun q => absurd q (by decide)⟩
/-- the name at hand -/
theorem tv_name {x y : RS} {k : Int32} (hk : isK x 1 = true) (m : ML x y) (h : k ∈ [(1 : Int32), 2, 3, 6, 10, 13, 14, 19, 32, 33, 34]) : ∀ s z, x = .ok s → y = .ok z → TV s → vOK (sN z).length k (vaI x) := by
  intro s z hs hz hv
  obtain ⟨j, hj, e⟩ := hv.1 (by rw [hs] at hk; exact of_decide_eq_true hk)
  have := (m.2 s z hs hz).1
  refine vOK.name h (by omega : j < (sN z).length) ?_
  rw [hs]; exact e
/-- a name that must come: where it does not, nothing goes on -/
theorem tv_name' {x y : RS} {k : Int32} (m : ML (wtR tx n (isK x 1) x) y) (h : k ∈ [(1 : Int32), 2, 3, 6, 10, 13, 14, 19, 32, 33, 34]) : ∀ s z, x = .ok s → y = .ok z → TV s → vOK (sN z).length k (vaI x) := by
  intro s z hs hz hv
  have hk : isK x 1 = true := by
    cases hw : wtR tx n (isK x 1) x with
    | error e => have := m.1 e hw; rw [hz] at this; cases this
    | ok q => exact wt_b (tx := tx) (n := n) (by rw [hw]; rfl)
  exact tv_name hk ((ML.wt (tx := tx) (n := n)).trans m) h s z hs hz hv
theorem GW.lf {x : RS} {a e : Nat} {k p v : Int32} (hs : (a, k, 0, e) ∈ grL) (hv : ∀ s z, x = .ok s → nxR tx n x = .ok z → TV s → vOK (sN z).length k v) : GW x (nxR tx n x, tN (k, p, v) .leaf .leaf) a e := GW.node (c := 0) (f := 0) GW.nil (by decide) hs hv
theorem sim_v {x : RS} (h : (isW x 11 || isW x 12 || isW x 13) = true) : ∃ j, j < 3 ∧ vaI x - 11 = nI j := by
  simp only [Bool.or_eq_true] at h
  rcases h with (h | h) | h
  · exact ⟨0, by decide, by rw [(isW_k h).2]; decide⟩
  · exact ⟨1, by decide, by rw [(isW_k h).2]; decide⟩
  · exact ⟨2, by decide, by rw [(isW_k h).2]; decide⟩
theorem vOK.j3 {m : Nat} {k v : Int32} (hk : k = 8 ∨ k = 4) (h : ∃ j, j < 3 ∧ v = nI j) : vOK m k v := by
  rcases hk with hk | hk <;> subst hk <;> exact ⟨fun q => absurd q (by decide), fun _ => h, fun q => absurd q (by decide), fun q => absurd q (by decide), fun q => absurd q (by decide), fun q => absurd q (by decide)⟩
theorem vOK.b {m : Nat} {k v : Int32} (hk : k = 31 ∨ k = 36) (h : v = 0 ∨ v = 1) : vOK m k v := by
  rcases hk with hk | hk <;> subst hk <;> exact ⟨fun q => absurd q (by decide), fun q => absurd q (by decide), fun _ => h, fun q => absurd q (by decide), fun q => absurd q (by decide), fun q => absurd q (by decide)⟩
theorem vOK.j4 {m : Nat} {k v : Int32} (hk : k = 25 ∨ k = 28) (h : ∃ j, j < 4 ∧ v = nI j) : vOK m k v := by
  rcases hk with hk | hk <;> subst hk <;> exact ⟨fun q => absurd q (by decide), fun q => absurd q (by decide), fun q => absurd q (by decide), fun q => absurd q (by decide), fun _ => h, fun q => absurd q (by decide)⟩
theorem GW.sim {x : RS} {a e : Nat} (hs : (a, 8, 0, e) ∈ grL) : GW x (simP tx n x) a e := by
  unfold simP
  split
  · rename_i h; exact GW.lf hs (fun _ _ _ _ _ => vOK.j3 (Or.inl rfl) (sim_v h))
  · exact GW.bad fl_no
theorem GW.con {x : RS} {a e : Nat} (h0 : (a, 30, 0, e) ∈ grL) (h1 : (a, 31, 0, e) ∈ grL) : GW x (conP tx n x) a e := by
  unfold conP
  split
  · rename_i h
    refine GW.lf h1 (fun _ _ _ _ _ => vOK.b (Or.inl rfl) ?_)
    have h : isW x 35 = true ∨ isW x 36 = true := by simpa using h
    rcases h with h | h
    · rw [(isW_k h).2]; exact Or.inr (by decide)
    · rw [(isW_k h).2]; exact Or.inl (by decide)
  · have key : ∀ (y : RS) (p : Int32) (m : Bool), GW y (cnuP tx n y p m) a e := by
      intro y p m
      unfold cnuP
      split
      · exact GW.lf h0 (fun _ _ _ _ _ => vOK.free (by decide))
      · exact GW.bad fl_no
    split
    · exact (key _ _ _).pre ML.nx ML.cnu
    · exact key _ _ _
theorem GW.nml : ∀ (f : Nat) {x : RS}, GW x (nmlP tx n f x) 6 6 ∧ (0 < f → GW x (nmlP tx n f x) 5 6) := by
  intro f
  induction f with
  | zero => intro x; exact ⟨GW.nil, fun h => absurd h (by decide)⟩
  | succ f ih =>
    intro x
    have one : ∀ (a : Nat), (a, (6 : Int32), 0, 6) ∈ grL → ∀ {y : RS}, ML (wtR tx n (isK x 1) x) y → GW x (y, tN (6, frI x, vaI x) .leaf .leaf) a 6 := fun a ha y hm => GW.node (c := 0) (f := 0) GW.nil (by decide) ha (tv_name' hm (by decide))
    have go : ∀ a, (a, (6 : Int32), 0, 6) ∈ grL → GW x (nmlP tx n (f + 1) x) a 6 := by
      intro a ha
      unfold nmlP
      dsimp only
      split
      · exact (one a ha ML.nx).cat ih.1 (ML.wt.trans ML.nx) (ML.nml f)
      · exact one a ha ML.rfl'
    exact ⟨go 6 (by decide), fun _ => go 5 (by decide)⟩
theorem GW.typ {x : RS} {a : Nat} (ha : a = 6 ∨ a = 8) : GW x (typP tx n x) a 9 := by
  have s8 : (a, (8 : Int32), 0, 9) ∈ grL := by rcases ha with h | h <;> subst h <;> decide
  have s9 : (a, (9 : Int32), 10, 9) ∈ grL := by rcases ha with h | h <;> subst h <;> decide
  have s10 : (a, (10 : Int32), 0, 9) ∈ grL := by rcases ha with h | h <;> subst h <;> decide
  unfold typP
  split
  · rename_i h; exact GW.lf s10 (tv_name h ML.nx (by decide))
  · split
    · unfold arrP
      dsimp only
      refine GW.node (c := 10) (f := 0) ?_ (by decide) s9 (fun _ _ _ _ _ => vOK.free (by decide))
      have m1 : ML x (conP tx n (wtR tx n (isS (nxR tx n x) 91) (nxR tx n x))).1 := (ML.nx.trans ML.wt).trans ML.con
      have g1 : GW x (conP tx n (wtR tx n (isS (nxR tx n x) 91) (nxR tx n x))) 10 11 := (GW.con (by decide) (by decide)).pre (ML.nx.trans ML.wt) ML.con
      generalize conP tx n (wtR tx n (isS (nxR tx n x) 91) (nxR tx n x)) = A at m1 g1 ⊢
      have m2 : ML A.1 (conP tx n (wtR tx n (isS A.1 257) A.1)).1 := ML.wt.trans ML.con
      have g2 : GW A.1 (conP tx n (wtR tx n (isS A.1 257) A.1)) 11 12 := (GW.con (by decide) (by decide)).pre ML.wt ML.con
      generalize conP tx n (wtR tx n (isS A.1 257) A.1) = B at m2 g2 ⊢
      have m3 : ML B.1 (simP tx n (wtR tx n (isW (wtR tx n (isS B.1 93) B.1) 15) (wtR tx n (isS B.1 93) B.1))).1 := (ML.wt.trans ML.wt).trans ML.sim
      have g3 : GW B.1 (simP tx n (wtR tx n (isW (wtR tx n (isS B.1 93) B.1) 15) (wtR tx n (isS B.1 93) B.1))) 12 0 := (GW.sim (by decide)).pre (ML.wt.trans ML.wt) ML.sim
      exact g1.cat (g2.cat g3 m2 m3) m1 (m2.trans m3)
    · exact GW.sim s8
theorem GW.at {x : RS} : ∀ {y : RS} {t : Tr}, GW (atP tx n x).1 (y, t) 6 9 → GW (atP tx n x).1 (y, t) 8 9 → ML (atP tx n x).1 y → GW x (y, tap (atP tx n x).2 t) 6 9 := by
  intro y t h1 h2 hm
  unfold atP at h1 h2 hm ⊢
  split
  · rename_i c
    rw [if_pos c] at h1 h2 hm
    split
    · rename_i c2
      rw [if_pos c2] at h1 h2 hm
      refine GW.cat (y := nxR tx n (nxR tx n x)) (GW.pre (y := nxR tx n x) (GW.lf (by decide) (fun s z hs hz hv => ?_)) ML.nx ML.nx) h2 (ML.nx.trans ML.nx) hm
      refine ⟨fun q => absurd q (by decide), fun q => absurd q (by decide), fun q => absurd q (by decide), fun q => absurd q (by decide), fun q => absurd q (by decide), fun _ => ?_⟩
      rw [hs] at c2
      obtain ⟨a, i, h1, h2, h3⟩ := hv.2 (of_decide_eq_true c2)
      exact ⟨a, i, h1, h2, by rw [hs]; exact h3⟩
    · rename_i c2
      rw [if_neg c2] at hm
      intro s z _ hz _
      have hz : y = .ok z := hz
      cases hq : flR 6 (nxR tx n x) with
      | ok q => have := fl_no (c := 6) (y := nxR tx n x); rw [hq] at this; exact absurd this (show ¬ true = false by decide)
      | error e => have := hm.1 e hq; rw [hz] at this; cases this
  · rename_i c
    rw [if_neg c] at h1 h2 hm
    exact h1
theorem ML.clr {y : RS} : ML y (clR y) := ⟨fun e h => by rw [h]; rfl, fun s q h1 h2 => by rw [h1] at h2; cases h2; exact ⟨Nat.le_refl _, fun h => h⟩⟩
/-- a whole row below a node -/
def GF (x : RS) (r : RS × Tr) (a : Nat) : Prop := ∃ f, fin f ∧ GW x r a f
theorem GF.post {x y z : RS} {t : Tr} {a : Nat} (h : GF x (y, t) a) (m2 : ML y z) : GF x (z, t) a := by
  obtain ⟨f, h1, h2⟩ := h
  exact ⟨f, h1, h2.post m2⟩
theorem GF.pre {x y : RS} {r : RS × Tr} {a : Nat} (h : GF y r a) (m1 : ML x y) (m2 : ML y r.1) : GF x r a := by
  obtain ⟨f, h1, h2⟩ := h
  exact ⟨f, h1, h2.pre m1 m2⟩
theorem GF.cat {x y z : RS} {t u : Tr} {a b : Nat} (h1 : GW x (y, t) a b) (h2 : GF y (z, u) b) (m1 : ML x y) (m2 : ML y z) : GF x (z, tap t u) a := by
  obtain ⟨f, h3, h4⟩ := h2
  exact ⟨f, h3, h1.cat h4 m1 m2⟩
theorem GF.node {x y : RS} {t : Tr} {a c e : Nat} {k p v : Int32} (h : GF x (y, t) c) (hs : (a, k, c, e) ∈ grL) (hv : ∀ s z, x = .ok s → y = .ok z → TV s → vOK (sN z).length k v) : GW x (y, tN (k, p, v) t .leaf) a e := by
  obtain ⟨f, h1, h2⟩ := h
  exact GW.node h2 h1 hs hv
theorem GW.fi {x : RS} {r : RS × Tr} {a f : Nat} (h : GW x r a f) (hf : fin f) : GF x r a := ⟨f, hf, h⟩
theorem GW.dec {x : RS} : GW x (decP tx n x) 4 4 := by
  unfold decP
  split
  · dsimp only
    refine GF.node (c := 5) (GF.post ?_ ML.wt) (by decide) (fun _ _ _ _ _ => vOK.free (by decide))
    have mA : ML x (nmlP tx n (n + 1) x).1 := ML.nml _
    have gA : GW x (nmlP tx n (n + 1) x) 5 6 := (GW.nml (n + 1)).2 (Nat.succ_pos _)
    generalize nmlP tx n (n + 1) x = A at mA gA ⊢
    have mB : ML A.1 (atP tx n A.1).1 := ML.at
    have mC : ML (atP tx n A.1).1 (typP tx n (wtR tx n (isS (atP tx n A.1).1 58) (atP tx n A.1).1)).1 := ML.wt.trans ML.typ
    have gC : ∀ a, a = 6 ∨ a = 8 → GW (atP tx n A.1).1 (typP tx n (wtR tx n (isS (atP tx n A.1).1 58) (atP tx n A.1).1)) a 9 := fun a ha => (GW.typ ha).pre ML.wt ML.typ
    generalize typP tx n (wtR tx n (isS (atP tx n A.1).1 58) (atP tx n A.1).1) = C at mC gC ⊢
    have mE : ML C.1 (iniP tx n C.1).1 := ML.ini
    have gE : GF C.1 (iniP tx n C.1) 9 := by
      unfold iniP
      split
      · exact ((GW.con (by decide) (by decide)).pre ML.nx ML.con).fi (f := 0) (by decide)
      · exact GW.nil.fi (f := 9) (by decide)
    generalize iniP tx n C.1 = I at mE gE ⊢
    have gBC := GW.at (gC 6 (Or.inl rfl)) (gC 8 (Or.inr rfl)) mC
    have := GF.cat gA (GF.cat gBC gE (mB.trans mC) mE) mA ((mB.trans mC).trans mE)
    rw [tap_assoc] at this
    exact this
  · exact GW.bad fl_no
theorem GW.dcl : ∀ (f : Nat) {x : RS}, GW x (dclP tx n f x) 4 4 := by
  intro f
  induction f with
  | zero => intro x; exact GW.nil
  | succ f ih =>
    intro x
    unfold dclP
    split
    · exact GW.dec.cat ih ML.dec (ML.dcl f)
    · exact GW.nil
theorem sec_v {x : RS} (h : (isW x 6 || isW x 7 || isW x 8) = true) : ∃ j, j < 3 ∧ vaI x - 6 = nI j := by
  simp only [Bool.or_eq_true] at h
  rcases h with (h | h) | h
  · exact ⟨0, by decide, by rw [(isW_k h).2]; decide⟩
  · exact ⟨1, by decide, by rw [(isW_k h).2]; decide⟩
  · exact ⟨2, by decide, by rw [(isW_k h).2]; decide⟩
theorem GW.scs : ∀ (f : Nat) {x : RS} {b : Int32}, GW x ((scsP tx n f x b).1, (scsP tx n f x b).2.1) 3 3 := by
  intro f
  induction f with
  | zero => intro x b; exact GW.nil
  | succ f ih =>
    intro x b
    unfold scsP
    split
    · rename_i h
      refine GW.cat ?_ ih ML.sec (ML.scs f)
      unfold secP
      dsimp only
      exact GF.node (c := 4) (((GW.dcl (n + 1)).pre ML.nx (ML.dcl _)).fi (by decide) |>.post ML.wt) (by decide) (fun _ _ _ _ _ => vOK.j3 (Or.inr rfl) (sec_v h))
    · exact GW.nil
/-- how deep it may still go -/
def HD (n F : Nat) (x : RS) : Prop := ∀ q, x = .ok q → InvS n q ∧ 61 ≤ F + sD q
theorem HD.mo {F : Nat} {x y : RS} (h : HD n F x) (hm : MO n x y) : HD n F y := by
  intro q hq
  cases x with
  | error e => rw [hm.1 e rfl] at hq; cases hq
  | ok r =>
    have m := hm.2 r q rfl hq (h r rfl).1
    have := (h r rfl).2
    exact ⟨m.1, by omega⟩
theorem HD.op {F : Nat} {x y : RS} (h : HD n (F + 1) x) (hm : MO n (opR x) y) : HD n F y := by
  have h1 : HD n F (opR x) := by
    intro u hu
    cases x with
    | error e => cases hu
    | ok r =>
      have m := MO.op.2 r u rfl hu (h r rfl).1
      have e : sD u = sD r + 1 := by
        unfold opR at hu
        dsimp only at hu
        split at hu
        · cases hu
        · cases hu; rfl
      have := (h r rfl).2
      exact ⟨m.1, by omega⟩
  exact h1.mo hm
theorem GE.pre {x y : RS} {r : RS × Tr} (h : GE y r) (m1 : ML x y) (m2 : ML y r.1) : GE x r := by
  intro s q hs hq hv
  cases hy : y with
  | error e => have := m2.1 e hy; rw [hq] at this; cases this
  | ok z => exact h z q hy hq ((m1.2 s z hs hy).2 hv)
theorem GE.post {x y z : RS} {t : Tr} (h : GE x (y, t)) (m2 : ML y z) : GE x (z, t) := by
  intro s q hs hq hv
  have hq : z = .ok q := hq
  cases hy : y with
  | error e => have := m2.1 e hy; rw [hq] at this; cases this
  | ok r => exact (h s r hs hy hv).mono (m2.2 r q hy hq).1
theorem GE.bad {x y : RS} {t : Tr} (h : isO y = false) : GE x (y, t) := fun s z _ h2 _ => by have h2 : y = .ok z := h2; rw [h2] at h; exact absurd h (show ¬ true = false by decide)
theorem GE.ex {F : Nat} (ho : ∀ x, HD n F x → GE x (opdP tx n F x)) {x : RS} (hx : HD n F x) : GE x (exP tx n (opdP tx n F) x) := by
  have lst : ∀ (f : Nat) (y : RS), HD n F y → ∀ s z, y = .ok s → (exlP tx n (opdP tx n F) f y).1 = .ok z → TV s → ∀ r, r ∈ (exlP tx n (opdP tx n F) f y).2 → EX (sN z).length r.2 ∧ ∃ j, j < 14 ∧ r.1.1 = nI j := by
    intro f
    induction f with
    | zero => intro y _ s z _ _ _ r hr; exact absurd hr (by simp [exlP])
    | succ f ih =>
      intro y hy s z hs hz hv r hr
      have eN : exlP tx n (opdP tx n F) (f + 1) y = if 0 ≤ sgI y then ((exlP tx n (opdP tx n F) f (opdP tx n F (nxR tx n (opR y))).1).1, ((sgI y, frI y), (opdP tx n F (nxR tx n (opR y))).2) :: (exlP tx n (opdP tx n F) f (opdP tx n F (nxR tx n (opR y))).1).2) else (y, []) := rfl
      rw [eN] at hz hr
      by_cases c : 0 ≤ sgI y
      · rw [if_pos c] at hz hr
        have hd1 : HD n F (nxR tx n (opR y)) := hy.mo (MO.op.trans MO.nx)
        have mo2 : MO n (nxR tx n (opR y)) (opdP tx n F (nxR tx n (opR y))).1 := MO.opd F
        have m1 : ML y (nxR tx n (opR y)) := ML.op.trans ML.nx
        have m2 : ML (nxR tx n (opR y)) (opdP tx n F (nxR tx n (opR y))).1 := ML.opd F
        have m3 : ML (opdP tx n F (nxR tx n (opR y))).1 (exlP tx n (opdP tx n F) f (opdP tx n F (nxR tx n (opR y))).1).1 := ML.exl (fun _ => ML.opd F) f
        have g := ho _ hd1
        dsimp only at hz hr
        rw [List.mem_cons] at hr
        rcases hr with hr | hr
        · subst hr
          exact ⟨((g.pre m1 m2).post m3) s z hs hz hv, sgI_in c⟩
        · cases hq : (opdP tx n F (nxR tx n (opR y))).1 with
          | error e => have := m3.1 e hq; rw [hz] at this; cases this
          | ok w => exact ih _ (hd1.mo mo2) w z hq hz (((m1.trans m2).2 s w hs hq).2 hv) r hr
      · rw [if_neg c] at hr; exact absurd hr (by simp)
  intro s z hs hz hv
  subst hs
  have h1 := hx s rfl
  have hx' : HD n F (.ok (sDS s (sD s) (sS s + 1))) := fun q hq => by cases hq; exact ⟨h1.1, h1.2⟩
  have m1 := ML.opd (tx := tx) (n := n) F (x := .ok (sDS s (sD s) (sS s + 1)))
  have mo1 := MO.opd (tx := tx) (n := n) F (x := .ok (sDS s (sD s) (sS s + 1)))
  have hz : enX s (exlP tx n (opdP tx n F) (n + 1) (opdP tx n F (.ok (sDS s (sD s) (sS s + 1)))).1).1 = .ok z := hz
  have m2 := ML.exl (tx := tx) (n := n) (fun _ => ML.opd (tx := tx) (n := n) F) (n + 1) (x := (opdP tx n F (.ok (sDS s (sD s) (sS s + 1)))).1)
  have g := ho _ hx'
  show EX (sN z).length (srT [] (opdP tx n F (.ok (sDS s (sD s) (sS s + 1)))).2 (exlP tx n (opdP tx n F) (n + 1) (opdP tx n F (.ok (sDS s (sD s) (sS s + 1)))).1).2)
  cases hy : (exlP tx n (opdP tx n F) (n + 1) (opdP tx n F (.ok (sDS s (sD s) (sS s + 1)))).1).1 with
  | error e => rw [hy] at hz; cases hz
  | ok r =>
    rw [hy] at hz
    have ez : sN z = sN r := by cases hz; rfl
    rw [ez]
    cases hq : (opdP tx n F (.ok (sDS s (sD s) (sS s + 1)))).1 with
    | error e => have := m2.1 e hq; rw [hy] at this; cases this
    | ok u =>
      refine srT_ex (fun q hq => absurd hq (by simp)) ((g _ u rfl hq hv).mono (m2.2 u r hq hy).1) ?_
      rw [hq] at hy
      exact lst (n + 1) (.ok u) (by rw [← hq]; exact hx'.mo mo1) u r rfl hy ((m1.2 _ u rfl hq).2 hv)
theorem GF.arl {E : RS → RS × Tr} {F : Nat} (hE : ∀ x, HD n F x → GE x (E x)) (mE : ∀ x, ML x (E x).1) (moE : ∀ x, MO n x (E x).1) : ∀ (f : Nat) {x : RS}, HD n F x → GW x (arlP tx n E f x) 26 26 := by
  intro f
  induction f with
  | zero => intro x _; exact GW.nil
  | succ f ih =>
    intro x hx
    unfold arlP
    split
    · exact ((hE x hx).w (by decide)).cat ((ih ((hx.mo (moE x)).mo MO.nx)).pre ML.nx (ML.arl mE f)) (mE x) (ML.nx.trans (ML.arl mE f))
    · exact (hE x hx).w (by decide)
theorem GE.opd : ∀ (F : Nat) (x : RS), HD n F x → GE x (opdP tx n F x) := by
  intro F
  induction F with
  | zero =>
    intro x hx s y hs _ _
    have := hx s hs
    have := this.1.2.2.2.2.2.2
    omega
  | succ F ih =>
    intro x hx
    have mop : ML x (nxR tx n (opR x)) := ML.op.trans ML.nx
    have hop : HD n F (nxR tx n (opR x)) := hx.op MO.nx
    unfold opdP
    split
    · refine GE.node (c := 14) (f := 0) ((((ih _ hop).w (by decide)).pre mop (ML.opd F)).post ML.clr) (by decide) (by decide) (fun _ _ _ _ _ => vOK.b (Or.inr rfl) ?_)
      split
      · exact Or.inl rfl
      · exact Or.inr rfl
    · split
      · dsimp only
        exact (((GE.ex ih hop).pre mop (ML.ex (fun _ => ML.opd F))).post ML.wt).post ML.clr
      · split
        · exact GE.node (c := 0) (f := 0) GW.nil (by decide) (by decide) (fun _ _ _ _ _ => vOK.free (by decide))
        · split
          · rename_i h
            refine GE.node (c := 0) (f := 0) GW.nil (by decide) (by decide) (fun _ _ _ _ _ => vOK.b (Or.inl rfl) ?_)
            have h : isW x 35 = true ∨ isW x 36 = true := by simpa using h
            rcases h with h | h
            · rw [(isW_k h).2]; exact Or.inr (by decide)
            · rw [(isW_k h).2]; exact Or.inl (by decide)
          · split
            · rename_i hk
              unfold nopP
              dsimp only
              have mE : ∀ y, ML y (exP tx n (opdP tx n F) y).1 := fun y => ML.ex (fun _ => ML.opd F)
              have moE : ∀ y, MO n y (exP tx n (opdP tx n F) y).1 := fun y => MO.ex (fun _ => MO.opd F)
              have hop2 : HD n F (nxR tx n (opR (nxR tx n x))) := (hx.mo MO.nx).op MO.nx
              have mop2 : ML x (nxR tx n (opR (nxR tx n x))) := (ML.nx.trans ML.op).trans ML.nx
              split
              · unfold ixP
                refine GE.node (c := 14) (f := 0) (((((GE.ex ih hop2).w (by decide)).pre mop2 (mE _)).post ML.wt).post ML.clr) (by decide) (by decide) (tv_name hk ((((mop2.trans (mE _)).trans ML.wt)).trans ML.clr) (by decide))
              · split
                · unfold agP
                  dsimp only
                  split
                  · exact GE.node (c := 26) (f := 26) GW.nil (by decide) (by decide) (tv_name hk ((mop2.trans ML.wt).trans ML.clr) (by decide))
                  · have ma := ML.arl (tx := tx) (n := n) mE (n + 1) (x := nxR tx n (opR (nxR tx n x)))
                    exact GE.node (c := 26) (f := 26) ((((GF.arl (fun y hy => GE.ex ih hy) mE moE (n + 1) hop2).pre mop2 ma).post ML.wt).post ML.clr) (by decide) (by decide) (tv_name hk (((mop2.trans ma).trans ML.wt).trans ML.clr) (by decide))
                · unfold outP
                  split
                  · refine GE.node (c := 27) (f := 0) (GW.pre (y := nxR tx n (nxR tx n x)) (GW.node (c := 0) (f := 0) GW.nil (by decide) (by decide) (tv_name' ML.rfl' (by decide))) (ML.nx.trans ML.nx) ML.wt) (by decide) (by decide) (tv_name hk ((ML.nx.trans ML.nx).trans ML.wt) (by decide))
                  · exact GE.node (c := 0) (f := 0) GW.nil (by decide) (by decide) (tv_name hk ML.nx (by decide))
            · exact GE.bad fl_no
theorem GE.exp {x : RS} (hi : ∀ q, x = .ok q → InvS n q) : GE x (expP tx n x) := GE.ex (GE.opd 70) (fun q hq => ⟨hi q hq, by omega⟩)
end
