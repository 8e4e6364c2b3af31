/-! 104: signs that wait, and a split at the last sign of those that bind the least: the same tree -/
def goT : Wt → Tr → List ((Int32 × Int32) × Tr) → Wt × Tr
  | w, c, [] => (w, c)
  | w, c, r :: l => goT (((rdW (clo r.1.1) w c).2, r.1) :: (rdW (clo r.1.1) w c).1) r.2 l
theorem srT_go : ∀ (l : List ((Int32 × Int32) × Tr)) (w : Wt) (c : Tr), srT w c l = rdA (goT w c l).1 (goT w c l).2 := by
  intro l
  induction l with
  | nil => intro w c; rfl
  | cons r l ih => intro w c; rw [srT, goT]; exact ih _ _
theorem goT_app : ∀ (l m : List ((Int32 × Int32) × Tr)) (w : Wt) (c : Tr), goT w c (l ++ m) = goT (goT w c l).1 (goT w c l).2 m := by
  intro l
  induction l with
  | nil => intro m w c; rfl
  | cons r l ih => intro m w c; rw [List.cons_append, goT, goT]; exact ih _ _ _
theorem rdW_sub {b : Int32} : ∀ (w : Wt) (c : Tr), ∀ q, q ∈ (rdW b w c).1 → q ∈ w := by
  intro w
  induction w with
  | nil => intro c q h; exact h
  | cons z w ih =>
    intro c q h
    rw [rdW] at h
    split at h
    · exact List.mem_cons_of_mem _ (ih _ q h)
    · exact h
theorem goT_signs {P : Int32 → Prop} : ∀ (l : List ((Int32 × Int32) × Tr)) (w : Wt) (c : Tr), (∀ q, q ∈ w → P q.2.1) → (∀ r, r ∈ l → P r.1.1) → ∀ q, q ∈ (goT w c l).1 → P q.2.1 := by
  intro l
  induction l with
  | nil => intro w c hw _ q h; exact hw q h
  | cons r l ih =>
    intro w c hw hl q h
    rw [goT] at h
    refine ih _ _ (fun z hz => ?_) (fun z hz => hl z (List.mem_cons_of_mem _ hz)) q h
    rw [List.mem_cons] at hz
    rcases hz with hz | hz
    · subst hz; exact hl r List.mem_cons_self
    · exact hw z (rdW_sub _ _ z hz)
theorem rdW_all {b : Int32} : ∀ (w : Wt) (c : Tr), (∀ q, q ∈ w → b ≤ clo q.2.1) → rdW b w c = ([], rdA w c) := by
  intro w
  induction w with
  | nil => intro c _; rfl
  | cons z w ih =>
    intro c h
    rw [rdW, if_pos (h z List.mem_cons_self), rdA]
    exact ih _ (fun q hq => h q (List.mem_cons_of_mem _ hq))
theorem rdW_base {b : Int32} {z : Tr × Int32 × Int32} (hz : ¬ b ≤ clo z.2.1) : ∀ (w : Wt) (c : Tr), rdW b (w ++ [z]) c = ((rdW b w c).1 ++ [z], (rdW b w c).2) := by
  intro w
  induction w with
  | nil => intro c; show rdW b [z] c = ([z], c); rw [rdW, if_neg hz]
  | cons q w ih =>
    intro c
    rw [List.cons_append, rdW, rdW]
    split
    · exact ih _
    · rfl
theorem goT_base {z : Tr × Int32 × Int32} : ∀ (l : List ((Int32 × Int32) × Tr)) (w : Wt) (c : Tr), (∀ r, r ∈ l → ¬ clo r.1.1 ≤ clo z.2.1) → goT (w ++ [z]) c l = ((goT w c l).1 ++ [z], (goT w c l).2) := by
  intro l
  induction l with
  | nil => intro w c _; rfl
  | cons r l ih =>
    intro w c h
    rw [goT, goT, rdW_base (h r List.mem_cons_self)]
    exact ih (((rdW (clo r.1.1) w c).2, r.1) :: (rdW (clo r.1.1) w c).1) r.2 (fun q hq => h q (List.mem_cons_of_mem _ hq))
theorem rdA_base {z : Tr × Int32 × Int32} : ∀ (w : Wt) (c : Tr), rdA (w ++ [z]) c = two z.1 z.2.1 z.2.2 (rdA w c) := by
  intro w
  induction w with
  | nil => intro c; rfl
  | cons q w ih => intro c; rw [List.cons_append, rdA, rdA]; exact ih _
/-- split at the last sign of those that bind the least -/
theorem srT_cut {c t : Tr} {s p : Int32} {l m : List ((Int32 × Int32) × Tr)} (h1 : ∀ r, r ∈ l → clo s ≤ clo r.1.1) (h2 : ∀ r, r ∈ m → ¬ clo r.1.1 ≤ clo s) : srT [] c (l ++ ((s, p), t) :: m) = two (srT [] c l) s p (srT [] t m) := by
  rw [srT_go, goT_app, goT]
  have a1 := rdW_all (b := clo s) (goT [] c l).1 (goT [] c l).2 (goT_signs (P := fun v => clo s ≤ clo v) l [] c (fun q hq => absurd hq (by simp)) h1)
  dsimp only
  rw [a1]
  have a2 := goT_base (z := (rdA (goT [] c l).1 (goT [] c l).2, s, p)) m [] t h2
  rw [List.nil_append] at a2
  rw [a2]
  dsimp only
  rw [rdA_base, ← srT_go, ← srT_go]
/-- the trees of operands that are kept, each with the sign behind it -/
def reK : List (Tr × Int32 × Int32) → List ((Int32 × Int32) × Tr)
  | [] => []
  | [_] => []
  | q :: r :: l => (q.2, r.1) :: reK (r :: l)
def exK (l : List (Tr × Int32 × Int32)) : Tr := match l with
  | [] => .leaf
  | q :: l => srT [] q.1 (reK (q :: l))
theorem reK_app : ∀ (l : List (Tr × Int32 × Int32)) (q r : Tr × Int32 × Int32) (m : List (Tr × Int32 × Int32)), reK (l ++ q :: r :: m) = reK (l ++ [q]) ++ (q.2, r.1) :: reK (r :: m) := by
  intro l
  induction l with
  | nil => intro q r m; rfl
  | cons z l ih =>
    intro q r m
    cases l with
    | nil => rfl
    | cons y l =>
      show (z.2, y.1) :: reK (y :: l ++ q :: r :: m) = ((z.2, y.1) :: reK (y :: l ++ [q])) ++ _
      rw [ih]; rfl
theorem reK_mem : ∀ (l : List (Tr × Int32 × Int32)) (q : Tr × Int32 × Int32) (r : (Int32 × Int32) × Tr), r ∈ reK (l ++ [q]) → ∃ z, z ∈ l ∧ r.1 = z.2 := by
  intro l
  induction l with
  | nil => intro q r h; exact absurd h (by simp [reK])
  | cons z l ih =>
    intro q r h
    cases l with
    | nil =>
      have h : r ∈ [(z.2, q.1)] := h
      rw [List.mem_singleton] at h
      exact ⟨z, List.mem_cons_self, by rw [h]⟩
    | cons y l =>
      have h : r ∈ (z.2, y.1) :: reK (y :: l ++ [q]) := h
      rw [List.mem_cons] at h
      rcases h with h | h
      · exact ⟨z, List.mem_cons_self, by rw [h]⟩
      · obtain ⟨u, hu, e⟩ := ih q r h
        exact ⟨u, List.mem_cons_of_mem _ hu, e⟩
/-- the tree of operands that are kept, by a split: q is the last of those whose sign binds the least -/
theorem exK_cut {l m : List (Tr × Int32 × Int32)} {q e : Tr × Int32 × Int32} (h1 : ∀ z, z ∈ l → clo q.2.1 ≤ clo z.2.1) (h2 : ∀ z, z ∈ m → ¬ clo z.2.1 ≤ clo q.2.1) : exK (l ++ q :: (m ++ [e])) = two (exK (l ++ [q])) q.2.1 q.2.2 (exK (m ++ [e])) := by
  obtain ⟨r, m', em⟩ : ∃ r m', m ++ [e] = r :: m' := by
    cases m with
    | nil => exact ⟨e, [], rfl⟩
    | cons r m => exact ⟨r, m ++ [e], rfl⟩
  have hm : ∀ z, z ∈ reK (r :: m') → ¬ clo z.1.1 ≤ clo q.2.1 := by
    intro z hz
    rw [← em] at hz
    obtain ⟨u, hu, eu⟩ := reK_mem m e z hz
    rw [eu]; exact h2 u hu
  have hl : ∀ z, z ∈ reK (l ++ [q]) → clo q.2.1 ≤ clo z.1.1 := by
    intro z hz
    obtain ⟨u, hu, eu⟩ := reK_mem l q z hz
    rw [eu]; exact h1 u hu
  rw [em]
  cases l with
  | nil =>
    show srT [] q.1 (reK (q :: r :: m')) = two (srT [] q.1 (reK [q])) q.2.1 q.2.2 (srT [] r.1 (reK (r :: m')))
    have := reK_app [] q r m'
    rw [List.nil_append, List.nil_append] at this
    rw [this]
    exact srT_cut hl hm
  | cons z l =>
    show srT [] z.1 (reK (z :: l ++ q :: r :: m')) = two (srT [] z.1 (reK (z :: l ++ [q]))) q.2.1 q.2.2 (srT [] r.1 (reK (r :: m')))
    rw [reK_app]
    exact srT_cut hl hm
