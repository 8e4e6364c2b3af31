/-! 080: nodes in memory, as a store of records with rows of children; forests in a store -/
/-- a node: kind, place, value -/
abbrev Nd : Type := Int32 × Int32 × Int32
/-- forests: the first child to the left, the next one beside to the right -/
abbrev Tr : Type := Std.DTreeMap.Internal.Impl Nd (fun _ => Unit)
def tN (k : Nd) (l r : Tr) : Tr := .inner 0 k () l r
def tap : Tr → Tr → Tr
  | .leaf, u => u
  | .inner z k v l r, u => .inner z k v l (tap r u)
theorem tap_leaf (t : Tr) : tap t .leaf = t := by
  induction t with
  | leaf => rfl
  | inner z k v l r _ ih => rw [tap, ih]
theorem tap_assoc (t u v : Tr) : tap (tap t u) v = tap t (tap u v) := by
  induction t with
  | leaf => rfl
  | inner z k w l r _ ih => rw [tap, tap, tap, ih]
/-- kind, place, value, the one above (-1: none, -2: this one is not told any more), those below -/
abbrev Rc : Type := Int32 × Int32 × Int32 × Int32 × List Nat
abbrev NS : Type := Nat × (Nat → Rc)
def rk (r : Rc) : Nd := (r.1, r.2.1, r.2.2.1)
def rp (r : Rc) : Int32 := r.2.2.2.1
def rc (r : Rc) : List Nat := r.2.2.2.2
def hdI : List Nat → Int32
  | [] => -1
  | c :: _ => nI c
def laI : List Nat → Int32
  | [] => -1
  | [c] => nI c
  | _ :: d :: l => laI (d :: l)
def Lk (σ : Sg) (a : Nat) : List Nat → Prop
  | [] => True
  | [c] => σ.1 a c = -1
  | c :: d :: l => σ.1 a c = nI d ∧ Lk σ a (d :: l)
/-- a record is what the memory says; the rows of nodes are B .. B + 6 -/
def RcM (σ : Sg) (B m : Nat) (f : Nat → Rc) (k : Nat) : Prop := rp (f k) ≠ -2 → σ.1 B k = (f k).1 ∧ σ.1 (B + 1) k = (f k).2.1 ∧ σ.1 (B + 2) k = (f k).2.2.1 ∧ σ.1 (B + 3) k = rp (f k) ∧ σ.1 (B + 4) k = hdI (rc (f k)) ∧ σ.1 (B + 5) k = laI (rc (f k)) ∧ Lk σ (B + 6) (rc (f k)) ∧ (rp (f k) = -1 → σ.1 (B + 6) k = -1) ∧ (∀ c, c ∈ rc (f k) → c < m ∧ rp (f c) = nI k) ∧ (rc (f k)).Nodup
def NM (σ : Sg) (B : Nat) (s : NS) : Prop := ∀ k, k < s.1 → RcM σ B s.1 s.2 k
def upR (f : Nat → Rc) (k : Nat) (r : Rc) : Nat → Rc := fun j => if j = k then r else f j
theorem upR_at {f : Nat → Rc} {k j : Nat} {r : Rc} : upR f k r j = if j = k then r else f j := rfl
def addN (s : NS) (k p v : Int32) : NS := (s.1 + 1, upR s.2 s.1 (k, p, v, -1, []))
def putN (s : NS) (p c : Nat) : NS := (s.1, upR (upR s.2 c ((s.2 c).1, (s.2 c).2.1, (s.2 c).2.2.1, nI p, rc (s.2 c))) p ((s.2 p).1, (s.2 p).2.1, (s.2 p).2.2.1, rp (s.2 p), rc (s.2 p) ++ [c]))
def setN (s : NS) (p : Nat) (q : Nd) : NS := (s.1, upR s.2 p (q.1, q.2.1, q.2.2, rp (s.2 p), rc (s.2 p)))
theorem Lk_cong {σ τ : Sg} {a : Nat} : ∀ {l : List Nat}, (∀ c, c ∈ l → τ.1 a c = σ.1 a c) → Lk σ a l → Lk τ a l
  | [], _, _ => trivial
  | [c], h, q => (h c (by simp)).trans q
  | c :: d :: l, h, q => ⟨(h c (by simp)).trans q.1, Lk_cong (l := d :: l) (fun e he => h e (List.mem_cons_of_mem _ he)) q.2⟩
theorem laI_mem : ∀ {l : List Nat}, l ≠ [] → ∃ c, c ∈ l ∧ laI l = nI c
  | [], h => absurd rfl h
  | [c], _ => ⟨c, by simp, rfl⟩
  | _ :: d :: l, _ => by
    obtain ⟨c, h1, h2⟩ := laI_mem (l := d :: l) (by simp)
    exact ⟨c, List.mem_cons_of_mem _ h1, h2⟩
theorem laI_app (l : List Nat) (c : Nat) : laI (l ++ [c]) = nI c := by
  induction l with
  | nil => rfl
  | cons a l ih =>
    cases l with
    | nil => rfl
    | cons b l => exact ih
theorem hdI_app {l : List Nat} {c : Nat} (h : l ≠ []) : hdI (l ++ [c]) = hdI l := by
  cases l with
  | nil => exact absurd rfl h
  | cons a l => rfl
theorem hdI_neg {l : List Nat} (h : ∀ c, c ∈ l → c < 2 ^ 31) : hdI l = -1 ↔ l = [] := by
  cases l with
  | nil => exact ⟨fun _ => rfl, fun _ => rfl⟩
  | cons a l =>
    refine ⟨fun q => ?_, fun q => absurd q (by simp)⟩
    exfalso
    have q : nI a = -1 := q
    have := nI_pos (h a (by simp))
    rw [q] at this
    exact this (by decide)
theorem Lk_app {σ τ : Sg} {a : Nat} {c : Nat} : ∀ {l : List Nat}, Lk σ a l → l.Nodup → c ∉ l → (∀ e, e ∈ l → nI e ≠ laI l → τ.1 a e = σ.1 a e) → (∀ e, e ∈ l → nI e = laI l → τ.1 a e = nI c) → τ.1 a c = -1 → (∀ e, e ∈ l → e < 2 ^ 31) → Lk τ a (l ++ [c])
  | [], _, _, _, _, _, h, _ => h
  | [b], _, _, _, _, h2, h, _ => ⟨h2 b (by simp) rfl, h⟩
  | b :: d :: l, q, nd, nc, h1, h2, h, hs => by
    have hne : nI b ≠ laI (b :: d :: l) := by
      intro e
      obtain ⟨x, hx, ex⟩ := laI_mem (l := d :: l) (by simp)
      have e : nI b = laI (d :: l) := e
      rw [ex] at e
      have : b = x := (nI_eq (hs b (by simp)) (hs x (List.mem_cons_of_mem _ hx))).mp e
      rw [List.nodup_cons] at nd
      exact nd.1 (this ▸ hx)
    refine ⟨(h1 b (by simp) hne).trans q.1, ?_⟩
    rw [List.nodup_cons] at nd
    exact Lk_app (l := d :: l) q.2 nd.2 (fun r => nc (List.mem_cons_of_mem _ r)) (fun e he => h1 e (List.mem_cons_of_mem _ he)) (fun e he => h2 e (List.mem_cons_of_mem _ he)) h (fun e he => hs e (List.mem_cons_of_mem _ he))
theorem nI_nm1 {a : Nat} (h : a < 2 ^ 31) : nI a ≠ -1 := fun q => by have := nI_pos h; rw [q] at this; exact this (by decide)
theorem nI_nm2 {a : Nat} (h : a < 2 ^ 31) : nI a ≠ -2 := fun q => by have := nI_pos h; rw [q] at this; exact this (by decide)
theorem NM.add {σ τ : Sg} {B : Nat} {s : NS} {k p v : Int32} (h : NM σ B s) (hm : s.1 < 2 ^ 30) (h0 : τ.1 B s.1 = k) (h1 : τ.1 (B + 1) s.1 = p) (h2 : τ.1 (B + 2) s.1 = v) (h3 : τ.1 (B + 3) s.1 = -1) (h4 : τ.1 (B + 4) s.1 = -1) (h5 : τ.1 (B + 5) s.1 = -1) (h6 : τ.1 (B + 6) s.1 = -1)
    (hF : ∀ i, i ≤ 6 → ∀ j, j < s.1 → τ.1 (B + i) j = σ.1 (B + i) j) : NM τ B (addN s k p v) := by
  intro j hj
  have hj : j < s.1 + 1 := hj
  by_cases e : j = s.1
  · subst e
    unfold RcM addN
    simp only [upR_at, if_true]
    intro _
    exact ⟨h0, h1, h2, h3, h4, h5, trivial, fun _ => h6, fun c hc => absurd hc (by simp [rc]), by simp [rc]⟩
  · have hj : j < s.1 := by omega
    have o := h j hj
    unfold RcM at o ⊢
    have e2 : (addN s k p v).2 j = s.2 j := by show upR s.2 s.1 _ j = _; rw [upR_at, if_neg e]
    rw [e2]
    intro hd
    obtain ⟨a0, a1, a2, a3, a4, a5, a6, a7, a8, a9⟩ := o hd
    refine ⟨(hF 0 (by omega) j hj).trans a0, by rw [hF 1 (by omega) j hj]; exact a1, by rw [hF 2 (by omega) j hj]; exact a2, by rw [hF 3 (by omega) j hj]; exact a3, by rw [hF 4 (by omega) j hj]; exact a4, by rw [hF 5 (by omega) j hj]; exact a5, Lk_cong (fun c hc => hF 6 (by omega) c (a8 c hc).1) a6, fun q => by rw [hF 6 (by omega) j hj]; exact a7 q, fun c hc => ⟨Nat.lt_succ_of_lt (a8 c hc).1, ?_⟩, a9⟩
    have : c ≠ s.1 := by have := (a8 c hc).1; omega
    show rp (upR s.2 s.1 _ c) = _
    rw [upR_at, if_neg this]
    exact (a8 c hc).2
theorem NM.put {σ τ : Sg} {B : Nat} {s : NS} {p c : Nat} (h : NM σ B s) (hm : s.1 < 2 ^ 30) (hp : p < s.1) (hc : c < s.1) (hpc : p ≠ c) (hpl : rp (s.2 p) ≠ -2) (hco : rp (s.2 c) = -1)
    (h3 : τ.1 (B + 3) c = nI p) (h4 : τ.1 (B + 4) p = if rc (s.2 p) = [] then nI c else hdI (rc (s.2 p))) (h5 : τ.1 (B + 5) p = nI c) (h6 : ∀ e, nI e = laI (rc (s.2 p)) → e < s.1 → τ.1 (B + 6) e = nI c)
    (g0 : ∀ j, j < s.1 → τ.1 B j = σ.1 B j) (g1 : ∀ j, j < s.1 → τ.1 (B + 1) j = σ.1 (B + 1) j) (g2 : ∀ j, j < s.1 → τ.1 (B + 2) j = σ.1 (B + 2) j) (g3 : ∀ j, j < s.1 → j ≠ c → τ.1 (B + 3) j = σ.1 (B + 3) j) (g4 : ∀ j, j < s.1 → j ≠ p → τ.1 (B + 4) j = σ.1 (B + 4) j) (g5 : ∀ j, j < s.1 → j ≠ p → τ.1 (B + 5) j = σ.1 (B + 5) j) (g6 : ∀ e, e < s.1 → nI e ≠ laI (rc (s.2 p)) → τ.1 (B + 6) e = σ.1 (B + 6) e) : NM τ B (putN s p c) := by
  obtain ⟨p0, p1, p2, p3, p4, p5, p6, p7, p8, p9⟩ := h p hp hpl
  have hlast : ∀ e, nI e = laI (rc (s.2 p)) → e < s.1 → rp (s.2 e) = nI p := by
    intro e he hes
    by_cases hn : rc (s.2 p) = []
    · rw [hn] at he
      exact absurd he (nI_nm1 (by omega))
    · obtain ⟨x, hx, ex⟩ := laI_mem hn
      rw [ex] at he
      have := p8 x hx
      rw [(nI_eq (by omega) (by omega)).mp he]
      exact this.2
  have ecx : ∀ x, x ≠ p → x ≠ c → (putN s p c).2 x = s.2 x := by
    intro x h1 h2
    show upR _ p _ x = _
    rw [upR_at, if_neg h1, upR_at, if_neg h2]
  have ecp : (putN s p c).2 p = ((s.2 p).1, (s.2 p).2.1, (s.2 p).2.2.1, rp (s.2 p), rc (s.2 p) ++ [c]) := by
    show upR _ p _ p = _
    rw [upR_at, if_pos rfl]
  have ecc : (putN s p c).2 c = ((s.2 c).1, (s.2 c).2.1, (s.2 c).2.2.1, nI p, rc (s.2 c)) := by
    show upR _ p _ c = _
    rw [upR_at, if_neg (Ne.symm hpc), upR_at, if_pos rfl]
  have rpn : ∀ x, x ≠ c → rp ((putN s p c).2 x) = rp (s.2 x) := by
    intro x hx
    by_cases e : x = p
    · subst e; rw [ecp]; rfl
    · rw [ecx x e hx]
  have kids : ∀ j, j < s.1 → j ≠ p → ∀ e, rp (s.2 e) = nI j → e < s.1 → rp ((putN s p c).2 e) = nI j := by
    intro j hj hjp e he hes
    have : e ≠ c := by intro q; rw [q, hco] at he; exact nI_nm1 (by omega) he.symm
    rw [rpn e this]; exact he
  intro j hj
  have hj : j < s.1 := hj
  by_cases ejp : j = p
  · subst ejp
    unfold RcM
    rw [ecp]
    intro _
    refine ⟨by rw [g0 j hj]; exact p0, by rw [g1 j hj]; exact p1, by rw [g2 j hj]; exact p2, by rw [g3 j hj hpc]; exact p3, ?_, ?_, ?_, fun q => ?_, fun e he => ?_, ?_⟩
    · rw [h4]
      show _ = hdI (rc (s.2 j) ++ [c])
      split
      · rename_i hn; rw [hn]; rfl
      · rename_i hn; rw [hdI_app hn]
    · rw [h5]; exact (laI_app _ _).symm
    · show Lk τ (B + 6) (rc (s.2 j) ++ [c])
      refine Lk_app p6 p9 ?_ (fun e he hne => g6 e (p8 e he).1 hne) (fun e he hle => h6 e hle (p8 e he).1) ?_ (fun e he => by have := (p8 e he).1; omega)
      · intro q; have := (p8 c q).2; rw [hco] at this; exact nI_nm1 (by omega) this.symm
      · have hcn : nI c ≠ laI (rc (s.2 j)) := by intro q; have := hlast c q hc; rw [hco] at this; exact nI_nm1 (by omega) this.symm
        rw [g6 c hc hcn]
        exact (h c hc (by rw [hco]; decide)).2.2.2.2.2.2.2.1 hco
    · have hjn : nI j ≠ laI (rc (s.2 j)) := by
        intro r
        have := hlast j r hj
        have q : rp (s.2 j) = -1 := q
        rw [q] at this
        exact nI_nm1 (by omega) this.symm
      rw [g6 j hj hjn]; exact p7 q
    · have he : e ∈ rc (s.2 j) ++ [c] := he
      rw [List.mem_append, List.mem_singleton] at he
      rcases he with he | he
      · have := p8 e he
        refine ⟨this.1, ?_⟩
        have hne : e ≠ c := by intro q; rw [q, hco] at this; exact nI_nm1 (by omega) this.2.symm
        rw [rpn e hne]; exact this.2
      · subst he
        refine ⟨hc, ?_⟩
        rw [ecc]; rfl
    · show (rc (s.2 j) ++ [c]).Nodup
      rw [List.nodup_append]
      refine ⟨p9, by simp, fun a ha b hb => ?_⟩
      rw [List.mem_singleton] at hb
      intro q
      have := (p8 a ha).2
      rw [q, hb, hco] at this
      exact nI_nm1 (by omega) this.symm
  · have hjl : rp ((putN s p c).2 j) ≠ -2 → rp (s.2 j) ≠ -2 := by
      intro q
      by_cases ejc : j = c
      · rw [ejc, hco]; decide
      · rw [rpn j ejc] at q; exact q
    intro hd
    have o := h j hj (hjl hd)
    obtain ⟨a0, a1, a2, a3, a4, a5, a6, a7, a8, a9⟩ := o
    have lk : Lk τ (B + 6) (rc (s.2 j)) := Lk_cong (fun e he => g6 e (a8 e he).1 (fun q => ejp (by
      have r := hlast e q (a8 e he).1
      rw [(a8 e he).2] at r
      exact (nI_eq (by omega) (by omega)).mp r))) a6
    by_cases ejc : j = c
    · subst ejc
      rw [ecc]
      refine ⟨by rw [g0 j hj]; exact a0, by rw [g1 j hj]; exact a1, by rw [g2 j hj]; exact a2, h3, by rw [g4 j hj ejp]; exact a4, by rw [g5 j hj ejp]; exact a5, lk, fun q => absurd q (nI_nm1 (by omega)), fun e he => ⟨(a8 e he).1, kids j hj ejp e (a8 e he).2 (a8 e he).1⟩, a9⟩
    · rw [ecx j ejp ejc]
      refine ⟨by rw [g0 j hj]; exact a0, by rw [g1 j hj]; exact a1, by rw [g2 j hj]; exact a2, by rw [g3 j hj ejc]; exact a3, by rw [g4 j hj ejp]; exact a4, by rw [g5 j hj ejp]; exact a5, lk, fun q => ?_, fun e he => ⟨(a8 e he).1, kids j hj ejp e (a8 e he).2 (a8 e he).1⟩, a9⟩
      have hjn : nI j ≠ laI (rc (s.2 p)) := by
        intro r
        have := hlast j r hj
        rw [q] at this
        exact nI_nm1 (by omega) this.symm
      rw [g6 j hj hjn]; exact a7 q
theorem NM.set {σ τ : Sg} {B : Nat} {s : NS} {p : Nat} {q : Nd} (h : NM σ B s) (hp : p < s.1) (h0 : τ.1 B p = q.1) (h1 : τ.1 (B + 1) p = q.2.1) (h2 : τ.1 (B + 2) p = q.2.2)
    (g0 : ∀ j, j < s.1 → j ≠ p → τ.1 B j = σ.1 B j) (g1 : ∀ j, j < s.1 → j ≠ p → τ.1 (B + 1) j = σ.1 (B + 1) j) (g2 : ∀ j, j < s.1 → j ≠ p → τ.1 (B + 2) j = σ.1 (B + 2) j) (g : ∀ i, 3 ≤ i → i ≤ 6 → ∀ j, j < s.1 → τ.1 (B + i) j = σ.1 (B + i) j) : NM τ B (setN s p q) := by
  have rpn : ∀ x, rp ((setN s p q).2 x) = rp (s.2 x) := by
    intro x
    show rp (upR s.2 p _ x) = _
    rw [upR_at]
    split
    · rename_i e; rw [e]; rfl
    · rfl
  have rcn : ∀ x, rc ((setN s p q).2 x) = rc (s.2 x) := by
    intro x
    show rc (upR s.2 p _ x) = _
    rw [upR_at]
    split
    · rename_i e; rw [e]; rfl
    · rfl
  intro j hj
  have hj : j < s.1 := hj
  unfold RcM
  rw [rpn, rcn]
  intro hd
  obtain ⟨a0, a1, a2, a3, a4, a5, a6, a7, a8, a9⟩ := h j hj hd
  have rest : τ.1 (B + 3) j = rp (s.2 j) ∧ τ.1 (B + 4) j = hdI (rc (s.2 j)) ∧ τ.1 (B + 5) j = laI (rc (s.2 j)) ∧ Lk τ (B + 6) (rc (s.2 j)) ∧ (rp (s.2 j) = -1 → τ.1 (B + 6) j = -1) ∧ (∀ c, c ∈ rc (s.2 j) → c < s.1 ∧ rp ((setN s p q).2 c) = nI j) ∧ (rc (s.2 j)).Nodup :=
    ⟨by rw [g 3 (by omega) (by omega) j hj]; exact a3, by rw [g 4 (by omega) (by omega) j hj]; exact a4, by rw [g 5 (by omega) (by omega) j hj]; exact a5, Lk_cong (fun c hc => g 6 (by omega) (by omega) c (a8 c hc).1) a6, fun r => by rw [g 6 (by omega) (by omega) j hj]; exact a7 r, fun c hc => ⟨(a8 c hc).1, by rw [rpn]; exact (a8 c hc).2⟩, a9⟩
  by_cases e : j = p
  · subst e
    have e2 : (setN s j q).2 j = (q.1, q.2.1, q.2.2, rp (s.2 j), rc (s.2 j)) := by show upR s.2 j _ j = _; rw [upR_at, if_pos rfl]
    rw [e2]
    exact ⟨h0, h1, h2, rest⟩
  · have e2 : (setN s p q).2 j = s.2 j := by show upR s.2 p _ j = _; rw [upR_at, if_neg e]
    rw [e2]
    exact ⟨by rw [g0 j hj e]; exact a0, by rw [g1 j hj e]; exact a1, by rw [g2 j hj e]; exact a2, rest⟩
theorem NM.cong {σ τ : Sg} {B : Nat} {s : NS} (h : NM σ B s) (g : ∀ i, i ≤ 6 → ∀ j, j < s.1 → τ.1 (B + i) j = σ.1 (B + i) j) : NM τ B s := by
  intro j hj hd
  obtain ⟨a0, a1, a2, a3, a4, a5, a6, a7, a8, a9⟩ := h j hj hd
  exact ⟨(g 0 (by omega) j hj).trans a0, (g 1 (by omega) j hj).trans a1, (g 2 (by omega) j hj).trans a2, (g 3 (by omega) j hj).trans a3, (g 4 (by omega) j hj).trans a4, (g 5 (by omega) j hj).trans a5, Lk_cong (fun c hc => g 6 (by omega) c (a8 c hc).1) a6, fun q => (g 6 (by omega) j hj).trans (a7 q), a8, a9⟩
/-- a forest in a store, its top nodes a row -/
def FoN (f : Nat → Rc) (lo hi : Nat) : Tr → List Nat → Prop
  | .leaf, L => L = []
  | .inner _ k _ l r, L => ∃ c cs, L = c :: cs ∧ lo ≤ c ∧ c < hi ∧ rk (f c) = k ∧ FoN f lo hi l (rc (f c)) ∧ FoN f lo hi r cs
def smR (r r' : Rc) : Prop := rk r = rk r' ∧ rc r = rc r'
theorem FoN.mono {f g : Nat → Rc} {lo hi lo' hi' : Nat} (h1 : lo' ≤ lo) (h2 : hi ≤ hi') (hs : ∀ k, lo ≤ k → k < hi → smR (f k) (g k)) : ∀ {t : Tr} {L : List Nat}, FoN f lo hi t L → FoN g lo' hi' t L := by
  intro t
  induction t with
  | leaf => intro L h; exact h
  | inner z k v l r ihl ihr =>
    rintro L ⟨c, cs, e, a, b, q, fl, fr⟩
    have := hs c a b
    exact ⟨c, cs, e, by omega, by omega, by rw [← this.1]; exact q, by rw [← this.2]; exact ihl fl, ihr fr⟩
theorem FoN.app {f : Nat → Rc} {lo hi : Nat} : ∀ {t u : Tr} {L M : List Nat}, FoN f lo hi t L → FoN f lo hi u M → FoN f lo hi (tap t u) (L ++ M) := by
  intro t
  induction t with
  | leaf => intro u L M h1 h2; have h1 : L = [] := h1; subst h1; exact h2
  | inner z k v l r ihl ihr =>
    rintro u L M ⟨c, cs, e, a, b, q, fl, fr⟩ h2
    subst e
    exact ⟨c, cs ++ M, rfl, a, b, q, fl, ihr fr h2⟩
/-- what comes below p: new nodes, and p's row grows by L; nothing else changes -/
def Ext (s : NS) (p : Nat) (L : List Nat) (s' : NS) : Prop := s.1 ≤ s'.1 ∧ (∀ k, k < s.1 → k ≠ p → s'.2 k = s.2 k) ∧ s'.2 p = ((s.2 p).1, (s.2 p).2.1, (s.2 p).2.2.1, rp (s.2 p), rc (s.2 p) ++ L)
theorem Ext.rfl' {s : NS} {p : Nat} : Ext s p [] s := ⟨Nat.le_refl _, fun _ _ _ => rfl, by rw [List.append_nil]; rfl⟩
theorem Ext.trans {s s' s'' : NS} {p : Nat} {L M : List Nat} (h1 : Ext s p L s') (h2 : Ext s' p M s'') : Ext s p (L ++ M) s'' := by
  refine ⟨Nat.le_trans h1.1 h2.1, fun k hk hn => by rw [h2.2.1 k (Nat.lt_of_lt_of_le hk h1.1) hn, h1.2.1 k hk hn], ?_⟩
  rw [h2.2.2, h1.2.2]
  show _ = (_, _, _, _, rc (s.2 p) ++ (L ++ M))
  rw [← List.append_assoc]
  rfl
theorem Ext.par {s s' : NS} {p : Nat} {L : List Nat} (h : Ext s p L s') (hp : p < s.1) : ∀ k, k < s.1 → rp (s'.2 k) = rp (s.2 k) := by
  intro k hk
  by_cases e : k = p
  · subst e; rw [h.2.2]; rfl
  · rw [h.2.1 k hk e]
/-- forests join -/
theorem FoN.join {s s' s'' : NS} {p : Nat} {L M : List Nat} {t u : Tr} (hp : p < s.1) (h1 : Ext s p L s') (h2 : Ext s' p M s'') (f1 : FoN s'.2 s.1 s'.1 t L) (f2 : FoN s''.2 s'.1 s''.1 u M) : FoN s''.2 s.1 s''.1 (tap t u) (L ++ M) := by
  refine FoN.app (f1.mono (Nat.le_refl _) h2.1 (fun k h3 h4 => ?_)) (f2.mono h1.1 (Nat.le_refl _) (fun k _ _ => ⟨rfl, rfl⟩))
  rw [h2.2.1 k h4 (by omega)]
  exact ⟨rfl, rfl⟩
/-- a new node below p, and what comes below it -/
theorem Ext.node {s s2 : NS} {p : Nat} {k v a : Int32} {L : List Nat} {q : Nd} (hp : p < s.1) (h : Ext (putN (addN s k a v) p s.1) s.1 L s2) : Ext s p [s.1] (setN s2 s.1 q) := by
  have n0 : s.1 ≠ p := by omega
  have b1 : s.1 + 1 ≤ s2.1 := h.1
  have e1 : ∀ j, j < s.1 → j ≠ p → (putN (addN s k a v) p s.1).2 j = s.2 j := by
    intro j hj hn
    show upR (upR (upR s.2 s.1 _) s.1 _) p _ j = _
    rw [upR_at, if_neg hn, upR_at, if_neg (by omega), upR_at, if_neg (by omega)]
  have e2 : (putN (addN s k a v) p s.1).2 p = ((s.2 p).1, (s.2 p).2.1, (s.2 p).2.2.1, rp (s.2 p), rc (s.2 p) ++ [s.1]) := by
    show upR _ p _ p = _
    rw [upR_at, if_pos rfl]
    have : (addN s k a v).2 p = s.2 p := by show upR s.2 s.1 _ p = _; rw [upR_at, if_neg (Ne.symm n0)]
    rw [this]
  refine ⟨by show s.1 ≤ s2.1; omega, fun j hj hn => ?_, ?_⟩
  · show upR s2.2 s.1 _ j = _
    rw [upR_at, if_neg (by omega), h.2.1 j (by show j < s.1 + 1; omega) (by omega), e1 j hj hn]
  · show upR s2.2 s.1 _ p = _
    rw [upR_at, if_neg (Ne.symm n0), h.2.1 p (by show p < s.1 + 1; omega) (Ne.symm n0), e2]
theorem FoN.node {s s2 : NS} {p : Nat} {k v a : Int32} {L : List Nat} {q : Nd} {t : Tr} (hp : p < s.1) (h : Ext (putN (addN s k a v) p s.1) s.1 L s2) (hf : FoN s2.2 (s.1 + 1) s2.1 t L) : FoN (setN s2 s.1 q).2 s.1 (setN s2 s.1 q).1 (tN q t .leaf) [s.1] := by
  have n0 : s.1 ≠ p := by omega
  have b1 : s.1 + 1 ≤ s2.1 := h.1
  have e0 : (setN s2 s.1 q).2 s.1 = (q.1, q.2.1, q.2.2, rp (s2.2 s.1), rc (s2.2 s.1)) := by show upR s2.2 s.1 _ s.1 = _; rw [upR_at, if_pos rfl]
  have e3 : rc (s2.2 s.1) = L := by
    rw [h.2.2]
    show rc ((putN (addN s k a v) p s.1).2 s.1) ++ L = L
    have : (putN (addN s k a v) p s.1).2 s.1 = (k, a, v, nI p, []) := by
      show upR (upR (upR s.2 s.1 _) s.1 _) p _ s.1 = _
      rw [upR_at, if_neg n0, upR_at, if_pos rfl]
      show (_, _, _, _, _) = _
      have : (addN s k a v).2 s.1 = (k, a, v, -1, []) := by show upR s.2 s.1 _ s.1 = _; rw [upR_at, if_pos rfl]
      rw [this]; rfl
    rw [this]; rfl
  refine ⟨s.1, [], rfl, Nat.le_refl _, by show s.1 < s2.1; omega, by rw [e0]; rfl, ?_, rfl⟩
  rw [e0]
  show FoN _ _ _ t (rc (s2.2 s.1))
  rw [e3]
  refine hf.mono (by omega) (Nat.le_refl _) (fun j h1 h2 => ?_)
  have : (setN s2 s.1 q).2 j = s2.2 j := by show upR s2.2 s.1 _ j = _; rw [upR_at, if_neg (by omega)]
  rw [this]; exact ⟨rfl, rfl⟩
theorem setN_self {s : NS} {p : Nat} {q : Nd} (h : rk (s.2 p) = q) : setN s p q = s := by
  subst h
  refine Prod.ext rfl (funext fun j => ?_)
  show upR s.2 p _ j = _
  rw [upR_at]
  split
  · rename_i e; rw [e]; rfl
  · rfl
theorem Ext.key {s s2 : NS} {p : Nat} {k v a : Int32} {L : List Nat} (hp : p < s.1) (h : Ext (putN (addN s k a v) p s.1) s.1 L s2) : rk (s2.2 s.1) = (k, a, v) := by
  have n0 : s.1 ≠ p := by omega
  rw [h.2.2]
  have : (putN (addN s k a v) p s.1).2 s.1 = (k, a, v, nI p, []) := by
    show upR (upR (upR s.2 s.1 _) s.1 _) p _ s.1 = _
    rw [upR_at, if_neg n0, upR_at, if_pos rfl]
    have : (addN s k a v).2 s.1 = (k, a, v, -1, []) := by show upR s.2 s.1 _ s.1 = _; rw [upR_at, if_pos rfl]
    rw [this]; rfl
  rw [this]; rfl
theorem Ext.node' {s s2 : NS} {p : Nat} {k v a : Int32} {L : List Nat} (hp : p < s.1) (h : Ext (putN (addN s k a v) p s.1) s.1 L s2) : Ext s p [s.1] s2 := by
  have := Ext.node (q := (k, a, v)) hp h
  rw [setN_self (Ext.key hp h)] at this
  exact this
theorem FoN.node' {s s2 : NS} {p : Nat} {k v a : Int32} {L : List Nat} {t : Tr} (hp : p < s.1) (h : Ext (putN (addN s k a v) p s.1) s.1 L s2) (hf : FoN s2.2 (s.1 + 1) s2.1 t L) : FoN s2.2 s.1 s2.1 (tN (k, a, v) t .leaf) [s.1] := by
  have := FoN.node (q := (k, a, v)) hp h hf
  rw [setN_self (Ext.key hp h)] at this
  exact this
