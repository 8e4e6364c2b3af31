/-! 095: nodes in their order -/
def sz : Tr → Nat
  | .leaf => 0
  | .inner _ _ _ l r => 1 + sz l + sz r
/-- a forest's nodes, each before those below it -/
def prL (f : Nat → Rc) : Tr → List Nat → List Nat
  | .leaf, _ => []
  | .inner _ _ _ _ _, [] => []
  | .inner _ _ _ l r, c :: cs => c :: (prL f l (rc (f c)) ++ prL f r cs)
theorem prL_len {f : Nat → Rc} {lo hi : Nat} : ∀ {t : Tr} {L : List Nat}, FoN f lo hi t L → (prL f t L).length = sz t := by
  intro t
  induction t with
  | leaf => intro L _; rfl
  | inner z k v l r ihl ihr =>
    rintro L ⟨c, cs, e, a, b, q, fl, fr⟩
    subst e
    simp only [prL, sz, List.length_cons, List.length_append, ihl fl, ihr fr]
    omega
theorem prL_mem {f : Nat → Rc} {lo hi : Nat} : ∀ {t : Tr} {L : List Nat}, FoN f lo hi t L → ∀ c, c ∈ prL f t L → lo ≤ c ∧ c < hi := by
  intro t
  induction t with
  | leaf => intro L _ c hc; exact absurd hc (by simp [prL])
  | inner z k v l r ihl ihr =>
    rintro L ⟨c, cs, e, a, b, q, fl, fr⟩ x hx
    subst e
    simp only [prL, List.mem_cons, List.mem_append] at hx
    rcases hx with hx | hx | hx
    · subst hx; exact ⟨a, b⟩
    · exact ihl fl x hx
    · exact ihr fr x hx
/-- j steps up -/
def anc (f : Nat → Rc) : Nat → Nat → Nat
  | 0, c => c
  | j + 1, c => anc f j (Int32.toNatClampNeg (rp (f c)))
/-- D steps up there is a top node -/
def DP (f : Nat → Rc) (D c : Nat) : Prop := rp (f (anc f D c)) = -1 ∧ ∀ j, j < D → rp (f (anc f j c)) ≠ -1
theorem DP.eq {f : Nat → Rc} {D E c : Nat} (h1 : DP f D c) (h2 : DP f E c) : D = E := by
  rcases Nat.lt_trichotomy D E with q | q | q
  · exact absurd h1.1 (h2.2 D q)
  · exact q
  · exact absurd h2.1 (h1.2 E q)
theorem DP.up {f : Nat → Rc} {D c p : Nat} (h : DP f D p) (hp : p < 2 ^ 31) (hc : rp (f c) = nI p) : DP f (D + 1) c := by
  have e : ∀ j, anc f (j + 1) c = anc f j p := fun j => by rw [anc, hc, nI_clamp hp]
  refine ⟨by rw [e]; exact h.1, fun j hj => ?_⟩
  cases j with
  | zero => show rp (f c) ≠ -1; rw [hc]; exact nI_nm1 hp
  | succ j => rw [e]; exact h.2 j (by omega)
theorem prL_anc {σ : Sg} {B : Nat} {s : NS} (hN : NM σ B s) (hs : s.1 < 2 ^ 30) {lo hi : Nat} (hhi : hi ≤ s.1) : ∀ {t : Tr} {L : List Nat} (D : Nat), FoN s.2 lo hi t L → (∀ c, c ∈ L → DP s.2 D c ∧ rp (s.2 c) ≠ -2) → ∀ c, c ∈ prL s.2 t L → ∃ δ, DP s.2 (D + δ) c ∧ anc s.2 δ c ∈ L := by
  intro t
  induction t with
  | leaf => intro L D _ _ c hc; exact absurd hc (by simp [prL])
  | inner z k v l r ihl ihr =>
    rintro L D ⟨c, cs, e, a, b, q, fl, fr⟩ hL x hx
    subst e
    simp only [prL, List.mem_cons, List.mem_append] at hx
    have hc := hL c List.mem_cons_self
    obtain ⟨p0, p1, p2, p3, p4, p5, p6, p7, p8, p9⟩ := hN c (by omega) hc.2
    rcases hx with hx | hx | hx
    · subst hx; exact ⟨0, hc.1, List.mem_cons_self⟩
    · obtain ⟨δ, h1, h2⟩ := ihl (D + 1) fl (fun y hy => ⟨hc.1.up (by omega) (p8 y hy).2, by rw [(p8 y hy).2]; exact nI_nm2 (by omega)⟩) x hx
      refine ⟨δ + 1, by rw [show D + (δ + 1) = D + 1 + δ by omega]; exact h1, ?_⟩
      have e2 : ∀ (j y : Nat), anc s.2 (j + 1) y = Int32.toNatClampNeg (rp (s.2 (anc s.2 j y))) := by
        intro j
        induction j with
        | zero => intro y; rfl
        | succ j ih => intro y; rw [anc, ih]; rfl
      rw [e2, (p8 _ h2).2, nI_clamp (by omega)]
      exact List.mem_cons_self
    · obtain ⟨δ, h1, h2⟩ := ihr D fr (fun y hy => hL y (List.mem_cons_of_mem _ hy)) x hx
      exact ⟨δ, h1, List.mem_cons_of_mem _ h2⟩
/-- no node comes twice -/
theorem prL_nodup {σ : Sg} {B : Nat} {s : NS} (hN : NM σ B s) (hs : s.1 < 2 ^ 30) {lo hi : Nat} (hhi : hi ≤ s.1) : ∀ {t : Tr} {L : List Nat} (D : Nat), FoN s.2 lo hi t L → (∀ c, c ∈ L → DP s.2 D c ∧ rp (s.2 c) ≠ -2) → L.Nodup → (prL s.2 t L).Nodup := by
  intro t
  induction t with
  | leaf => intro L D _ _ _; simp [prL]
  | inner z k v l r ihl ihr =>
    rintro L D ⟨c, cs, e, a, b, q, fl, fr⟩ hL hnd
    subst e
    have hc := hL c List.mem_cons_self
    obtain ⟨p0, p1, p2, p3, p4, p5, p6, p7, p8, p9⟩ := hN c (by omega) hc.2
    rw [List.nodup_cons] at hnd
    have hk : ∀ y, y ∈ rc (s.2 c) → DP s.2 (D + 1) y ∧ rp (s.2 y) ≠ -2 := fun y hy => ⟨hc.1.up (by omega) (p8 y hy).2, by rw [(p8 y hy).2]; exact nI_nm2 (by omega)⟩
    have hr : ∀ y, y ∈ cs → DP s.2 D y ∧ rp (s.2 y) ≠ -2 := fun y hy => hL y (List.mem_cons_of_mem _ hy)
    have al := prL_anc hN hs hhi (D + 1) fl hk
    have ar := prL_anc hN hs hhi D fr hr
    have e2 : ∀ (j y : Nat), anc s.2 (j + 1) y = Int32.toNatClampNeg (rp (s.2 (anc s.2 j y))) := by
      intro j
      induction j with
      | zero => intro y; rfl
      | succ j ih => intro y; rw [anc, ih]; rfl
    simp only [prL]
    rw [List.nodup_cons, List.nodup_append, List.mem_append]
    refine ⟨fun h => ?_, ihl (D + 1) fl hk p9, ihr D fr hr hnd.2, fun x hx y hy exy => ?_⟩
    · rcases h with h | h
      · obtain ⟨δ, h1, _⟩ := al c h
        have := h1.eq hc.1
        omega
      · obtain ⟨δ, h1, h2⟩ := ar c h
        have : δ = 0 := by have := h1.eq hc.1; omega
        subst this
        exact hnd.1 h2
    · subst exy
      obtain ⟨δ, h1, h2⟩ := al x hx
      obtain ⟨ε, h3, h4⟩ := ar x hy
      have : ε = δ + 1 := by have := h1.eq h3; omega
      subst this
      rw [e2, (p8 _ h2).2, nI_clamp (by omega)] at h4
      exact hnd.1 h4
/-- a forest in memory by the numbers of its nodes: node k is kept at ν k -/
def hdT (ν : Nat → Nat) (t : Tr) (k : Nat) : Int32 := match t with
  | .leaf => -1
  | .inner _ _ _ _ _ => nI (ν k)
def PoT (σ : Sg) (B : Nat) (ν : Nat → Nat) : Tr → Nat → Int32 → Prop
  | .leaf, _, _ => True
  | .inner _ q _ l r, k, p => σ.1 B (ν k) = q.1 ∧ σ.1 (B + 1) (ν k) = q.2.1 ∧ σ.1 (B + 2) (ν k) = q.2.2 ∧ σ.1 (B + 3) (ν k) = p ∧ σ.1 (B + 4) (ν k) = hdT ν l (k + 1) ∧ σ.1 (B + 6) (ν k) = hdT ν r (k + 1 + sz l) ∧ PoT σ B ν l (k + 1) (nI (ν k)) ∧ PoT σ B ν r (k + 1 + sz l) p
theorem PoT_of {σ : Sg} {B : Nat} {s : NS} (hN : NM σ B s) {lo hi : Nat} (hhi : hi ≤ s.1) (hs : s.1 < 2 ^ 30) {ν : Nat → Nat} : ∀ {t : Tr} {L : List Nat} (k : Nat) (p : Int32), FoN s.2 lo hi t L → p ≠ -2 → (∀ c, c ∈ L → rp (s.2 c) = p) → Lk σ (B + 6) L → (∀ i, i < sz t → ν (k + i) = (prL s.2 t L).getD i 0) → PoT σ B ν t k p := by
  intro t
  induction t with
  | leaf => intro L k p _ _ _ _ _; trivial
  | inner z q v l r ihl ihr =>
    rintro L k p ⟨c, cs, e, a, b, eq, fl, fr⟩ hp hL hLk hν
    subst e
    have hc := hL c List.mem_cons_self
    obtain ⟨p0, p1, p2, p3, p4, p5, p6, p7, p8, p9⟩ := hN c (by omega) (by rw [hc]; exact hp)
    have ν0 : ν k = c := by
      have := hν 0 (by simp only [sz]; omega)
      rw [Nat.add_zero] at this
      rw [this]; rfl
    have ll := prL_len fl
    have lr := prL_len fr
    have νl : ∀ i, i < sz l → ν (k + 1 + i) = (prL s.2 l (rc (s.2 c))).getD i 0 := by
      intro i hi
      have := hν (1 + i) (by simp only [sz]; omega)
      rw [show k + 1 + i = k + (1 + i) by omega, this]
      simp only [prL]
      rw [Nat.add_comm 1 i, List.getD_cons_succ, List.getD_eq_getElem?_getD, List.getD_eq_getElem?_getD, List.getElem?_append_left (by omega)]
    have νr : ∀ i, i < sz r → ν (k + 1 + sz l + i) = (prL s.2 r cs).getD i 0 := by
      intro i hi
      have := hν (1 + (sz l + i)) (by simp only [sz]; omega)
      rw [show k + 1 + sz l + i = k + (1 + (sz l + i)) by omega, this]
      simp only [prL]
      rw [Nat.add_comm 1 (sz l + i), List.getD_cons_succ, List.getD_eq_getElem?_getD, List.getD_eq_getElem?_getD, List.getElem?_append_right (by omega), ll]
      congr 2; omega
    have key : (s.2 c).1 = q.1 ∧ (s.2 c).2.1 = q.2.1 ∧ (s.2 c).2.2.1 = q.2.2 := by rw [← eq]; exact ⟨rfl, rfl, rfl⟩
    refine ⟨by rw [ν0, p0]; exact key.1, by rw [ν0, p1]; exact key.2.1, by rw [ν0, p2]; exact key.2.2, by rw [ν0, p3]; exact hc, ?_, ?_, ?_, ?_⟩
    · rw [ν0, p4]
      cases l with
      | leaf => have fl : rc (s.2 c) = [] := fl; rw [fl]; rfl
      | inner z1 q1 v1 l1 r1 =>
        obtain ⟨d, ds, e1, _⟩ := fl
        rw [e1]
        have := νl 0 (by simp only [sz]; omega)
        rw [Nat.add_zero, e1] at this
        show nI d = nI (ν (k + 1))
        rw [this]; rfl
    · rw [ν0]
      cases r with
      | leaf =>
        have fr : cs = [] := fr
        subst fr
        exact hLk
      | inner z1 q1 v1 l1 r1 =>
        obtain ⟨d, ds, e1, _⟩ := fr
        subst e1
        have := νr 0 (by simp only [sz]; omega)
        rw [Nat.add_zero] at this
        show σ.1 (B + 6) c = nI (ν (k + 1 + sz l))
        rw [this]
        exact hLk.1
    · refine ihl (k + 1) _ fl (by rw [ν0]; exact nI_nm2 (by omega)) (fun y hy => by rw [ν0]; exact (p8 y hy).2) p6 νl
    · refine ihr (k + 1 + sz l) p fr hp (fun y hy => hL y (List.mem_cons_of_mem _ hy)) ?_ νr
      cases cs with
      | nil => trivial
      | cons d ds => exact hLk.2
