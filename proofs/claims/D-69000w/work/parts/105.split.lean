/-! 105: the reference splits operands at their signs -/
theorem FoN.mono' {f g : Nat → Rc} {lo hi lo' hi' : Nat} (h1 : lo' ≤ lo) (h2 : hi ≤ hi') : ∀ {t : Tr} {L : List Nat}, FoN f lo hi t L → (∀ c, c ∈ prL f t L → smR (f c) (g c)) → FoN g lo' hi' t L := by
  intro t
  induction t with
  | leaf => intro L h _; exact h
  | inner z k v l r ihl ihr =>
    rintro L ⟨c, cs, e, a, b, q, fl, fr⟩ hs
    subst e
    have hc := hs c (by simp [prL])
    refine ⟨c, cs, rfl, by omega, by omega, by rw [← hc.1]; exact q, ?_, ihr fr (fun x hx => hs x (by simp [prL, hx]))⟩
    rw [← hc.2]
    exact ihl fl (fun x hx => hs x (by simp [prL, hx]))
/-- nodes that are not on top have one above them -/
theorem prL_np {σ : Sg} {B : Nat} {s : NS} (hN : NM σ B s) (hs : s.1 < 2 ^ 30) {lo hi : Nat} (hhi : hi ≤ s.1) : ∀ {t : Tr} {L : List Nat}, FoN s.2 lo hi t L → (∀ c, c ∈ L → rp (s.2 c) ≠ -2) → ∀ c, c ∈ prL s.2 t L → c ∈ L ∨ rp (s.2 c) ≠ -1 := by
  intro t
  induction t with
  | leaf => intro L _ _ c hc; exact absurd hc (by simp [prL])
  | inner z k v l r ihl ihr =>
    rintro L ⟨c, cs, e, a, b, q, fl, fr⟩ hL x hx
    subst e
    simp only [prL, List.mem_cons, List.mem_append] at hx
    obtain ⟨p0, p1, p2, p3, p4, p5, p6, p7, p8, p9⟩ := hN c (by omega) (hL c List.mem_cons_self)
    rcases hx with hx | hx | hx
    · exact Or.inl (by rw [hx]; exact List.mem_cons_self)
    · rcases ihl fl (fun y hy => by rw [(p8 y hy).2]; exact nI_nm2 (by omega)) x hx with h | h
      · exact Or.inr (by rw [(p8 x h).2]; exact nI_nm1 (by omega))
      · exact Or.inr h
    · rcases ihr fr (fun y hy => hL y (List.mem_cons_of_mem _ hy)) x hx with h | h
      · exact Or.inl (List.mem_cons_of_mem _ h)
      · exact Or.inr h
section
variable {w : Wd} {d : Nat} {σ : Sg} {s : NS}
theorem rm_clo {Q : Int32 → Sg → Prop} {v : Int32} (hd : 1 ≤ d) (h : Q (clo v) σ) : OkI w d m_M_closeness [vI v] σ Q := by
  refine v_M_closeness _ _ hd ?_
  unfold clo at h
  refine ⟨fun c1 => ⟨fun c2 => ⟨fun c3 => ⟨fun c4 => ⟨fun c5 => ?_, fun c5 => ?_⟩, fun c4 => ?_⟩, fun c3 => ?_⟩, fun c2 => ?_⟩, fun c1 => ?_⟩
  · rw [if_neg (Int32.not_lt.mpr c1), if_neg (Int32.not_lt.mpr c2), if_neg (Int32.not_lt.mpr c3), if_neg (Int32.not_lt.mpr c4), if_neg (Int32.not_lt.mpr c5)] at h; exact h
  · rw [if_neg (Int32.not_lt.mpr c1), if_neg (Int32.not_lt.mpr c2), if_neg (Int32.not_lt.mpr c3), if_neg (Int32.not_lt.mpr c4), if_pos (Int32.not_le.mp c5)] at h; exact h
  · rw [if_neg (Int32.not_lt.mpr c1), if_neg (Int32.not_lt.mpr c2), if_neg (Int32.not_lt.mpr c3), if_pos (Int32.not_le.mp c4)] at h; exact h
  · rw [if_neg (Int32.not_lt.mpr c1), if_neg (Int32.not_lt.mpr c2), if_pos (Int32.not_le.mp c3)] at h; exact h
  · rw [if_neg (Int32.not_lt.mpr c1), if_pos (Int32.not_le.mp c2)] at h; exact h
  · rw [if_pos (Int32.not_le.mp c1)] at h; exact h
theorem rn_node0 {Q : Int32 → Sg → Prop} {k p v : Int32} (hd : 1 ≤ d) (hN : NM σ 85 s) (h14 : σ.1 81 14 = nI s.1) (hm : s.1 < 33500) (h : ∀ τ, (∀ k j, ¬ ((k = 81 ∧ j = 14) ∨ (85 ≤ k ∧ k ≤ 91)) → τ.1 k j = σ.1 k j) → Fr mrF σ τ → NM τ 85 (addN s k p v) → τ.1 81 14 = nI (s.1 + 1) → Q (nI s.1) τ) : OkI w d m_M_node [vR 81, vI k, vI p, vI v] σ Q := by
  refine v_M_node _ _ _ _ hd ?_
  rw [h14, nI_clamp (by omega), nI_1]
  have hin : vp_in (nI s.1) 33500 := vp_in_nI (by omega) (by omega)
  refine ⟨hin, hin, hin, hin, hin, hin, hin, h _ (fun k j hk => ?_) ((((((((Fr.rfl'.wI rfl).wI rfl).wI rfl).wI rfl).wI rfl).wI rfl).wI rfl).wI rfl) ?_ (by simp [wI_1])⟩
  · simp only [wI_1]
    rw [if_neg (by omega), if_neg (by omega), if_neg (by omega), if_neg (by omega), if_neg (by omega), if_neg (by omega), if_neg (by omega), if_neg (by omega)]
  · refine hN.add (by omega) (by simp [wI_1]) (by simp [wI_1]) (by simp [wI_1]) (by simp [wI_1]) (by simp [wI_1]) (by simp [wI_1]) (by simp [wI_1]) (fun i hi j hj => ?_)
    simp only [wI_1]
    rw [if_neg (by omega), if_neg (by omega), if_neg (by omega), if_neg (by omega), if_neg (by omega), if_neg (by omega), if_neg (by omega), if_neg (by omega)]
theorem rn_hang0 {Q : Sg → Prop} {p c : Nat} {x1 x2 : Int32} (hd : 1 ≤ d) (g4 : NM σ 85 s) (hm : s.1 ≤ 33500) (h1 : x1 = nI p) (h2 : x2 = nI c) (hp : Liv s p) (hc : c < s.1) (hpc : p ≠ c) (hco : rp (s.2 c) = -1) (h : ∀ τ, (∀ k j, ¬ (88 ≤ k ∧ k ≤ 91) → τ.1 k j = σ.1 k j) → Fr mrF σ τ → NM τ 85 (putN s p c) → Q τ) : OkV w d m_M_hang [vR 81, vI x2, vI x1] σ Q := by
  subst h1 h2
  have hpl := hp.2
  have hp := hp.1
  refine v_M_hang _ _ _ hd ?_
  rw [nI_clamp (by omega), nI_clamp (by omega)]
  obtain ⟨p0, p1, p2, p3, p4, p5, p6, p7, p8, p9⟩ := g4 p hp hpl
  have hinp : vp_in (nI p) 33500 := vp_in_nI (by omega) (by omega)
  have hinc : vp_in (nI c) 33500 := vp_in_nI (by omega) (by omega)
  have e89 : σ.1 89 p = hdI (rc (s.2 p)) := p4
  have e90 : σ.1 90 p = laI (rc (s.2 p)) := p5
  have hge : 0 ≤ hdI (rc (s.2 p)) ↔ rc (s.2 p) ≠ [] := hdI_ge (fun e he => by have := (p8 e he).1; omega)
  rw [e89, e90, hge]
  refine ⟨hinp, fun hne => ⟨hinp, ?_, hinp, hinc, ?_⟩, fun he => ⟨hinp, hinp, hinc, ?_⟩⟩
  · obtain ⟨l, hl, el⟩ := laI_mem hne
    have := (p8 l hl).1
    rw [el]; exact vp_in_nI (by omega) (by omega)
  · obtain ⟨l, hl, el⟩ := laI_mem hne
    have hlm := (p8 l hl).1
    rw [el, nI_clamp (by omega)]
    refine h _ (fun k j hk => by simp only [wI_1]; rw [if_neg (by omega), if_neg (by omega), if_neg (by omega)]) (((Fr.rfl'.wI rfl).wI rfl).wI rfl) ?_
    have hiff : ∀ e, e < s.1 → (nI e = laI (rc (s.2 p)) ↔ e = l) := fun e he => by rw [el]; exact nI_eq (by omega) (by omega)
    refine g4.put (by omega) hp hc hpc hpl hco (by simp [wI_1]) (by simp [wI_1, hne]; exact e89) (by simp [wI_1]) (fun e he hes => ?_) (fun j _ => by simp [wI_1]) (fun j _ => by simp [wI_1]) (fun j _ => by simp [wI_1]) (fun j _ hj => by simp [wI_1, hj]) (fun j _ hj => by simp [wI_1, hj]) (fun j _ hj => by simp [wI_1, hj]) (fun e hes he => ?_)
    · rw [(hiff e hes).mp he]; simp [wI_1]
    · have : ¬ e = l := fun q => he ((hiff e hes).mpr q)
      simp [wI_1, this]
  · have he := Classical.not_not.mp he
    refine h _ (fun k j hk => by simp only [wI_1]; rw [if_neg (by omega), if_neg (by omega), if_neg (by omega)]) (((Fr.rfl'.wI rfl).wI rfl).wI rfl) ?_
    refine g4.put (by omega) hp hc hpc hpl hco (by simp [wI_1]) (by simp [wI_1, he]) (by simp [wI_1]) (fun e hq hes => ?_) (fun j _ => by simp [wI_1]) (fun j _ => by simp [wI_1]) (fun j _ => by simp [wI_1]) (fun j _ hj => by simp [wI_1, hj]) (fun j _ hj => by simp [wI_1, hj]) (fun j _ hj => by simp [wI_1, hj]) (fun e hes hq => by simp [wI_1])
    rw [he] at hq
    exact absurd hq (nI_nm1 (by omega))
end
theorem putN_sm {z : NS} {p c k : Nat} (hk : k ≠ p) : smR (z.2 k) ((putN z p c).2 k) := by
  by_cases e : k = c
  · subst e
    have : (putN z p k).2 k = ((z.2 k).1, (z.2 k).2.1, (z.2 k).2.2.1, nI p, rc (z.2 k)) := by
      show upR _ p _ k = _
      rw [upR_at, if_neg hk, upR_at, if_pos rfl]
    rw [this]; exact ⟨rfl, rfl⟩
  · rw [putN_n hk e]; exact ⟨rfl, rfl⟩
theorem smR.trans {a b c : Rc} (h1 : smR a b) (h2 : smR b c) : smR a c := ⟨h1.1.trans h2.1, h1.2.trans h2.2⟩
/-- an operand that is kept: its node, its tree, the sign behind it and that sign's place -/
abbrev Sg4 : Type := Nat × Tr × Int32 × Int32
def SGm (σ : Sg) (base : Nat) (l : List Sg4) : Prop := ∀ i, i < l.length → σ.1 94 (base + i) = nI (l.getD i (0, .leaf, 0, 0)).1 ∧ σ.1 95 (base + i) = (l.getD i (0, .leaf, 0, 0)).2.2.1 ∧ σ.1 96 (base + i) = (l.getD i (0, .leaf, 0, 0)).2.2.2
/-- what a split leaves -/
def SpP (σ : Sg) (s : NS) (lo : Nat) (l : List Sg4) (τ : Sg) (r : Nat) : Prop := ∃ s', (∀ k j, ¬ ((k = 81 ∧ j = 14) ∨ (85 ≤ k ∧ k ≤ 91)) → τ.1 k j = σ.1 k j) ∧ Fr mrF σ τ ∧ NM τ 85 s' ∧ τ.1 81 14 = nI s'.1 ∧ s.1 ≤ s'.1 ∧ s'.1 + 1 ≤ s.1 + l.length ∧ r < s'.1 ∧ lo ≤ r ∧ rp (s'.2 r) = -1 ∧ (r ∈ l.map (fun z => z.1) ∨ s.1 ≤ r) ∧ FoN s'.2 lo s'.1 (exK (l.map (fun z => z.2))) [r] ∧ (∀ k, k < s.1 → k ∉ l.map (fun z => z.1) → s'.2 k = s.2 k) ∧ (∀ k, k < s.1 → smR (s.2 k) (s'.2 k))
theorem getD_mid {l m : List Sg4} {q : Sg4} {z : Sg4} : (l ++ q :: m).getD l.length z = q := by simp [List.getD_eq_getElem?_getD]
/-- where the cut is, of those before k -/
def CutAt (l : List Sg4) (k j : Nat) : Prop := j < k ∧ (∀ i, i < j → clo (l.getD j (0, .leaf, 0, 0)).2.2.1 ≤ clo (l.getD i (0, .leaf, 0, 0)).2.2.1) ∧ (∀ i, j < i → i < k → ¬ clo (l.getD i (0, .leaf, 0, 0)).2.2.1 ≤ clo (l.getD j (0, .leaf, 0, 0)).2.2.1)
