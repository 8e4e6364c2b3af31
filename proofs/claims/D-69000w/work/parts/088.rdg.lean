/-! 088: the component reads expressions: the loop over signs -/
/-- what waits, in a store: the innermost first -/
def WtR (f : Nat → Rc) (lo hi : Nat) : Wt → List Nat → Prop
  | [], L => L = []
  | q :: w, L => ∃ r L', L = r :: L' ∧ FoN f lo hi q.1 [r] ∧ (∃ j, j < 14 ∧ q.2.1 = nI j) ∧ WtR f lo hi w L'
theorem WtR.mono {f g : Nat → Rc} {lo hi lo' hi' : Nat} (h1 : lo' ≤ lo) (h2 : hi ≤ hi') (hs : ∀ k, lo ≤ k → k < hi → smR (f k) (g k)) : ∀ {w : Wt} {L : List Nat}, WtR f lo hi w L → WtR g lo' hi' w L
  | [], _, h => h
  | _ :: w, _, ⟨r, L', e, h3, h4, h5⟩ => ⟨r, L', e, h3.mono h1 h2 hs, h4, WtR.mono h1 h2 hs h5⟩
/-- a state within an expression that began with store s0 and stacks sg0, op0 -/
def XI (tx : Nat → Int32) (n : Nat) (σ0 : Sg) (s0 : NS) (sg0 : List (Int32 × Int32)) (op0 : List Nat) (a1 b1 : Nat) (y : RS) (τ : Sg) (s1 : NS) (w : Wt) (ids : List Nat) (cur : Nat) (cT : Tr) (A B : Nat) : Prop :=
  StC tx n σ0 τ y s1 (sg0 ++ (w.map (fun q => q.2)).reverse) (op0 ++ (ids.reverse ++ [cur])) A B ∧ A ≤ B ∧ A + w.length ≤ a1 ∧ B + w.length ≤ b1 ∧ ids.length = w.length ∧ s0.1 ≤ s1.1 ∧ (∀ k, k < s0.1 → s1.2 k = s0.2 k) ∧ (∀ c, c ∈ ids → s0.1 ≤ c) ∧ s0.1 ≤ cur ∧ (isO y = true → WtR s1.2 s0.1 s1.1 w ids ∧ FoN s1.2 s0.1 s1.1 cT [cur])
section
variable {wd : Wd} {d n : Nat} {tx : Nat → Int32} {σ0 σ : Sg} {x : RS} {s0 : NS} {sg0 : List (Int32 × Int32)} {op0 : List Nat} {a1 b1 : Nat}
theorem redN_n {s : NS} {sn pl : Int32} {c1 c2 k : Nat} (h : k < s.1) (h1 : k ≠ c1) (h2 : k ≠ c2) : (redN s sn pl c1 c2).2 k = s.2 k := by
  unfold redN
  rw [putN_n (by omega) h2, putN_n (by omega) h1, addN_lt h]
theorem redN_sm {s : NS} {sn pl : Int32} {c1 c2 k : Nat} (h : k < s.1) : smR (s.2 k) ((redN s sn pl c1 c2).2 k) := by
  have key : ∀ (z : NS) (p c k : Nat), k ≠ p → smR (z.2 k) ((putN z p c).2 k) := by
    intro z p c k hk
    by_cases e : k = c
    · subst e
      have : (putN z p k).2 k = ((z.2 k).1, (z.2 k).2.1, (z.2 k).2.2.1, nI p, rc (z.2 k)) := by
        show upR _ p _ k = _
        rw [upR_at, if_neg hk, upR_at, if_pos rfl]
      rw [this]; exact ⟨rfl, rfl⟩
    · rw [putN_n hk e]; exact ⟨rfl, rfl⟩
  unfold redN
  have a1 := key (putN (addN s 35 pl sn) s.1 c1) s.1 c2 k (by omega)
  have a2 := key (addN s 35 pl sn) s.1 c1 k (by omega)
  rw [addN_lt h] at a2
  exact ⟨a2.1.trans a1.1, a2.2.trans a1.2⟩
theorem redN_top {s : NS} {sn pl : Int32} {c1 c2 : Nat} (h1 : c1 < s.1) (h2 : c2 < s.1) : rk ((redN s sn pl c1 c2).2 s.1) = (35, pl, sn) ∧ rc ((redN s sn pl c1 c2).2 s.1) = [c1, c2] := by
  have e1 : (putN (addN s 35 pl sn) s.1 c1).2 s.1 = (35, pl, sn, -1, [c1]) := by
    show upR _ s.1 _ s.1 = _
    rw [upR_at, if_pos rfl, addN_top]; rfl
  have e2 : (redN s sn pl c1 c2).2 s.1 = (35, pl, sn, -1, [c1, c2]) := by
    show upR _ s.1 _ s.1 = _
    rw [upR_at, if_pos rfl, e1]; rfl
  rw [e2]; exact ⟨rfl, rfl⟩
/-- reduce, in an expression -/
theorem xi_reduce {Q : Sg → Prop} {y : RS} {τ : Sg} {s1 : NS} {q : Tr × Int32 × Int32} {w : Wt} {ids : List Nat} {cur : Nat} {cT : Tr} {A B : Nat} (hd : 2 ≤ d) (hb : b1 ≤ 33000) (hsl : sg0.length + w.length ≤ 62) (hol : op0.length + w.length ≤ 126)
    (h : XI tx n σ0 s0 sg0 op0 a1 b1 y τ s1 (q :: w) ids cur cT A B) (hq : ∀ τ' s2 ids' cur' A' B', XI tx n σ0 s0 sg0 op0 a1 b1 y τ' s2 w ids' cur' (two q.1 q.2.1 q.2.2 cT) A' B' → Q τ') : OkV wd d m_Reader_reduce [vR 17] τ Q := by
  obtain ⟨x1, x2, x3, x4, x5, x6, x7, x8, x9, x10⟩ := h
  obtain ⟨i, ids', e⟩ : ∃ i ids', ids = i :: ids' := by
    cases ids with
    | nil => exact absurd x5 (by simp)
    | cons i l => exact ⟨i, l, rfl⟩
  subst e
  rw [List.length_cons] at x3 x4
  have x5 : ids'.length = w.length := by simpa using x5
  have es : sg0 ++ ((q :: w).map (fun q => q.2)).reverse = (sg0 ++ (w.map (fun q => q.2)).reverse) ++ [(q.2.1, q.2.2)] := by simp
  have eo : op0 ++ ((i :: ids').reverse ++ [cur]) = (op0 ++ ids'.reverse) ++ [i, cur] := by simp
  rw [es, eo] at x1
  have hi := x1.2.2.2.2.2.2.1 i (by simp)
  have hc := x1.2.2.2.2.2.2.1 cur (by simp)
  have hi0 := x8 i (by simp)
  refine rc_reduce hd x1 x2 (by omega) (by simp; omega) (by simp; omega) (fun τ' hS' => hq τ' (redN s1 q.2.1 q.2.2 i cur) ids' s1.1 (A + 1) (B + 1) ?_)
  refine ⟨by rw [List.append_assoc] at hS'; exact hS', by omega, by omega, by omega, x5, by show s0.1 ≤ s1.1 + 1; omega, fun k hk => by rw [redN_n (by omega) (by omega) (by omega)]; exact x7 k hk, fun c hc => x8 c (List.mem_cons_of_mem _ hc), x6, fun o => ?_⟩
  obtain ⟨wr, fc⟩ := x10 o
  obtain ⟨r, L', e1, fq, hj, wr2⟩ := wr
  have e1 : i = r ∧ ids' = L' := by simpa using e1
  obtain ⟨e1, e2⟩ := e1
  subst e1 e2
  have top := redN_top (sn := q.2.1) (pl := q.2.2) hi.1 hc.1
  have sm : ∀ k, s0.1 ≤ k → k < s1.1 → smR (s1.2 k) ((redN s1 q.2.1 q.2.2 i cur).2 k) := fun k _ hk => redN_sm hk
  refine ⟨wr2.mono (Nat.le_refl _) (Nat.le_succ _) sm, s1.1, [], rfl, x6, Nat.lt_succ_self _, top.1, ?_, rfl⟩
  rw [top.2]
  exact FoN.app (fq.mono (Nat.le_refl _) (Nat.le_succ _) sm) (fc.mono (Nat.le_refl _) (Nat.le_succ _) sm)
/-- at the end: all that waits is put together -/
theorem xi_187 {Q : Int32 → Sg → Prop} {y : RS} {x2 : Int32} (hd : 3 ≤ d) (hb : b1 ≤ 33000) : ∀ (w : Wt) (τ : Sg) (s1 : NS) (ids : List Nat) (cur : Nat) (cT : Tr) (A B : Nat), sg0.length + w.length ≤ 62 → op0.length + w.length ≤ 126 → XI tx n σ0 s0 sg0 op0 a1 b1 y τ s1 w ids cur cT A B →
    (∀ τ' s2 cur' A' B', XI tx n σ0 s0 sg0 op0 a1 b1 y τ' s2 [] [] cur' (rdA w cT) A' B' → ((¬ ((τ'.1 17 5) - 1) = 0 → (vp_in ((τ'.1 17 10) - 1) 128 ∧ Q (τ'.1 20 (Int32.toNatClampNeg ((τ'.1 17 10) - 1))) (wI (wI (wI τ' 17 5 ((τ'.1 17 5) - 1)) 17 4 (τ'.1 17 4)) 17 10 ((τ'.1 17 10) - 1)))) ∧ (((τ'.1 17 5) - 1) = 0 → (vp_in ((τ'.1 17 10) - 1) 128 ∧ Q (τ'.1 20 (Int32.toNatClampNeg ((τ'.1 17 10) - 1))) (wI (wI (wI τ' 17 5 ((τ'.1 17 5) - 1)) 17 4 x2) 17 10 ((τ'.1 17 10) - 1)))))) →
    Bk wd d 0 0 m_Reader_expression 0 0 (qi Q) 187 [oR 17, oI (nI sg0.length), oI x2, none, none] [] τ := by
  intro w
  induction w with
  | nil =>
    intro τ s1 ids cur cT A B hl1 hl2 h hq
    have e : ids = [] := List.length_eq_zero_iff.mp h.2.2.2.2.1
    subst e
    refine v_Reader_expression_187 _ _ _ ⟨fun _ => hq τ s1 cur A B h, fun q => ?_⟩
    have := h.1.2.2.2.2.2.1.1
    rw [this] at q
    exact absurd (by simp) q
  | cons q w ih =>
    intro τ s1 ids cur cT A B hl1 hl2 h hq
    rw [List.length_cons] at hl1 hl2
    refine v_Reader_expression_187 _ _ _ ⟨fun r => ?_, fun _ => ?_⟩
    · have := h.1.2.2.2.2.2.1.1
      rw [this] at r
      simp only [List.length_append, List.length_reverse, List.length_map, List.length_cons] at r
      rw [nI_leI (by omega) (by omega)] at r
      omega
    · exact xi_reduce (by omega) hb (by omega) (by omega) h (fun τ' s2 ids' cur' A' B' h' => ih τ' s2 ids' cur' _ A' B' (by omega) (by omega) h' hq)
/-- before a sign: what binds closer, or as close, is put together -/
theorem xi_64 {Q : Int32 → Sg → Prop} {y : RS} {x2 : Int32} {j : Nat} {G : Sg → Prop} (hd : 3 ≤ d) (hb : b1 ≤ 33000) (hj : j < 14) (ho : isO y = true)
    (hv1 : ∀ τ, ((τ.1 17 9) ≤ nI sg0.length → G τ) → (¬ (τ.1 17 9) ≤ nI sg0.length → (vp_in ((τ.1 17 9) - 1) 64 ∧ (vp_in (τ.1 18 (Int32.toNatClampNeg ((τ.1 17 9) - 1))) 14 ∧ (vp_in (nI j) 14 ∧ (((rdI τ 1003 (Int32.toNatClampNeg (τ.1 18 (Int32.toNatClampNeg ((τ.1 17 9) - 1))))) < (rdI τ 1003 (Int32.toNatClampNeg (nI j))) → G τ) ∧ (¬ (rdI τ 1003 (Int32.toNatClampNeg (τ.1 18 (Int32.toNatClampNeg ((τ.1 17 9) - 1))))) < (rdI τ 1003 (Int32.toNatClampNeg (nI j))) → OkV wd (d - 1) m_Reader_reduce [vR 17] τ (fun s9 => Bk wd d 0 0 m_Reader_expression 0 0 (qi Q) 64 [oR 17, oI (nI sg0.length), oI x2, none, oI (nI j)] [] s9))))))) → Bk wd d 0 0 m_Reader_expression 0 0 (qi Q) 64 [oR 17, oI (nI sg0.length), oI x2, none, oI (nI j)] [] τ) : ∀ (w : Wt) (τ : Sg) (s1 : NS) (ids : List Nat) (cur : Nat) (cT : Tr) (A B : Nat), sg0.length + w.length ≤ 62 → op0.length + w.length ≤ 126 → XI tx n σ0 s0 sg0 op0 a1 b1 y τ s1 w ids cur cT A B →
    (∀ τ' s2 ids' cur' A' B', (rdW (clo (nI j)) w cT).1.length ≤ w.length → XI tx n σ0 s0 sg0 op0 a1 b1 y τ' s2 (rdW (clo (nI j)) w cT).1 ids' cur' (rdW (clo (nI j)) w cT).2 A' B' → G τ') →
    Bk wd d 0 0 m_Reader_expression 0 0 (qi Q) 64 [oR 17, oI (nI sg0.length), oI x2, none, oI (nI j)] [] τ := by
  intro w
  induction w with
  | nil =>
    intro τ s1 ids cur cT A B hl1 hl2 h hq
    refine hv1 τ (fun _ => hq τ s1 ids cur A B (Nat.le_refl _) h) (fun q => ?_)
    have := h.1.2.2.2.2.2.1.1
    rw [this] at q
    exact absurd (by simp) q
  | cons q w ih =>
    intro τ s1 ids cur cT A B hl1 hl2 h hq
    rw [List.length_cons] at hl1 hl2
    have hk := h.1.2.2.2.2.2.1
    have e9 : τ.1 17 9 = nI (sg0.length + w.length + 1) := by
      rw [hk.1]
      congr 1
      simp; omega
    obtain ⟨wr, fc⟩ := h.2.2.2.2.2.2.2.2.2 ho
    obtain ⟨r, L', e1, fq, ⟨i, hi, ei⟩, wr2⟩ := wr
    have e18 : τ.1 18 (sg0.length + w.length) = nI i := by
      have := (hk.2.2.1 (sg0.length + w.length) (by simp)).1
      rw [this, ← ei]
      have : (sg0 ++ ((q :: w).map (fun q => q.2)).reverse).getD (sg0.length + w.length) (0, 0) = q.2 := by
        simp [List.getD_eq_getElem?_getD, List.getElem?_append_right]
      rw [this]
    refine hv1 τ (fun c => ?_) (fun _ => ?_)
    · rw [e9, nI_leI (by omega) (by omega)] at c; omega
    · rw [e9, nI_pred, nI_clamp (by omega), e18, nI_clamp (by omega), nI_clamp (by omega), rd_binds, rd_binds]
      refine ⟨vp_in_nI (by omega) (by omega), vp_in_nI (by omega) (by omega), vp_in_nI (by omega) (by omega), fun c => ?_, fun c => ?_⟩
      · rw [bn_clo i hi j hj, ← ei] at c
        have e : rdW (clo (nI j)) (q :: w) cT = (q :: w, cT) := by rw [rdW, if_neg c]
        rw [e] at hq
        exact hq τ s1 ids cur A B (Nat.le_refl _) h
      · rw [bn_clo i hi j hj, ← ei] at c
        have c := Classical.not_not.mp c
        have e : rdW (clo (nI j)) (q :: w) cT = rdW (clo (nI j)) w (two q.1 q.2.1 q.2.2 cT) := by rw [rdW, if_pos c]
        rw [e] at hq
        refine xi_reduce (by omega) hb (by omega) (by omega) h (fun τ' s2 ids' cur' A' B' h' => ih τ' s2 ids' cur' _ A' B' (by omega) (by omega) h' (fun τ'' s3 ids'' cur'' A'' B'' hl h'' => hq τ'' s3 ids'' cur'' A'' B'' (by rw [List.length_cons]; omega) h''))
/-- contracts of the recursion: operands, expressions -/
def OpC (wd : Wd) (tx : Nat → Int32) (n : Nat) (σ0 : Sg) (F : Nat) : Prop := ∀ (d : Nat) (σ : Sg) (x : RS) (s : NS) (sg : List (Int32 × Int32)) (op : List Nat) (a b b' : Nat) (Q : Int32 → Sg → Prop), 6 * F + 20 ≤ d → (∀ q, x = .ok q → 61 ≤ F + sD q ∧ sg.length ≤ sD q ∧ op.length + 1 ≤ sg.length + sS q ∧ sS q ≤ sD q + 1) → sg.length ≤ 60 → op.length ≤ 124 → StC tx n σ0 σ x s sg op a b → a ≤ b → b + 2 ≤ b' → a + 10 * d + 2 ≤ b' → b' ≤ 33000 →
  (∀ σ' v, PoE tx n σ0 s sg op (opdP tx n F x) a b' v σ' → Q v σ') → OkI wd d m_Reader_operand [vR 17] σ Q
def ExC (wd : Wd) (tx : Nat → Int32) (n : Nat) (σ0 : Sg) (F : Nat) : Prop := ∀ (d : Nat) (σ : Sg) (x : RS) (s : NS) (sg : List (Int32 × Int32)) (op : List Nat) (a b b' : Nat) (Q : Int32 → Sg → Prop), 6 * F + 21 ≤ d → (∀ q, x = .ok q → 61 ≤ F + sD q ∧ sg.length ≤ sD q ∧ op.length ≤ sg.length + sS q ∧ sS q ≤ sD q) → sg.length ≤ 60 → op.length ≤ 124 → StC tx n σ0 σ x s sg op a b → a ≤ b → b + 2 ≤ b' → a + 10 * d + 2 ≤ b' → b' ≤ 33000 →
  (∀ σ' v, PoE tx n σ0 s sg op (exP tx n (opdP tx n F) x) a b' v σ' → Q v σ') → OkI wd d m_Reader_expression [vR 17] σ Q
theorem rdW_le {c : Int32} : ∀ (w : Wt) (t : Tr), (rdW c w t).1.length ≤ w.length := by
  intro w
  induction w with
  | nil => intro t; exact Nat.le_refl _
  | cons q w ih =>
    intro t
    rw [rdW]
    split
    · exact Nat.le_trans (ih _) (Nat.le_succ _)
    · exact Nat.le_refl _
/-- the loop over signs -/
theorem xi_51 {F : Nat} {Q : Int32 → Sg → Prop} {x2 : Int32} {D0 S0 : Nat} (hO : OpC wd tx n σ0 F) (hd : 6 * F + 21 ≤ d) (hD : 61 ≤ F + D0) (hop : op0.length ≤ sg0.length + S0) (hSD : S0 ≤ D0) (hD60 : D0 ≤ 60) (hsg : sg0.length ≤ 60) (hb : b1 ≤ 33000) (hab : a1 + 10 * d + 2 ≤ b1) : ∀ (f : Nat) (y : RS) (τ : Sg) (s1 : NS) (w : Wt) (ids : List Nat) (cur : Nat) (cT : Tr) (A B : Nat), (∀ q, y = .ok q → n + 1 ≤ sF q + f) → (∀ q, y = .ok q → sg0.length + w.length ≤ sD q ∧ sS q = S0 + 1 ∧ D0 ≤ sD q) → sg0.length + w.length ≤ 60 → op0.length + w.length ≤ 124 → XI tx n σ0 s0 sg0 op0 a1 b1 y τ s1 w ids cur cT A B →
    (∀ τ' s2 cur' A' B', XI tx n σ0 s0 sg0 op0 a1 b1 (exlP tx n (opdP tx n F) f y).1 τ' s2 [] [] cur' (srT w cT (exlP tx n (opdP tx n F) f y).2) A' B' → ((¬ ((τ'.1 17 5) - 1) = 0 → (vp_in ((τ'.1 17 10) - 1) 128 ∧ Q (τ'.1 20 (Int32.toNatClampNeg ((τ'.1 17 10) - 1))) (wI (wI (wI τ' 17 5 ((τ'.1 17 5) - 1)) 17 4 (τ'.1 17 4)) 17 10 ((τ'.1 17 10) - 1)))) ∧ (((τ'.1 17 5) - 1) = 0 → (vp_in ((τ'.1 17 10) - 1) 128 ∧ Q (τ'.1 20 (Int32.toNatClampNeg ((τ'.1 17 10) - 1))) (wI (wI (wI τ' 17 5 ((τ'.1 17 5) - 1)) 17 4 x2) 17 10 ((τ'.1 17 10) - 1)))))) →
    Bk wd d 0 0 m_Reader_expression 0 0 (qi Q) 51 [oR 17, oI (nI sg0.length), oI x2, none, oI (sgI y)] [] τ := by
  intro f
  induction f with
  | zero =>
    intro y τ s1 w ids cur cT A B hfu hq hl1 hl2 h hQ
    cases y with
    | ok q => have := hfu q rfl; have := h.1.inv.1; omega
    | error e => exact v_Reader_expression_51 _ _ _ _ ⟨fun _ => xi_187 (by omega) hb w τ s1 ids cur cT A B (by omega) (by omega) h hQ, fun q => absurd rfl q⟩
  | succ f ih =>
    intro y τ s1 w ids cur cT A B hfu hq hl1 hl2 h hQ
    have eN : exlP tx n (opdP tx n F) (f + 1) y = if 0 ≤ sgI y then ((exlP tx n (opdP tx n F) f (opdP tx n F (nxR tx n (opR y))).1).1, ((sgI y, frI y), (opdP tx n F (nxR tx n (opR y))).2) :: (exlP tx n (opdP tx n F) f (opdP tx n F (nxR tx n (opR y))).1).2) else (y, []) := rfl
    by_cases hs : 0 ≤ sgI y
    · obtain ⟨j, hj, ej⟩ := sgI_in hs
      have hk := sgI_k hs
      rw [eN, if_pos hs] at hQ
      rw [ej] at hQ ⊢
      refine v_Reader_expression_51 _ _ _ _ ⟨fun q => absurd q (nI_nm1 (by omega)), fun _ => ⟨fun q => absurd (h.1.flt.mpr hk.1) q, fun _ => ?_⟩⟩
      refine xi_64 (G := fun τ => OkV wd (d - 1) m_Reader_open [vR 17] τ (fun s1 => ((¬ (s1.1 17 2) = 0 → Bk wd d 0 0 m_Reader_expression 0 0 (qi Q) 51 [oR 17, oI (nI sg0.length), oI x2, none, oI (nI j)] [] s1) ∧ ((s1.1 17 2) = 0 → (vp_in (s1.1 17 9) 64 ∧ (vp_in (s1.1 17 9) 64 ∧ OkV wd (d - 1) m_Reader_next [vR 17] (wI (wI (wI s1 18 (Int32.toNatClampNeg (s1.1 17 9)) (nI j)) 19 (Int32.toNatClampNeg (s1.1 17 9)) (s1.1 5 6)) 17 9 ((s1.1 17 9) + 1)) (fun s2 => OkI wd (d - 1) m_Reader_operand [vR 17] s2 (fun r3 s3 => (vp_in (s2.1 17 10) 128 ∧ OkI wd (d - 1) m_Reader_operator [vR 17] (wI (wI s3 20 (Int32.toNatClampNeg (s2.1 17 10)) r3) 17 10 ((s3.1 17 10) + 1)) (fun r4 s4 => Bk wd d 0 0 m_Reader_expression 0 0 (qi Q) 51 [oR 17, oI (nI sg0.length), oI x2, none, oI (r4)] [] s4)))))))))) (by omega) hb hj hk.1 (fun τ g1 g2 => v_Reader_expression_64 _ _ _ _ ⟨g1, g2⟩) w τ s1 ids cur cT A B (by omega) (by omega) h (fun τ1 s2 ids1 cur1 A1 B1 hwl h1 => ?_)
      generalize ew : rdW (clo (nI j)) w cT = wc at h1 hwl
      obtain ⟨w1, c1⟩ := wc
      dsimp only at h1 hwl
      have esr : ∀ l t, srT w cT (((nI j, frI y), t) :: l) = srT ((c1, nI j, frI y) :: w1) t l := by
        intro l t
        rw [srT, ew]
      rw [esr] at hQ
      obtain ⟨y1, y2, y3, y4, y5, y6, y7, y8, y9, y10⟩ := h1
      have hmoE : MO n (opR y) (exlP tx n (opdP tx n F) f (opdP tx n F (nxR tx n (opR y))).1).1 := (MO.nx.trans (MO.opd _)).trans (MO.exl (fun _ => MO.opd _) _)
      refine rc_open (by omega) y1 y2 (fun τ2 hS2 => ⟨fun q => ?_, fun q => ?_⟩)
      · -- too deep
        have ho2 : isO (opR y) = false := by
          cases ho : isO (opR y) with
          | true => exact absurd (hS2.flt.mpr ho) q
          | false => rfl
        refine v_Reader_expression_51 _ _ _ _ ⟨fun q => absurd q (nI_nm1 (by omega)), fun _ => ⟨fun _ => ?_, fun r => absurd r q⟩⟩
        cases hop2 : opR y with
        | ok r => rw [hop2] at ho2; exact absurd ho2 (show ¬ true = false by decide)
        | error e =>
          have ee := hmoE.1 e hop2
          rw [hop2] at hS2
          refine xi_187 (by omega) hb w1 τ2 s2 ids1 cur1 c1 A1 B1 (by omega) (by omega) ⟨hS2, y2, y3, y4, y5, y6, y7, y8, y9, fun o => absurd o (show ¬ false = true by decide)⟩ (fun τ' s3 cur' A' B' h' => hQ τ' s3 cur' A' B' ?_)
          rw [ee]
          obtain ⟨z1, z2, z3, z4, z5, z6, z7, z8, z9, z10⟩ := h'
          exact ⟨z1, z2, z3, z4, z5, z6, z7, z8, z9, fun o => absurd o (show ¬ false = true by decide)⟩
      · have ho2 := hS2.flt.mp q
        have hkk : isK (opR y) 0 = false := by
          cases y with
          | error e => exact absurd hk.1 (show ¬ false = true by decide)
          | ok r =>
            unfold opR at ho2 ⊢
            dsimp only at ho2 ⊢
            split
            · rfl
            · exact hk.2
        obtain ⟨r, er, erD, erS, erF⟩ : ∃ r, opR y = .ok r ∧ (∀ q, y = .ok q → sD r = sD q + 1 ∧ sS r = sS q ∧ sF r = sF q) ∧ sD r ≤ 60 ∧ sK r ≠ 0 := by
          cases hop2 : opR y with
          | error e => rw [hop2] at ho2; exact absurd ho2 (show ¬ false = true by decide)
          | ok r =>
            rw [hop2] at hS2 hkk
            refine ⟨r, rfl, fun q hq => ?_, hS2.inv.2.2.2.2.2.2, of_decide_eq_false hkk⟩
            subst hq
            unfold opR at hop2
            dsimp only at hop2
            split at hop2
            · cases hop2
            · cases hop2; exact ⟨rfl, rfl, rfl⟩
        obtain ⟨q0, eq0⟩ : ∃ q0, y = .ok q0 := by
          cases y with
          | error e => exact absurd hk.1 (show ¬ false = true by decide)
          | ok r => exact ⟨r, rfl⟩
        obtain ⟨u1, u2, u3⟩ := erD q0 eq0
        obtain ⟨v1, v2, v3⟩ := hq q0 eq0
        have hSk := hS2.2.2.2.2.2.1
        have e9 : τ2.1 17 9 = nI (sg0 ++ (w1.map (fun q => q.2)).reverse).length := hSk.1
        have lsg : (sg0 ++ (w1.map (fun q => q.2)).reverse).length = sg0.length + w1.length := by simp
        have lop : (op0 ++ (ids1.reverse ++ [cur1])).length = op0.length + w1.length + 1 := by simp; omega
        have e56 : τ2.1 5 6 = frI y := by
          rw [hS2.fro ho2, er, eq0]
          show nI (sF r) = nI (sF q0)
          rw [u3]
        rw [er] at hS2
        have hpay := hS2.pay erF
        rw [e9, e56, nI_clamp (by rw [lsg]; omega), nI_1]
        have hin : vp_in (nI (sg0 ++ (w1.map (fun q => q.2)).reverse).length) 64 := vp_in_nI (by rw [lsg]; omega) (by omega)
        refine ⟨hin, hin, ?_⟩
        have hS3 := (hS2.okb (b' := A1) rfl).pushS (z := nI j) (y0 := frI y) (by rw [lsg]; omega)
        refine rc_next (a' := A1 - 4) (by omega) hS3 (Nat.le_refl _) (fun q' e => ⟨by omega, fun k0 => ?_⟩) (fun τ3 hS4 => ?_)
        · cases e; exact absurd k0 erF
        have esg : (sg0 ++ (w1.map (fun q => q.2)).reverse) ++ [(nI j, frI y)] = sg0 ++ (((c1, nI j, frI y) :: w1).map (fun q => q.2)).reverse := by simp
        rw [esg] at hS4
        have lsg2 : (sg0 ++ (((c1, nI j, frI y) :: w1).map (fun q => q.2)).reverse).length = sg0.length + w1.length + 1 := by simp; omega
        have e10 : τ3.1 17 10 = nI (op0 ++ (ids1.reverse ++ [cur1])).length := hS4.2.2.2.2.2.1.2.1
        have hn2 := MO.nx (tx := tx) (n := n) (x := (.ok r))
        refine hO (d - 1) τ3 _ s2 _ _ (A1 - 4) A1 (A1 + 10 * (d - 1) + 2) _ (by omega) (fun q' e => ?_) (by rw [lsg2]; omega) (by rw [lop]; omega) hS4 (by omega) (by omega) (by omega) (by omega) (fun τ4 v4 ⟨s4, c4, ev, hS5, hE⟩ => ?_)
        · have := hn2.2 r q' rfl e hS2.inv
          rw [lsg2, lop]
          omega
        rw [e10, nI_clamp (by rw [lop]; omega)]
        refine ⟨vp_in_nI (by rw [lop]; omega) (by omega), ?_⟩
        have hcn : c4 ∉ op0 ++ (ids1.reverse ++ [cur1]) := fun hc => by
          have := (hS4.2.2.2.2.2.2.1 c4 hc).1
          have := hE.1
          omega
        have hS6 := hS5.pushO (y0 := nI (op0 ++ (ids1.reverse ++ [cur1])).length) (y1 := v4) (y2 := τ4.1 17 10) hE.2.1 hE.2.2.2.1 hcn rfl ev hS5.2.2.2.2.2.1.2.1 (by rw [lop]; omega)
        rw [nI_clamp (by rw [lop]; omega)] at hS6
        refine rc_operator (by omega) hS6 ?_
        have eop : (op0 ++ (ids1.reverse ++ [cur1])) ++ [c4] = op0 ++ ((cur1 :: ids1).reverse ++ [c4]) := by simp
        rw [eop] at hS6
        have hmo2 : MO n (.ok r) (opdP tx n F (nxR tx n (.ok r))).1 := hn2.trans (MO.opd _)
        rw [er] at hQ
        have hsl2 : s0.1 ≤ s4.1 := by have := hE.1; have := hE.2.1; omega
        refine ih _ _ s4 ((c1, nI j, frI y) :: w1) (cur1 :: ids1) c4 _ (A1 - 4) (A1 + 10 * (d - 1) + 2) ?_ (fun q' e => ?_) (by rw [List.length_cons]; omega) (by rw [List.length_cons]; omega) ⟨hS6, by omega, by rw [List.length_cons]; omega, by rw [List.length_cons]; omega, by rw [List.length_cons, List.length_cons, y5], hsl2, fun k hk => ?_, fun c hc => ?_, by have := hE.1; omega, fun o => ?_⟩ hQ
        · -- fuel
          have sl : SL n (.ok r) (opdP tx n F (nxR tx n (.ok r))).1 := SL.mo (SL.nx MO.rfl' (decide_eq_false erF)) (MO.opd _) MO.nx
          refine sl.fuel hmo2 (fun q' e => by cases e; exact hS2.inv) (fun q' e => ?_)
          cases e
          rw [u3]
          exact hfu q0 eq0
        · have m := hmo2.2 r q' rfl e hS2.inv
          rw [List.length_cons]
          omega
        · rw [hE.2.2.1 k (by omega)]; exact y7 k hk
        · rw [List.mem_cons] at hc
          rcases hc with hc | hc
          · omega
          · exact y8 c hc
        · have oy : isO y = true := hk.1
          obtain ⟨wr, fc⟩ := y10 oy
          have sm : ∀ k, s0.1 ≤ k → k < s2.1 → smR (s2.2 k) (s4.2 k) := fun k _ hk => by rw [hE.2.2.1 k hk]; exact ⟨rfl, rfl⟩
          have hle := hE.le
          refine ⟨⟨cur1, ids1, rfl, fc.mono (Nat.le_refl _) hle sm, ⟨j, hj, rfl⟩, wr.mono (Nat.le_refl _) hle sm⟩, ?_⟩
          exact (hE.2.2.2.2 o).mono y6 (Nat.le_refl _) (fun k _ _ => ⟨rfl, rfl⟩)
    · rw [eN, if_neg hs] at hQ
      rcases sgI_or y with e | ⟨j, hj, e⟩
      · rw [e]
        exact v_Reader_expression_51 _ _ _ _ ⟨fun _ => xi_187 (by omega) hb w τ s1 ids cur cT A B (by omega) (by omega) h hQ, fun q => absurd rfl q⟩
      · rw [e] at hs
        exact absurd (Int32.not_lt.mp (nI_pos (by omega))) hs
theorem rc_expression {F : Nat} (hO : OpC wd tx n σ0 F) : ExC wd tx n σ0 F := by
  intro d σ x s sg op a b b' Q hd hX hsg hop hS hab hb1 hb2 hb3 h
  refine v_Reader_expression _ (by omega) ?_
  have hSk := hS.2.2.2.2.2.1
  rw [hSk.1]
  have hF5 : Fr rdF σ (wI σ 17 5 (σ.1 17 5 + 1)) := Fr.rfl'.wI rfl
  have g5 : ∀ k j, ¬ (k = 17 ∧ (j = 4 ∨ j = 5)) → (wI σ 17 5 (σ.1 17 5 + 1)).1 k j = σ.1 k j := fun k j hk => by rw [wI_1, if_neg (by omega)]
  -- the last steps
  have last : ∀ (y : RS) (cT : Tr) (τ' : Sg) (s2 : NS) (cur' A' B' : Nat), XI tx n σ0 s sg op a b' y τ' s2 [] [] cur' cT A' B' →
      (∀ (z : RS) (v5 v4 : Int32), (∀ e, y = .error e → z = y) → (∀ q, y = .ok q → ∃ k m, z = .ok (sDS q k m) ∧ v4 = nI k ∧ v5 = nI m ∧ k ≤ 60) → (∀ σ' v, PoE tx n σ0 s sg op (z, cT) a b' v σ' → Q v σ') → (vp_in ((τ'.1 17 10) - 1) 128 ∧ Q (τ'.1 20 (Int32.toNatClampNeg ((τ'.1 17 10) - 1))) (wI (wI (wI τ' 17 5 v5) 17 4 v4) 17 10 ((τ'.1 17 10) - 1)))) := by
    intro y cT τ' s2 cur' A' B' hx z v5 v4 z1 z2 hh
    obtain ⟨y1, y2, y3, y4, y5, y6, y7, y8, y9, y10⟩ := hx
    have e0 : sg ++ (([] : Wt).map (fun q => q.2)).reverse = sg := by simp
    have e1 : op ++ (([] : List Nat).reverse ++ [cur']) = op ++ [cur'] := by simp
    rw [e0, e1] at y1
    have k := y1.2.2.2.2.2.1
    have hc := y1.2.2.2.2.2.2.1 cur' (by simp)
    have l1 : (op ++ [cur']).length = op.length + 1 := by simp
    have k10 : τ'.1 17 10 = nI (op.length + 1) := by rw [k.2.1, l1]
    have k20 : τ'.1 20 op.length = nI cur' := by
      rw [k.2.2.2 op.length (by rw [l1]; omega)]
      simp [List.getD_eq_getElem?_getD]
    rw [k10, nI_pred, nI_clamp (by omega), k20]
    refine ⟨vp_in_nI (by omega) (by omega), hh _ _ ⟨s2, cur', rfl, ?_, y9, hc.1, y7, hc.2, fun o => ?_⟩⟩
    · have hS1 : StC tx n σ0 (wI (wI τ' 17 5 v5) 17 4 v4) z s2 sg (op ++ [cur']) A' B' := by
        refine y1.dn ((Fr.rfl'.wI rfl).wI rfl) (fun k j hk => by simp only [wI_1]; rw [if_neg (by omega), if_neg (by omega)]) z1 (fun q hq => ?_)
        obtain ⟨k, m, e2, e3, e4, e5⟩ := z2 q hq
        exact ⟨k, m, e2, by simp [wI_1, e3], by simp [wI_1, e4], e5⟩
      have hk1 := hS1.2.2.2.2.2.1
      have nd := hS1.2.2.2.2.2.2.2.1
      have := hS1.re (τ := wI (wI (wI τ' 17 5 v5) 17 4 v4) 17 10 (nI op.length)) (s' := s2) (sg' := sg) (op' := op) (j := 0) (Fr.rfl'.wI rfl) (fun k i hk => by rw [wI_1 (j := 10), if_neg (by omega)]) (hS1.2.2.2.1.cong (fun i hi j _ => by rw [wI_1 (j := 10), if_neg (by omega)])) (by rw [wI_1 (j := 10), if_neg (by omega)]; exact hS1.2.2.2.2.1) ⟨by rw [wI_1 (j := 10), if_neg (by omega)]; exact hk1.1, by simp [wI_1], fun i hi => by rw [wI_1 (j := 10), if_neg (by omega), wI_1 (j := 10), if_neg (by omega)]; exact hk1.2.2.1 i hi, fun i hi => ?_⟩ (fun c hc => hS1.2.2.2.2.2.2.1 c (by simp [hc])) (by rw [List.nodup_append] at nd; exact nd.1) (Nat.le_refl _)
      · exact this.weak (by have : A' + 0 ≤ a := y3; omega) (by have : B' + 0 ≤ b' := y4; omega)
      · rw [wI_1 (j := 10), if_neg (by omega), hk1.2.2.2 i (by rw [l1]; omega), List.getD_eq_getElem?_getD, List.getElem?_append_left hi, ← List.getD_eq_getElem?_getD]
    · have oy : isO y = true := by
        cases y with
        | ok q => rfl
        | error e => rw [z1 e rfl] at o; exact o
      exact (y10 oy).2
  cases x with
  | error e =>
    have hS1 : StC tx n σ0 (wI σ 17 5 (σ.1 17 5 + 1)) (.error e) s sg op a b := hS.dn hF5 g5 (fun _ _ => rfl) (fun q hq => by cases hq)
    refine hO (d - 1) _ (.error e) s sg op a b b' _ (by omega) (fun q hq => by cases hq) hsg hop hS1 hab hb1 (by omega) hb3 (fun τ1 v1 ⟨s1, c1, ev, hS2, hE⟩ => ?_)
    have eo : (opdP tx n F (.error e)).1 = .error e := (MO.opd F).1 e rfl
    rw [eo] at hS2
    have l10 : τ1.1 17 10 = nI op.length := hS2.2.2.2.2.2.1.2.1
    refine ⟨by rw [l10]; exact vp_in_nI (by omega) (by omega), ?_⟩
    have hcn : c1 ∉ op := fun hc => by have := (hS.2.2.2.2.2.2.1 c1 hc).1; have := hE.1; omega
    have hS3 := hS2.pushO hE.2.1 hE.2.2.2.1 hcn l10 ev l10 (by omega)
    refine rc_operator (by omega) hS3 ?_
    refine v_Reader_expression_51 _ _ _ _ ⟨fun _ => xi_187 (tx := tx) (n := n) (σ0 := σ0) (y := .error e) (a1 := a) (b1 := b') (s0 := s) (sg0 := sg) (op0 := op) (by omega) hb3 [] _ s1 [] c1 .leaf a b' (by simp; omega) (by simp; omega) ⟨by simpa using hS3, by omega, Nat.le_refl _, Nat.le_refl _, rfl, hE.le, hE.2.2.1, fun c hc => absurd hc (by simp), hE.1, fun o => absurd o (show ¬ false = true by decide)⟩ (fun τ' s2 cur' A' B' hx => ?_), fun q => absurd rfl q⟩
    have hh : ∀ σ' v, PoE tx n σ0 s sg op (.error e, .leaf) a b' v σ' → Q v σ' := h
    refine ⟨fun _ => last _ _ τ' s2 cur' A' B' hx (.error e) _ _ (fun _ _ => rfl) (fun q hq => by cases hq) (fun σ' v hp => hh σ' v ?_), fun _ => last _ _ τ' s2 cur' A' B' hx (.error e) _ _ (fun _ _ => rfl) (fun q hq => by cases hq) (fun σ' v hp => hh σ' v ?_)⟩
    · obtain ⟨s', c, p1, p2, p3⟩ := hp
      exact ⟨s', c, p1, p2, p3.any rfl⟩
    · obtain ⟨s', c, p1, p2, p3⟩ := hp
      exact ⟨s', c, p1, p2, p3.any rfl⟩
  | ok q0 =>
    obtain ⟨z1, z2, z3, z4⟩ := hX q0 rfl
    have h9 := hS.2.2.2.2.2.2.2.2
    obtain ⟨i1, i2, i3, i4, i5, i6, i7, i8, i9, i10, i11⟩ := h9
    have hD60 := i10.2.2.2.2.2.2
    have hS1 : StC tx n σ0 (wI σ 17 5 (σ.1 17 5 + 1)) (.ok (sDS q0 (sD q0) (sS q0 + 1))) s sg op a b := by
      refine hS.dn hF5 g5 (fun _ he => by cases he) (fun q hq => ?_)
      cases hq
      exact ⟨sD q0, sS q0 + 1, rfl, by rw [wI_1, if_neg (by omega)]; exact i8, by rw [wI_1, if_pos ⟨rfl, rfl⟩, i9, nI_1], hD60⟩
    refine hO (d - 1) _ _ s sg op a b b' _ (by omega) (fun q hq => ?_) hsg hop hS1 hab hb1 (by omega) hb3 (fun τ1 v1 ⟨s1, c1, ev, hS2, hE⟩ => ?_)
    · cases hq
      exact ⟨z1, z2, by show op.length + 1 ≤ sg.length + (sS q0 + 1); omega, by show sS q0 + 1 ≤ sD q0 + 1; omega⟩
    have l10 : τ1.1 17 10 = nI op.length := hS2.2.2.2.2.2.1.2.1
    refine ⟨by rw [l10]; exact vp_in_nI (by omega) (by omega), ?_⟩
    have hcn : c1 ∉ op := fun hc => by have := (hS.2.2.2.2.2.2.1 c1 hc).1; have := hE.1; omega
    have hS3 := hS2.pushO hE.2.1 hE.2.2.2.1 hcn l10 ev l10 (by omega)
    refine rc_operator (by omega) hS3 ?_
    have hmo := MO.opd (tx := tx) (n := n) F (x := .ok (sDS q0 (sD q0) (sS q0 + 1)))
    have hmo2 := hmo.trans (MO.exl (tx := tx) (fun x => MO.opd (tx := tx) (n := n) F (x := x)) (n + 1))
    have inv1 : InvS n (sDS q0 (sD q0) (sS q0 + 1)) := hS1.inv
    have eE : exP tx n (opdP tx n F) (.ok q0) = (enX q0 (exlP tx n (opdP tx n F) (n + 1) (opdP tx n F (.ok (sDS q0 (sD q0) (sS q0 + 1)))).1).1, srT [] (opdP tx n F (.ok (sDS q0 (sD q0) (sS q0 + 1)))).2 (exlP tx n (opdP tx n F) (n + 1) (opdP tx n F (.ok (sDS q0 (sD q0) (sS q0 + 1)))).1).2) := rfl
    rw [eE] at h
    refine xi_51 (D0 := sD q0) (S0 := sS q0) (a1 := a) (b1 := b') (s0 := s) hO hd z1 z3 z4 hD60 hsg hb3 (by omega) (n + 1) _ _ s1 [] [] c1 _ a b' (fun q hq => by omega) (fun q hq => ?_) (by simpa using hsg) (by simpa using hop) ⟨by simpa using hS3, by omega, Nat.le_refl _, Nat.le_refl _, rfl, hE.le, hE.2.2.1, fun c hc => absurd hc (by simp), hE.1, fun o => ⟨rfl, hE.2.2.2.2 o⟩⟩ (fun τ' s2 cur' A' B' hx => ?_)
    · have m := hmo.2 _ q rfl hq inv1
      have m3 : sS q = sS q0 + 1 := m.2.2.1
      have m4 : sD q0 ≤ sD q := m.2.2.2
      exact ⟨by simp; omega, m3, m4⟩
    generalize ey : (exlP tx n (opdP tx n F) (n + 1) (opdP tx n F (.ok (sDS q0 (sD q0) (sS q0 + 1)))).1).1 = y at hx h hmo2
    have fin : ∀ v5 v4, (∀ q, y = .ok q → v5 = nI (sS q0) ∧ v4 = nI (if sS q0 = 0 then sD q0 else sD q)) → (vp_in ((τ'.1 17 10) - 1) 128 ∧ Q (τ'.1 20 (Int32.toNatClampNeg ((τ'.1 17 10) - 1))) (wI (wI (wI τ' 17 5 v5) 17 4 v4) 17 10 ((τ'.1 17 10) - 1))) := by
      intro v5 v4 hv
      refine last y _ τ' s2 cur' A' B' hx (enX q0 y) v5 v4 (fun e he => by rw [he]; rfl) (fun q hq => ?_) h
      have m := hmo2.2 _ q rfl hq inv1
      subst hq
      refine ⟨if sS q0 = 0 then sD q0 else sD q, sS q0, rfl, (hv q rfl).2, (hv q rfl).1, ?_⟩
      have := m.1.2.2.2.2.2.2
      split <;> omega
    have v5e : ∀ q, y = .ok q → τ'.1 17 5 - 1 = nI (sS q0) := by
      intro q hq
      have m := hmo2.2 _ q rfl hq inv1
      have m3 : sS q = sS q0 + 1 := m.2.2.1
      subst hq
      have := hx.1.2.2.2.2.2.2.2.2.2.2.2.2.2.2.2.2.1
      rw [this, m3, nI_pred]
    refine ⟨fun c => fin _ _ (fun q hq => ⟨v5e q hq, ?_⟩), fun c => fin _ _ (fun q hq => ⟨v5e q hq, ?_⟩)⟩
    · rw [v5e q hq] at c
      have : ¬ sS q0 = 0 := fun z => c (by rw [z]; rfl)
      rw [if_neg this]
      subst hq
      exact hx.1.2.2.2.2.2.2.2.2.2.2.2.2.2.2.2.1
    · rw [v5e q hq] at c
      have : sS q0 = 0 := by
        have c : nI (sS q0) = nI 0 := c
        exact (nI_eq (by omega) (by decide)).mp c
      rw [if_pos this]
      exact i8
end
