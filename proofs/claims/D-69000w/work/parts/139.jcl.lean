/-! 139: the component judges: words of rows (printed by tools/gen139.py) -/
def sdA : List Int32 := match extT[4]? with | some x => x.2.2.2 | none => []
theorem sdA_flat : flat stdW = sdA := by decide +kernel
theorem sdA_len : sdA.length = 92 := by decide +kernel
theorem stdW_noB : noB stdW = true := by decide +kernel
theorem rd_sdA {σ : Sg} {k : Nat} : rdI σ 1004 k = sdA.getD k 0 := rfl
theorem jr_find0_78 {w : Wd} {d : Nat} {Q : Int32 → Sg → Prop} {σ : Sg} {x1 x2 x3 : Int32} {pre wo rest : List Int32} (hA : pre ++ (wo ++ 32 :: rest) = sdA) (hb : wo.all (fun c => decide (c ≠ 32)) = true)
    (h : Bk w d 0 0 m_Rules_find 0 0 (qi Q) 15 [oR 21, oR 1004, oI x1, oI x2, oI (x3 + 1), oI (nI (pre.length + wo.length + 1)), none] [] σ) : ∀ (f i : Nat), i + f = wo.length → Bk w d 0 0 m_Rules_find 0 0 (qi Q) 78 [oR 21, oR 1004, oI x1, oI x2, oI x3, oI (nI (pre.length + i)), none] [] σ := by
  have hl : pre.length + (wo.length + (rest.length + 1)) = 92 := by rw [← sdA_len, ← hA]; simp
  intro f
  induction f with
  | zero =>
    intro i hi
    have hi : i = wo.length := by omega
    subst hi
    refine v_Rules_find_0_78 _ _ _ _ _ ⟨vp_in_nI (by omega) (by omega), ?_⟩
    rw [nI_clamp (by omega), rd_sdA, ← hA, fl_at2, nI_1]
    exact ⟨fun _ => h, fun q => absurd rfl q⟩
  | succ f ih =>
    intro i hi
    refine v_Rules_find_0_78 _ _ _ _ _ ⟨vp_in_nI (by omega) (by omega), ?_⟩
    rw [nI_clamp (by omega), rd_sdA, ← hA, fl_at1 (by omega), nI_1]
    exact ⟨fun q => absurd q (noB_at hb (by omega)), fun _ => ih (i + 1) (by omega)⟩
theorem jr_find0_25 {w : Wd} {d : Nat} {Q : Int32 → Sg → Prop} {σ : Sg} {x3 : Int32} {N : List (List Int32)} {j : Nat} {pre wo rest r : List Int32} (hd : 2 ≤ d) (hA : pre ++ (wo ++ 32 :: rest) = sdA) (hb : wo.all (fun c => decide (c ≠ 32)) = true) (hN : NmC σ N) (hj : j < N.length) (er : N.getD j [] = r) (hr1 : r.length < 100) (hr : r.all (fun c => decide (c ≠ 32)) = true)
    (h1 : wo = r → Q x3 σ)
    (h2 : wo ≠ r → Bk w d 0 0 m_Rules_find 0 0 (qi Q) 15 [oR 21, oR 1004, oI (nI j), oI (nI r.length), oI (x3 + 1), oI (nI (pre.length + wo.length + 1)), none] [] σ) : ∀ (f i : Nat), i + f = wo.length → i ≤ r.length → wo.take i = r.take i →
    Bk w d 0 0 m_Rules_find 0 0 (qi Q) 25 [oR 21, oR 1004, oI (nI j), oI (nI r.length), oI x3, oI (nI pre.length), oI (nI i)] [] σ := by
  have hl : pre.length + (wo.length + (rest.length + 1)) = 92 := by rw [← sdA_len, ← hA]; simp
  have go : wo ≠ r → Bk w d 0 0 m_Rules_find 0 0 (qi Q) 78 [oR 21, oR 1004, oI (nI j), oI (nI r.length), oI x3, oI (nI pre.length), none] [] σ := fun q => jr_find0_78 hA hb (h2 q) wo.length 0 (by omega)
  intro f
  induction f with
  | zero =>
    intro i hi hir ht
    have hi : i = wo.length := by omega
    subst hi
    refine v_Rules_find_0_25 _ _ _ _ _ _ ?_
    rw [nI_add, nI_clamp (by omega), rd_sdA, ← hA, fl_at2, nI_eq (by omega) (by omega), nI_leI (by omega) (by omega)]
    refine ⟨fun q => ⟨fun q2 => absurd (by omega) q2, fun q2 => ⟨vp_in_nI (by omega) (by omega), fun q3 => absurd rfl q3, fun _ => h1 ?_⟩⟩, fun q => ⟨vp_in_nI (by omega) (by omega), nm_get (by omega) hN rfl rfl hj (by rw [er]; omega) ?_⟩⟩
    · rw [List.take_of_length_le (Nat.le_refl _), List.take_of_length_le (by omega)] at ht
      exact ht
    · rw [er]
      have hne := noB_at hr (i := wo.length) (by omega)
      refine ⟨fun _ => ⟨fun _ => go (fun e => by rw [e] at q; omega), fun q2 => absurd q2 (by omega)⟩, fun q2 => absurd q2.symm hne⟩
  | succ f ih =>
    intro i hi hir ht
    have hne := noB_at hb (i := i) (by omega)
    refine v_Rules_find_0_25 _ _ _ _ _ _ ?_
    rw [nI_add, nI_clamp (n := pre.length + i) (by omega), rd_sdA, ← hA, fl_at1 (by omega), nI_eq (by omega) (by omega), nI_leI (by omega) (by omega), nI_1]
    have neL : i = r.length → wo ≠ r := fun q e => by rw [e] at hi; omega
    refine ⟨fun q => ⟨fun e => absurd (by omega) e, fun e => ⟨vp_in_nI (by omega) (by omega), fun _ => go (neL e), fun q2 => absurd q2 hne⟩⟩, fun q => ⟨vp_in_nI (by omega) (by omega), nm_get (by omega) hN rfl rfl hj (by rw [er]; omega) ?_⟩⟩
    rw [er]
    refine ⟨fun q2 => ⟨fun _ => go (fun e => q2 (by rw [e])), fun e => absurd e (by omega)⟩, fun q2 => ih (i + 1) (by omega) (by omega) ?_⟩
    rw [List.take_succ, List.take_succ, ht]
    congr 1
    rw [List.getD_eq_getElem?_getD, List.getD_eq_getElem?_getD, List.getElem?_eq_getElem (by omega), List.getElem?_eq_getElem (by omega)] at q2
    rw [List.getElem?_eq_getElem (by omega), List.getElem?_eq_getElem (by omega)]
    simp only [Option.getD_some] at q2
    rw [q2]
theorem jr_find0_15 {w : Wd} {d : Nat} {Q : Int32 → Sg → Prop} {σ : Sg} {N : List (List Int32)} {j : Nat} {r : List Int32} (hd : 2 ≤ d) (hN : NmC σ N) (hj : j < N.length) (er : N.getD j [] = r) (hr1 : r.length < 100) (hr : r.all (fun c => decide (c ≠ 32)) = true) : ∀ (ws : List (List Int32)) (pre : List Int32) (k : Nat), pre ++ flat ws = sdA → noB ws = true → Q (idxW r ws k) σ →
    Bk w d 0 0 m_Rules_find 0 0 (qi Q) 15 [oR 21, oR 1004, oI (nI j), oI (nI r.length), oI (nI k), oI (nI pre.length), none] [] σ := by
  intro ws
  induction ws with
  | nil =>
    intro pre k hA hb h
    have hl : pre.length = 92 := by rw [← sdA_len, ← hA]; simp [flat]
    rw [hl]
    exact v_Rules_find_0_15 _ _ _ _ _ ⟨fun _ => h, fun q => absurd (by decide) q⟩
  | cons wo ws ih =>
    intro pre k hA hb h
    have hA2 : pre ++ (wo ++ 32 :: flat ws) = sdA := hA
    have hl : pre.length + (wo.length + ((flat ws).length + 1)) = 92 := by rw [← sdA_len, ← hA2]; simp
    have hb2 : wo.all (fun c => decide (c ≠ 32)) = true ∧ noB ws = true := by
      unfold noB at hb ⊢
      rw [List.all_cons, Bool.and_eq_true] at hb
      exact hb
    refine v_Rules_find_0_15 _ _ _ _ _ ⟨fun q => ?_, fun _ => jr_find0_25 hd hA2 hb2.1 hN hj er hr1 hr (fun e => ?_) (fun e => ?_) wo.length 0 (by omega) (by omega) rfl⟩
    · have q : nI 92 ≤ nI pre.length := q
      rw [nI_leI (by decide) (by omega)] at q
      omega
    · rw [idxW, if_pos e] at h; exact h
    · rw [idxW, if_neg e] at h
      have := ih (pre ++ (wo ++ [32])) (k + 1) (by rw [← hA2]; simp) hb2.2 h
      have e2 : (pre ++ (wo ++ [32])).length = pre.length + wo.length + 1 := by simp; omega
      rw [e2] at this
      rw [nI_1]
      exact this
theorem jr_find0 {w : Wd} {d : Nat} {Q : Int32 → Sg → Prop} {σ : Sg} {N : List (List Int32)} {j : Nat} {x : Int32} (hd : 2 ≤ d) (hN : NmC σ N) (hj : j < N.length) (hr1 : (N.getD j []).length < 100) (hr : (N.getD j []).all (fun c => decide (c ≠ 32)) = true) (hx : x = nI j) (h : Q (idxW (N.getD j []) stdW 0) σ) : OkI w d m_Rules_find [vR 21, vR 1004, vI x] σ Q := by
  subst hx
  exact v_Rules_find_0 _ _ (by omega) (nm_size (by omega) hN rfl hj (jr_find0_15 hd hN hj rfl hr1 hr stdW [] 0 (by rw [List.nil_append]; exact sdA_flat) stdW_noB h))
def ptA : List Int32 := match extT[5]? with | some x => x.2.2.2 | none => []
theorem ptA_flat : flat ptsW = ptA := by decide +kernel
theorem ptA_len : ptA.length = 43 := by decide +kernel
theorem ptsW_noB : noB ptsW = true := by decide +kernel
theorem rd_ptA {σ : Sg} {k : Nat} : rdI σ 1005 k = ptA.getD k 0 := rfl
theorem jr_find1_78 {w : Wd} {d : Nat} {Q : Int32 → Sg → Prop} {σ : Sg} {x1 x2 x3 : Int32} {pre wo rest : List Int32} (hA : pre ++ (wo ++ 32 :: rest) = ptA) (hb : wo.all (fun c => decide (c ≠ 32)) = true)
    (h : Bk w d 0 0 m_Rules_find 0 0 (qi Q) 15 [oR 21, oR 1005, oI x1, oI x2, oI (x3 + 1), oI (nI (pre.length + wo.length + 1)), none] [] σ) : ∀ (f i : Nat), i + f = wo.length → Bk w d 0 0 m_Rules_find 0 0 (qi Q) 78 [oR 21, oR 1005, oI x1, oI x2, oI x3, oI (nI (pre.length + i)), none] [] σ := by
  have hl : pre.length + (wo.length + (rest.length + 1)) = 43 := by rw [← ptA_len, ← hA]; simp
  intro f
  induction f with
  | zero =>
    intro i hi
    have hi : i = wo.length := by omega
    subst hi
    refine v_Rules_find_1_78 _ _ _ _ _ ⟨vp_in_nI (by omega) (by omega), ?_⟩
    rw [nI_clamp (by omega), rd_ptA, ← hA, fl_at2, nI_1]
    exact ⟨fun _ => h, fun q => absurd rfl q⟩
  | succ f ih =>
    intro i hi
    refine v_Rules_find_1_78 _ _ _ _ _ ⟨vp_in_nI (by omega) (by omega), ?_⟩
    rw [nI_clamp (by omega), rd_ptA, ← hA, fl_at1 (by omega), nI_1]
    exact ⟨fun q => absurd q (noB_at hb (by omega)), fun _ => ih (i + 1) (by omega)⟩
theorem jr_find1_25 {w : Wd} {d : Nat} {Q : Int32 → Sg → Prop} {σ : Sg} {x3 : Int32} {N : List (List Int32)} {j : Nat} {pre wo rest r : List Int32} (hd : 2 ≤ d) (hA : pre ++ (wo ++ 32 :: rest) = ptA) (hb : wo.all (fun c => decide (c ≠ 32)) = true) (hN : NmC σ N) (hj : j < N.length) (er : N.getD j [] = r) (hr1 : r.length < 100) (hr : r.all (fun c => decide (c ≠ 32)) = true)
    (h1 : wo = r → Q x3 σ)
    (h2 : wo ≠ r → Bk w d 0 0 m_Rules_find 0 0 (qi Q) 15 [oR 21, oR 1005, oI (nI j), oI (nI r.length), oI (x3 + 1), oI (nI (pre.length + wo.length + 1)), none] [] σ) : ∀ (f i : Nat), i + f = wo.length → i ≤ r.length → wo.take i = r.take i →
    Bk w d 0 0 m_Rules_find 0 0 (qi Q) 25 [oR 21, oR 1005, oI (nI j), oI (nI r.length), oI x3, oI (nI pre.length), oI (nI i)] [] σ := by
  have hl : pre.length + (wo.length + (rest.length + 1)) = 43 := by rw [← ptA_len, ← hA]; simp
  have go : wo ≠ r → Bk w d 0 0 m_Rules_find 0 0 (qi Q) 78 [oR 21, oR 1005, oI (nI j), oI (nI r.length), oI x3, oI (nI pre.length), none] [] σ := fun q => jr_find1_78 hA hb (h2 q) wo.length 0 (by omega)
  intro f
  induction f with
  | zero =>
    intro i hi hir ht
    have hi : i = wo.length := by omega
    subst hi
    refine v_Rules_find_1_25 _ _ _ _ _ _ ?_
    rw [nI_add, nI_clamp (by omega), rd_ptA, ← hA, fl_at2, nI_eq (by omega) (by omega), nI_leI (by omega) (by omega)]
    refine ⟨fun q => ⟨fun q2 => absurd (by omega) q2, fun q2 => ⟨vp_in_nI (by omega) (by omega), fun q3 => absurd rfl q3, fun _ => h1 ?_⟩⟩, fun q => ⟨vp_in_nI (by omega) (by omega), nm_get (by omega) hN rfl rfl hj (by rw [er]; omega) ?_⟩⟩
    · rw [List.take_of_length_le (Nat.le_refl _), List.take_of_length_le (by omega)] at ht
      exact ht
    · rw [er]
      have hne := noB_at hr (i := wo.length) (by omega)
      refine ⟨fun _ => ⟨fun _ => go (fun e => by rw [e] at q; omega), fun q2 => absurd q2 (by omega)⟩, fun q2 => absurd q2.symm hne⟩
  | succ f ih =>
    intro i hi hir ht
    have hne := noB_at hb (i := i) (by omega)
    refine v_Rules_find_1_25 _ _ _ _ _ _ ?_
    rw [nI_add, nI_clamp (n := pre.length + i) (by omega), rd_ptA, ← hA, fl_at1 (by omega), nI_eq (by omega) (by omega), nI_leI (by omega) (by omega), nI_1]
    have neL : i = r.length → wo ≠ r := fun q e => by rw [e] at hi; omega
    refine ⟨fun q => ⟨fun e => absurd (by omega) e, fun e => ⟨vp_in_nI (by omega) (by omega), fun _ => go (neL e), fun q2 => absurd q2 hne⟩⟩, fun q => ⟨vp_in_nI (by omega) (by omega), nm_get (by omega) hN rfl rfl hj (by rw [er]; omega) ?_⟩⟩
    rw [er]
    refine ⟨fun q2 => ⟨fun _ => go (fun e => q2 (by rw [e])), fun e => absurd e (by omega)⟩, fun q2 => ih (i + 1) (by omega) (by omega) ?_⟩
    rw [List.take_succ, List.take_succ, ht]
    congr 1
    rw [List.getD_eq_getElem?_getD, List.getD_eq_getElem?_getD, List.getElem?_eq_getElem (by omega), List.getElem?_eq_getElem (by omega)] at q2
    rw [List.getElem?_eq_getElem (by omega), List.getElem?_eq_getElem (by omega)]
    simp only [Option.getD_some] at q2
    rw [q2]
theorem jr_find1_15 {w : Wd} {d : Nat} {Q : Int32 → Sg → Prop} {σ : Sg} {N : List (List Int32)} {j : Nat} {r : List Int32} (hd : 2 ≤ d) (hN : NmC σ N) (hj : j < N.length) (er : N.getD j [] = r) (hr1 : r.length < 100) (hr : r.all (fun c => decide (c ≠ 32)) = true) : ∀ (ws : List (List Int32)) (pre : List Int32) (k : Nat), pre ++ flat ws = ptA → noB ws = true → Q (idxW r ws k) σ →
    Bk w d 0 0 m_Rules_find 0 0 (qi Q) 15 [oR 21, oR 1005, oI (nI j), oI (nI r.length), oI (nI k), oI (nI pre.length), none] [] σ := by
  intro ws
  induction ws with
  | nil =>
    intro pre k hA hb h
    have hl : pre.length = 43 := by rw [← ptA_len, ← hA]; simp [flat]
    rw [hl]
    exact v_Rules_find_1_15 _ _ _ _ _ ⟨fun _ => h, fun q => absurd (by decide) q⟩
  | cons wo ws ih =>
    intro pre k hA hb h
    have hA2 : pre ++ (wo ++ 32 :: flat ws) = ptA := hA
    have hl : pre.length + (wo.length + ((flat ws).length + 1)) = 43 := by rw [← ptA_len, ← hA2]; simp
    have hb2 : wo.all (fun c => decide (c ≠ 32)) = true ∧ noB ws = true := by
      unfold noB at hb ⊢
      rw [List.all_cons, Bool.and_eq_true] at hb
      exact hb
    refine v_Rules_find_1_15 _ _ _ _ _ ⟨fun q => ?_, fun _ => jr_find1_25 hd hA2 hb2.1 hN hj er hr1 hr (fun e => ?_) (fun e => ?_) wo.length 0 (by omega) (by omega) rfl⟩
    · have q : nI 43 ≤ nI pre.length := q
      rw [nI_leI (by decide) (by omega)] at q
      omega
    · rw [idxW, if_pos e] at h; exact h
    · rw [idxW, if_neg e] at h
      have := ih (pre ++ (wo ++ [32])) (k + 1) (by rw [← hA2]; simp) hb2.2 h
      have e2 : (pre ++ (wo ++ [32])).length = pre.length + wo.length + 1 := by simp; omega
      rw [e2] at this
      rw [nI_1]
      exact this
theorem jr_find1 {w : Wd} {d : Nat} {Q : Int32 → Sg → Prop} {σ : Sg} {N : List (List Int32)} {j : Nat} {x : Int32} (hd : 2 ≤ d) (hN : NmC σ N) (hj : j < N.length) (hr1 : (N.getD j []).length < 100) (hr : (N.getD j []).all (fun c => decide (c ≠ 32)) = true) (hx : x = nI j) (h : Q (idxW (N.getD j []) ptsW 0) σ) : OkI w d m_Rules_find [vR 21, vR 1005, vI x] σ Q := by
  subst hx
  exact v_Rules_find_1 _ _ (by omega) (nm_size (by omega) hN rfl hj (jr_find1_15 hd hN hj rfl hr1 hr ptsW [] 0 (by rw [List.nil_append]; exact ptA_flat) ptsW_noB h))
