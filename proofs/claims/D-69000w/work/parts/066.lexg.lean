/-! 066: the component's table of names -/
def NmC (σ : Sg) (N : List (List Int32)) : Prop := σ.1 2 2 = nI N.length ∧ (∀ k, k ≤ N.length → σ.1 4 k = nI (N.take k).flatten.length) ∧ (∀ i, i < N.flatten.length → σ.1 3 i = N.flatten.getD i 0) ∧ N.length ≤ 16000 ∧ N.flatten.length ≤ 16000
theorem nm_cut {N : List (List Int32)} {k : Nat} (h : k < N.length) : N = N.take k ++ N.getD k [] :: N.drop (k + 1) := by
  rw [List.getD_eq_getElem?_getD, List.getElem?_eq_getElem h]
  simp
theorem nm_off {N : List (List Int32)} {k : Nat} (h : k < N.length) : (N.take (k + 1)).flatten.length = (N.take k).flatten.length + (N.getD k []).length := by
  rw [List.take_succ, List.flatten_append, List.length_append, List.getD_eq_getElem?_getD, List.getElem?_eq_getElem h]
  simp only [Option.toList, List.flatten_cons, List.flatten_nil, List.append_nil, Option.getD_some]
theorem nm_at {N : List (List Int32)} {k i : Nat} (h : k < N.length) (hi : i < (N.getD k []).length) : N.flatten.getD ((N.take k).flatten.length + i) 0 = (N.getD k []).getD i 0 := by
  have e : N.flatten = (N.take k).flatten ++ (N.getD k [] ++ (N.drop (k + 1)).flatten) := by
    have := congrArg List.flatten (nm_cut h)
    rw [List.flatten_append, List.flatten_cons] at this
    exact this
  rw [e]
  generalize N.getD k [] = x at hi ⊢
  simp [List.getD_eq_getElem?_getD, List.getElem?_append_right, List.getElem?_append_left, hi]
theorem nm_le {N : List (List Int32)} {k : Nat} (h : k < N.length) : (N.take k).flatten.length + (N.getD k []).length ≤ N.flatten.length := by
  have := congrArg (fun x => x.flatten.length) (nm_cut h)
  simp only [List.flatten_append, List.flatten_cons, List.length_append] at this
  omega
theorem nm_size {w : Wd} {d : Nat} {Q : Int32 → Sg → Prop} {σ : Sg} {N : List (List Int32)} {k : Nat} {x : Int32} (hd : 1 ≤ d) (hN : NmC σ N) (hx : x = nI k) (hk : k < N.length) (h : Q (nI (N.getD k []).length) σ) : OkI w d m_Names_size [vR 2, vI x] σ Q := by
  subst hx
  have hl := hN.2.2.2.1
  refine v_Names_size _ _ hd ?_
  rw [nI_1, nI_clamp (by omega), nI_clamp (by omega), hN.2.1 (k + 1) (by omega), hN.2.1 k (by omega), nm_off hk]
  refine ⟨vp_in_nI (by omega) (by omega), vp_in_nI (by omega) (by omega), ?_⟩
  have e : nI ((N.take k).flatten.length + (N.getD k []).length) - nI (N.take k).flatten.length = nI (N.getD k []).length := by rw [← nI_add]; grind
  rw [e]; exact h
theorem nm_get {w : Wd} {d : Nat} {Q : Int32 → Sg → Prop} {σ : Sg} {N : List (List Int32)} {k i : Nat} {x y : Int32} (hd : 1 ≤ d) (hN : NmC σ N) (hx : x = nI k) (hy : y = nI i) (hk : k < N.length) (hi : i < (N.getD k []).length) (h : Q ((N.getD k []).getD i 0) σ) : OkI w d m_Names_get [vR 2, vI x, vI y] σ Q := by
  subst hx hy
  have hl := hN.2.2.2.1
  have hf := hN.2.2.2.2
  have hle := nm_le hk
  refine v_Names_get _ _ _ hd ?_
  rw [nI_clamp (n := k) (by omega), hN.2.1 k (by omega), nI_add, nI_clamp (by omega), hN.2.2.1 _ (by omega), nm_at hk hi]
  exact ⟨vp_in_nI (by omega) (by omega), vp_in_nI (by omega) (by omega), h⟩
/-- the number of a name, and the table with it -/
def nmS (N : List (List Int32)) (r : List Int32) : Int32 × List (List Int32) := if idxW r N 0 < 0 then (nI N.length, N ++ [r]) else (idxW r N 0, N)
theorem idxW_drop {r : List Int32} {N : List (List Int32)} {k : Nat} (h : k < N.length) (j : Nat) : idxW r (N.drop k) j = if N.getD k [] = r then nI j else idxW r (N.drop (k + 1)) (j + 1) := by
  rw [List.drop_eq_getElem_cons h, idxW, List.getD_eq_getElem?_getD, List.getElem?_eq_getElem h]
  rfl
theorem nm_number_29 {w : Wd} {d : Nat} {Q : Int32 → Sg → Prop} {σ : Sg} {N : List (List Int32)} {r : List Int32} {k : Nat} (hN : NmC σ N) (hr : RowC σ 6 r) (hk : k < N.length) (hlen : (N.getD k []).length = r.length)
    (h1 : N.getD k [] = r → Q (nI k) σ) (h2 : N.getD k [] ≠ r → Bk w d 0 0 m_Names_number 0 0 (qi Q) 2 [oR 2, oR 6, oI (nI r.length), oI (nI (k + 1)), none, none] [] σ) : ∀ (f i : Nat), i + f = r.length → (N.getD k []).take i = r.take i →
    Bk w d 0 0 m_Names_number 0 0 (qi Q) 29 [oR 2, oR 6, oI (nI r.length), oI (nI k), oI 1, oI (nI i)] [] σ := by
  have hl := hN.2.2.2.1
  have hf := hN.2.2.2.2
  have hle := nm_le hk
  have hr1 := hr.1
  intro f
  induction f with
  | zero =>
    intro i hi ht
    have hi : i = r.length := by omega
    subst hi
    refine v_Names_number_29 _ _ _ _ _ ⟨fun _ => ⟨fun q => absurd q (by decide), fun _ => h1 ?_⟩, fun q => absurd (Int32.le_refl _) q⟩
    rw [List.take_of_length_le (by omega), List.take_of_length_le (Nat.le_refl _)] at ht
    exact ht
  | succ f ih =>
    intro i hi ht
    refine v_Names_number_29 _ _ _ _ _ ?_
    rw [nI_leI (by omega) (by omega), nI_clamp (n := k) (by omega), hN.2.1 k (by omega), nI_add, nI_clamp (n := (N.take k).flatten.length + i) (by omega), nI_clamp (n := i) (by omega), hN.2.2.1 _ (by omega), nm_at hk (by omega), hr.2 i (by omega), nI_1, nI_1]
    refine ⟨fun q => absurd q (by omega), fun _ => ⟨fun q => absurd q (by decide), fun _ => ⟨vp_in_nI (by omega) (by omega), vp_in_nI (by omega) (by omega), vp_in_nI (by omega) (by omega), fun q => ?_, fun q => ih (i + 1) (by omega) ?_⟩⟩⟩
    · have q2 : N.getD k [] ≠ r := fun e => q (by rw [e])
      refine v_Names_number_29 _ _ _ _ _ ?_
      rw [nI_1]
      exact ⟨fun _ => ⟨fun _ => h2 q2, fun e => absurd rfl e⟩, fun _ => ⟨fun _ => ⟨fun _ => h2 q2, fun e => absurd rfl e⟩, fun e => absurd rfl e⟩⟩
    · rw [List.take_succ, List.take_succ, ht]
      congr 1
      rw [List.getD_eq_getElem?_getD (i := i), List.getD_eq_getElem?_getD (l := r), List.getElem?_eq_getElem (by omega), List.getElem?_eq_getElem (by omega)] at q
      rw [List.getElem?_eq_getElem (by omega), List.getElem?_eq_getElem (by omega)]
      simp only [Option.getD_some] at q
      rw [q]
def nmF (k j : Nat) : Bool := Nat.beq k 2 || Nat.beq k 3 || Nat.beq k 4
theorem nm_number_2 {w : Wd} {d : Nat} {Q : Int32 → Sg → Prop} {σ : Sg} {N : List (List Int32)} {r : List Int32} (hd : 2 ≤ d) (hN : NmC σ N) (hr : RowC σ 6 r) (hB : ∀ i, i < r.length → fits .byte (.int (r.getD i 0)) = true) (hc : N.length + 1 ≤ 16000) (hc2 : N.flatten.length + r.length ≤ 16000) : ∀ (f k : Nat), k + f = N.length →
    (idxW r (N.drop k) k < 0 → ∀ τ, Fr nmF σ τ → NmC τ (N ++ [r]) → Q (nI N.length) τ) → (¬ idxW r (N.drop k) k < 0 → Q (idxW r (N.drop k) k) σ) →
    Bk w d 0 0 m_Names_number 0 0 (qi Q) 2 [oR 2, oR 6, oI (nI r.length), oI (nI k), none, none] [] σ := by
  have hl := hN.2.2.2.1
  have hf := hN.2.2.2.2
  have hr1 := hr.1
  intro f
  induction f with
  | zero =>
    intro k hk h1 _
    have hk : k = N.length := by omega
    subst hk
    rw [List.drop_length, idxW] at h1
    have h1 := h1 (by decide)
    refine v_Names_number_2 _ _ _ ?_
    have ez : Int32.toNatClampNeg 0 = 0 := rfl
    have e1 : nI N.length + 1 - 1 = nI N.length := by grind
    have eo : (N.take N.length).flatten.length = N.flatten.length := by rw [List.take_length]
    rw [hN.1, e1, nI_1, nI_clamp (n := N.length) (by omega), nI_clamp (n := N.length + 1) (by omega), hN.2.1 N.length (Nat.le_refl _), eo, nI_clamp (n := N.flatten.length) (by omega), nI_clamp (n := r.length) (by omega), nI_add, ez]
    refine ⟨fun _ => ⟨vp_in_nI (by omega) (by omega), by decide, nI_pos (by omega), nI_pos (by omega), by omega, by omega, fun i hi => ?_, vp_in_nI (by omega) (by omega), vp_in_nI (by omega) (by omega), h1 _ ?_ ?_⟩, fun q => absurd (Int32.le_refl _) q⟩
    · rw [Nat.zero_add, hr.2 i hi]; exact hB i hi
    · refine Fr.wI (Fr.wI ⟨fun a b hab => ?_, rfl⟩ rfl) rfl
      have ha : Nat.beq a 3 = false := by
        unfold nmF at hab
        simp only [Bool.or_eq_false_iff] at hab
        exact hab.1.2
      show (bif Nat.beq a 3 && _ then _ else _) = _
      rw [ha]
      rfl
    · have eN : (N ++ [r]).flatten = N.flatten ++ r := by simp
      have eL : (N ++ [r]).length = N.length + 1 := by simp
      refine ⟨by rw [wI_1, if_pos ⟨rfl, rfl⟩, eL], fun k hk => ?_, fun i hi => ?_, by omega, by rw [eN, List.length_append]; omega⟩
      · rw [eL] at hk
        rw [wI_1, if_neg (by omega), wI_1]
        split
        · rename_i q
          rw [q.2, ← eL, List.take_length, eN, List.length_append]
        · rename_i q
          have hk2 : k ≤ N.length := by omega
          have e4 : (cpI σ 6 3 0 N.flatten.length r.length).1 4 k = σ.1 4 k := rfl
          rw [e4, hN.2.1 k hk2, List.take_append_of_le_length hk2]
      · rw [eN, List.length_append] at hi
        rw [wI_1, if_neg (by omega), wI_1, if_neg (by omega), eN]
        show (bif Nat.beq 3 3 && (Nat.ble N.flatten.length i && Nat.blt i (N.flatten.length + r.length)) then σ.1 6 (0 + (i - N.flatten.length)) else σ.1 3 i) = _
        by_cases hc : N.flatten.length ≤ i
        · have t1 : Nat.ble N.flatten.length i = true := Nat.ble_eq_true_of_le hc
          have t2 : Nat.blt i (N.flatten.length + r.length) = true := Nat.ble_eq_true_of_le hi
          rw [t1, t2]
          show σ.1 6 (0 + (i - N.flatten.length)) = _
          rw [Nat.zero_add, hr.2 _ (by omega), List.getD_eq_getElem?_getD, List.getD_eq_getElem?_getD, List.getElem?_append_right hc]
        · have t1 : Nat.ble N.flatten.length i = false := by
            rw [Bool.eq_false_iff]; intro q; exact hc (Nat.le_of_ble_eq_true q)
          rw [t1]
          show σ.1 3 i = _
          rw [hN.2.2.1 i (by omega), List.getD_eq_getElem?_getD, List.getD_eq_getElem?_getD, List.getElem?_append_left (by omega)]
  | succ f ih =>
    intro k hk h1 h2
    have hk2 : k < N.length := by omega
    rw [idxW_drop hk2] at h1 h2
    have hidx : ¬ nI k < 0 := nI_pos (by omega)
    have next : N.getD k [] ≠ r → Bk w d 0 0 m_Names_number 0 0 (qi Q) 2 [oR 2, oR 6, oI (nI r.length), oI (nI (k + 1)), none, none] [] σ := by
      intro q
      rw [if_neg q] at h1 h2
      exact ih (k + 1) (by omega) h1 h2
    have this : N.getD k [] = r → Q (nI k) σ := by
      intro q
      rw [if_pos q] at h2
      exact h2 hidx
    refine v_Names_number_2 _ _ _ ?_
    rw [hN.1, nI_leI (by omega) (by omega)]
    refine ⟨fun q => absurd q (by omega), fun _ => nm_size (by omega) hN rfl hk2 ?_⟩
    have hle := nm_le hk2
    rw [nI_eq (by omega) (by omega)]
    refine ⟨fun q => ?_, fun q => nm_number_29 hN hr hk2 q this next r.length 0 (by omega) rfl⟩
    have q2 : N.getD k [] ≠ r := fun e => q (by rw [e])
    refine v_Names_number_29 _ _ _ _ _ ?_
    rw [nI_1]
    exact ⟨fun _ => ⟨fun _ => next q2, fun e => absurd rfl e⟩, fun _ => ⟨fun _ => ⟨fun _ => next q2, fun e => absurd rfl e⟩, fun e => absurd rfl e⟩⟩
theorem nm_number {w : Wd} {d : Nat} {Q : Int32 → Sg → Prop} {σ : Sg} {N : List (List Int32)} {r : List Int32} {x : Int32} (hd : 2 ≤ d) (hN : NmC σ N) (hr : RowC σ 6 r) (hx : x = nI r.length) (hB : ∀ i, i < r.length → fits .byte (.int (r.getD i 0)) = true) (hc : N.length + 1 ≤ 16000) (hc2 : N.flatten.length + r.length ≤ 16000)
    (h : ∀ τ, Fr nmF σ τ → NmC τ (nmS N r).2 → Q (nmS N r).1 τ) : OkI w d m_Names_number [vR 2, vR 6, vI x] σ Q := by
  subst hx
  unfold nmS at h
  refine v_Names_number _ _ (by omega) (nm_number_2 hd hN hr hB hc hc2 N.length 0 (by omega) (fun q τ t1 t2 => ?_) (fun q => ?_))
  · have q : idxW r N 0 < 0 := q
    rw [if_pos q] at h
    exact h τ t1 t2
  · have q : ¬ idxW r N 0 < 0 := q
    rw [if_neg q] at h
    exact h σ Fr.rfl' hN
