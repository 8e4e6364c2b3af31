/-! 077: the reference's words and names -/
theorem st0_fl : stL 0 = 32 :: flat wdL := by decide +kernel
theorem st0_len : (stL 0).length = 271 := by decide +kernel
/-- the row of bytes from a place on is what the reference looks at -/
theorem rowS_pk {tx : Nat → Int32} {n a l i : Nat} (hl : a + l ≤ n) (hi : i < l) : grt (pk tx n (a + i)) = (rowS tx a l).getD i 0 := by
  rw [rowS_at hi]; unfold pk; rw [if_pos (by omega)]
theorem tk_more {wo r : List Int32} {i : Nat} (hi : i < wo.length) (hr : i < r.length) : wo.take (i + 1) = r.take (i + 1) ↔ wo.take i = r.take i ∧ r.getD i 0 = wo.getD i 0 := by
  rw [List.take_add_one, List.take_add_one, List.getD_eq_getElem?_getD, List.getD_eq_getElem?_getD, List.getElem?_eq_getElem hi, List.getElem?_eq_getElem hr]
  simp only [Option.getD_some, Option.toList]
  constructor
  · intro h
    have := List.append_inj' h rfl
    exact ⟨this.1, by simpa using this.2.symm⟩
  · rintro ⟨h1, h2⟩
    rw [h1, h2]
theorem mk_wordAt_18 {w : Wd} {d : Nat} {Q : Int32 → Sg → Prop} {σ : Sg} {tx : Nat → Int32} {n a l k : Nat} {pre wo : List Int32} {ws : List (List Int32)} (hd : 6 ≤ d) (hT : MX σ tx n) (h7 : σ.1 81 7 = nI a) (h8 : σ.1 81 8 = nI (a + l)) (hl : a + l ≤ n) (hA : 32 :: (pre ++ (wo ++ 32 :: flat ws)) = stL 0) (hb : wo.all (fun c => decide (c ≠ 32)) = true)
    (h1 : wo = rowS tx a l → Q (nI k) σ) (h2 : wo ≠ rowS tx a l → Bk w d 0 0 m_M_wordAt 0 0 (qi Q) 4 [oR 81, oI (nI (k + 1)), oI (nI (1 + pre.length + wo.length + 1)), none, none] [] σ) :
    ∀ (f i : Nat) (b : Bool), i + f = wo.length → (b = true ↔ i ≤ l ∧ wo.take i = (rowS tx a l).take i) → Bk w d 0 0 m_M_wordAt 0 0 (qi Q) 18 [oR 81, oI (nI k), oI (nI (1 + pre.length)), oI (nI i), oI (b2 b)] [] σ := by
  have hn := hT.1
  have hlen : 1 + (pre.length + (wo.length + ((flat ws).length + 1))) = 271 := by rw [← st0_len, ← hA]; simp; omega
  intro f
  induction f with
  | zero =>
    intro i b hi hbb
    have hi : i = wo.length := by omega
    subst hi
    refine v_M_wordAt_18 _ _ _ _ _ ⟨trivial, ?_⟩
    rw [nI_add]
    refine st_charAt 0 (1 + pre.length + wo.length) (by omega) (by decide) rfl (by rw [st0_len]; omega) ?_
    have e32 : (stL 0).getD (1 + pre.length + wo.length) 0 = 32 := by
      rw [← hA]
      have : 1 + pre.length + wo.length = (pre.length + wo.length) + 1 := by omega
      rw [this, List.getD_cons_succ]
      exact fl_at2
    rw [e32, h7, h8, nI_1, nI_1]
    have esub : nI (a + l) - nI a = nI l := by rw [pk_sub (by omega)]; congr 1; omega
    rw [esub, nI_eq (by omega) (by omega)]
    refine ⟨fun _ => ⟨fun q => h2 ?_, fun q => ⟨fun q2 => h2 ?_, fun q2 => h1 ?_⟩⟩, fun q => absurd rfl q⟩
    · intro e
      have := hbb.mpr ⟨by rw [e, rowS_len]; omega, by rw [e]⟩
      rw [this] at q; exact absurd q (by decide)
    · intro e; exact q2 (by rw [e, rowS_len])
    · have := (hbb.mp (b2_n0.mp q)).2
      rw [List.take_of_length_le (Nat.le_refl _), List.take_of_length_le (by rw [rowS_len]; omega)] at this
      exact this
  | succ f ih =>
    intro i b hi hbb
    have hne := noB_at hb (i := i) (by omega)
    refine v_M_wordAt_18 _ _ _ _ _ ⟨trivial, ?_⟩
    rw [nI_add]
    have ech : (stL 0).getD (1 + pre.length + i) 0 = wo.getD i 0 := by
      rw [← hA]
      have : 1 + pre.length + i = (pre.length + i) + 1 := by omega
      rw [this, List.getD_cons_succ]
      exact fl_at1 (by omega)
    refine st_charAt 0 (1 + pre.length + i) (by omega) (by decide) rfl (by rw [st0_len]; omega) ?_
    simp only [nI_1]
    rw [ech, h7, h8, nI_add]
    refine ⟨fun q => absurd q hne, fun _ => ⟨fun q => ih (i + 1) false (by omega) ⟨fun r => absurd r (by decide), fun r => ?_⟩, fun q => mk_great (by omega) hT rfl (by omega) ⟨trivial, st_charAt 0 (1 + pre.length + i) (by omega) (by decide) rfl (by rw [st0_len]; omega) ?_⟩⟩⟩
    · have hil : i < l := by omega
      have := (tk_more (by omega) (by rw [rowS_len]; exact hil)).mp r.2
      have := hbb.mpr ⟨by omega, this.1⟩
      rw [this] at q; exact absurd q (by decide)
    · have hb1 := hbb.mp (b2_n0.mp q)
      rw [ech, h7, h8, nI_add, nI_leI (by omega) (by omega)]
      have z0 : (0 : Int32) = b2 false := rfl
      have z1 : (1 : Int32) = b2 true := rfl
      refine ⟨fun q2 => ?_, fun q2 => ⟨fun q3 => ?_, fun q3 => ?_⟩⟩
      · refine ih (i + 1) false (by omega) ⟨fun r => absurd r (by decide), fun r => ?_⟩
        have hil : i < l := by omega
        have := (tk_more (by omega) (by rw [rowS_len]; exact hil)).mp r.2
        exact absurd (by rw [rowS_pk hl hil]; exact this.2) q2
      · refine ih (i + 1) false (by omega) ⟨fun r => absurd r (by decide), fun r => ?_⟩
        omega
      · refine ih (i + 1) true (by omega) ⟨fun _ => ⟨by omega, ?_⟩, fun _ => rfl⟩
        rw [tk_more (by omega) (by rw [rowS_len]; omega)]
        exact ⟨hb1.2, by rw [← rowS_pk hl (by omega)]; exact q2⟩
theorem mk_wordAt_4 {w : Wd} {d : Nat} {Q : Int32 → Sg → Prop} {σ : Sg} {tx : Nat → Int32} {n a l : Nat} (hd : 6 ≤ d) (hT : MX σ tx n) (h7 : σ.1 81 7 = nI a) (h8 : σ.1 81 8 = nI (a + l)) (hl : a + l ≤ n) : ∀ (ws : List (List Int32)) (pre : List Int32) (k : Nat), 32 :: (pre ++ flat ws) = stL 0 → noB ws = true → Q (idxW (rowS tx a l) ws k) σ →
    Bk w d 0 0 m_M_wordAt 0 0 (qi Q) 4 [oR 81, oI (nI k), oI (nI (1 + pre.length)), none, none] [] σ := by
  intro ws
  induction ws with
  | nil =>
    intro pre k hA hb h
    have hlen : 1 + pre.length = 271 := by rw [← st0_len, ← hA]; simp [flat]; omega
    refine v_M_wordAt_4 _ _ _ ⟨trivial, st_length 0 (by omega) (by decide) ⟨fun _ => h, fun q => absurd ?_ q⟩⟩
    rw [hlen, st0_len]; exact Int32.le_refl _
  | cons wo ws ih =>
    intro pre k hA hb h
    have hA2 : 32 :: (pre ++ (wo ++ 32 :: flat ws)) = stL 0 := hA
    have hlen : 1 + (pre.length + (wo.length + ((flat ws).length + 1))) = 271 := by rw [← st0_len, ← hA2]; simp; omega
    have hb2 : wo.all (fun c => decide (c ≠ 32)) = true ∧ noB ws = true := by
      unfold noB at hb ⊢
      rw [List.all_cons, Bool.and_eq_true] at hb
      exact hb
    refine v_M_wordAt_4 _ _ _ ⟨trivial, st_length 0 (by omega) (by decide) ⟨fun q => ?_, fun _ => mk_wordAt_18 hd hT h7 h8 hl hA2 hb2.1 (fun e => ?_) (fun e => ?_) wo.length 0 true (by omega) ⟨fun _ => ⟨by omega, rfl⟩, fun _ => rfl⟩⟩⟩
    · rw [st0_len, nI_leI (by decide) (by omega)] at q
      omega
    · rw [idxW, if_pos e] at h; exact h
    · rw [idxW, if_neg e] at h
      have := ih (pre ++ (wo ++ [32])) (k + 1) (by rw [← hA2]; simp) hb2.2 h
      have e2 : 1 + (pre ++ (wo ++ [32])).length = 1 + pre.length + wo.length + 1 := by simp; omega
      rw [e2] at this
      exact this
theorem mk_wordAt {w : Wd} {d : Nat} {Q : Int32 → Sg → Prop} {σ : Sg} {tx : Nat → Int32} {n a l : Nat} (hd : 6 ≤ d) (hT : MX σ tx n) (h7 : σ.1 81 7 = nI a) (h8 : σ.1 81 8 = nI (a + l)) (hl : a + l ≤ n) (h : Q (idxW (rowS tx a l) wdL 0) σ) : OkI w d m_M_wordAt [vR 81] σ Q :=
  v_M_wordAt _ (by omega) (mk_wordAt_4 hd hT h7 h8 hl wdL [] 0 (by rw [List.nil_append]; exact st0_fl.symm) wdL_noB h)
/-- the reference's table of names -/
def NmM (σ : Sg) (N : List (List Int32)) : Prop := σ.1 81 3 = nI N.length ∧ (∀ k, k < N.length → σ.1 84 k = nI (N.getD k []).length ∧ (N.getD k []).length ≤ 32 ∧ ∀ i, i < (N.getD k []).length → σ.1 83 (32 * k + i) = (N.getD k []).getD i 0) ∧ N.length ≤ 8000
def mnF (k j : Nat) : Bool := Nat.beq k 83 || Nat.beq k 84 || (Nat.beq k 81 && Nat.beq j 3)
theorem mk_nameAt_39 {w : Wd} {d : Nat} {Q : Int32 → Sg → Prop} {σ : Sg} {tx : Nat → Int32} {n a l k : Nat} {N : List (List Int32)} (hd : 6 ≤ d) (hT : MX σ tx n) (hN : NmM σ N) (h7 : σ.1 81 7 = nI a) (hl : a + l ≤ n) (hk : k < N.length)
    (h1 : N.getD k [] = rowS tx a l → Q (nI k) σ) (h2 : N.getD k [] ≠ rowS tx a l → Bk w d 0 0 m_M_nameAt 0 0 (qi Q) 12 [oR 81, oI (nI l), oI (nI (k + 1)), none, none] [] σ) :
    ∀ (f i : Nat) (b : Bool), i + f = l → (b = true ↔ (N.getD k []).length = l ∧ (N.getD k []).take i = (rowS tx a l).take i) → Bk w d 0 0 m_M_nameAt 0 0 (qi Q) 39 [oR 81, oI (nI l), oI (nI k), oI (b2 b), oI (nI i)] [] σ := by
  have hn := hT.1
  have hNl := hN.2.2
  have hNk := hN.2.1 k hk
  have no : ∀ i b, (b = true ↔ (N.getD k []).length = l ∧ (N.getD k []).take i = (rowS tx a l).take i) → b2 b = 0 → N.getD k [] ≠ rowS tx a l := by
    intro i b hbb q e
    have := hbb.mpr ⟨by rw [e, rowS_len], by rw [e]⟩
    rw [this] at q; exact absurd q (by decide)
  intro f
  induction f with
  | zero =>
    intro i b hi hbb
    have hi : i = l := by omega
    subst hi
    refine v_M_nameAt_39 _ _ _ _ _ ?_
    rw [nI_1]
    refine ⟨fun _ => ⟨fun q => h2 (no _ _ hbb q), fun q => h1 ?_⟩, fun q => absurd (Int32.le_refl _) q⟩
    have := hbb.mp (b2_n0.mp q)
    rw [List.take_of_length_le (by omega), List.take_of_length_le (by rw [rowS_len]; omega)] at this
    exact this.2
  | succ f ih =>
    intro i b hi hbb
    refine v_M_nameAt_39 _ _ _ _ _ ?_
    have e32 : (32 : Int32) * nI k = nI (32 * k) := pk_mul 32 k
    rw [nI_1, nI_1, nI_leI (by omega) (by omega), e32, nI_add, h7, nI_add, nI_clamp (by omega)]
    refine ⟨fun q => absurd q (by omega), fun _ => ⟨fun q => ⟨fun _ => h2 (no _ _ hbb q), fun q2 => absurd q q2⟩, fun q => ?_⟩⟩
    have hb1 := hbb.mp (b2_n0.mp q)
    have hb32 := hNk.2.1
    refine ⟨vp_in_nI (by omega) (by omega), mk_great (by omega) hT rfl (by omega) ?_⟩
    rw [hNk.2.2 i (by omega), rowS_pk hl (by omega)]
    have tm := tk_more (wo := N.getD k []) (r := rowS tx a l) (i := i) (by omega) (by rw [rowS_len]; omega)
    refine ⟨fun q2 => ih (i + 1) false (by omega) ⟨fun r => absurd r (by decide), fun r => ?_⟩, fun q2 => ih (i + 1) true (by omega) ⟨fun _ => ⟨hb1.1, ?_⟩, fun _ => rfl⟩⟩
    · exact absurd ((tm.mp r.2).2.symm) q2
    · exact tm.mpr ⟨hb1.2, q2.symm⟩
theorem mk_nameAt_111 {w : Wd} {d : Nat} {Q : Int32 → Sg → Prop} {σ : Sg} {tx : Nat → Int32} {n a l : Nat} {N : List (List Int32)} (hd : 6 ≤ d) (hT : MX σ tx n) (hN : NmM σ N) (h7 : σ.1 81 7 = nI a) (hl : a + l ≤ n) (hl2 : l ≤ 32) (hpt : ∀ i, i < l → isPt (tx (a + i)) = true) (hc : N.length + 1 ≤ 8000)
    (h : ∀ τ, Fr mnF σ τ → NmM τ (N ++ [rowS tx a l]) → Q (nI N.length) τ) : ∀ (f i : Nat) (τ : Sg), i + f = l → Fr mnF σ τ → τ.1 81 3 = nI N.length → τ.1 84 N.length = nI l → (∀ k, k < N.length → τ.1 84 k = σ.1 84 k ∧ ∀ j, j < 32 → τ.1 83 (32 * k + j) = σ.1 83 (32 * k + j)) → (∀ j, j < i → τ.1 83 (32 * N.length + j) = (rowS tx a l).getD j 0) →
    Bk w d 0 0 m_M_nameAt 0 0 (qi Q) 111 [oR 81, oI (nI l), oI (nI i), none, none] [] τ := by
  have hn := hT.1
  have hNl := hN.2.2
  intro f
  induction f with
  | zero =>
    intro i τ hi hF h3 h84 hold hnew
    have hi : i = l := by omega
    subst hi
    refine v_M_nameAt_111 _ _ _ ⟨fun _ => ?_, fun q => absurd (Int32.le_refl _) q⟩
    have e1 : nI N.length + 1 - 1 = nI N.length := by grind
    rw [h3, e1]
    have hF2 : Fr mnF σ (wI τ 81 3 (nI N.length + 1)) := hF.wI rfl
    refine h _ hF2 ⟨by rw [wI_1, if_pos ⟨rfl, rfl⟩, nI_1]; simp, fun k hk => ?_, by simp; omega⟩
    rw [List.length_append, List.length_singleton] at hk
    rw [wI_1, if_neg (by omega)]
    by_cases q : k < N.length
    · have o := hN.2.1 k q
      have e2 : (N ++ [rowS tx a i]).getD k [] = N.getD k [] := by rw [List.getD_eq_getElem?_getD, List.getD_eq_getElem?_getD, List.getElem?_append_left q]
      rw [e2, (hold k q).1]
      refine ⟨o.1, o.2.1, fun j hj => ?_⟩
      have := o.2.1
      rw [wI_1, if_neg (by omega), (hold k q).2 j (by omega)]
      exact o.2.2 j hj
    · have q : k = N.length := by omega
      subst q
      have e2 : (N ++ [rowS tx a i]).getD N.length [] = rowS tx a i := by simp [List.getD_eq_getElem?_getD]
      rw [e2, h84, rowS_len]
      refine ⟨rfl, hl2, fun j hj => ?_⟩
      rw [wI_1, if_neg (by omega)]
      exact hnew j hj
  | succ f ih =>
    intro i τ hi hF h3 h84 hold hnew
    have hTt : MX τ tx n := hT.f hF (fun _ => rfl) rfl
    have h7t : τ.1 81 7 = nI a := by rw [hF.1 81 7 rfl]; exact h7
    refine v_M_nameAt_111 _ _ _ ?_
    have e32 : (32 : Int32) * nI N.length = nI (32 * N.length) := pk_mul 32 _
    simp only [h3, h7t, nI_1]
    rw [nI_leI (by omega) (by omega), e32, nI_add, nI_add, nI_clamp (n := 32 * N.length + i) (by omega)]
    refine ⟨fun q => absurd q (by omega), fun _ => mk_great (by omega) hTt rfl (by omega) ⟨vp_in_nI (by omega) (by omega), ?_⟩⟩
    obtain ⟨j, hj, ej⟩ := pt_small (hpt i (by omega))
    have eg : grt (pk tx n (a + i)) = nI j := by rw [rowS_pk (l := l) hl (by omega), rowS_at (l := l) (by omega)]; exact ej
    rw [eg, vp_nar_byte, nI_b8 j hj, nI_b8 j hj, ← eg, rowS_pk (l := l) hl (by omega)]
    refine ih (i + 1) _ (by omega) (hF.wI rfl) (by rw [wI_1, if_neg (by omega)]; exact h3) (by rw [wI_1, if_neg (by omega)]; exact h84) (fun k hk => ⟨by rw [wI_1, if_neg (by omega)]; exact (hold k hk).1, fun j hj => by rw [wI_1, if_neg (by omega)]; exact (hold k hk).2 j hj⟩) (fun j hj => ?_)
    rw [wI_1]
    split
    · rename_i q; have : j = i := by omega
      rw [this]
    · exact hnew j (by omega)
theorem mk_nameAt_12 {w : Wd} {d : Nat} {Q : Int32 → Sg → Prop} {σ : Sg} {tx : Nat → Int32} {n a l : Nat} {N : List (List Int32)} (hd : 6 ≤ d) (hT : MX σ tx n) (hN : NmM σ N) (h7 : σ.1 81 7 = nI a) (hl : a + l ≤ n) (hl2 : l ≤ 32) (hpt : ∀ i, i < l → isPt (tx (a + i)) = true) (hc : N.length + 1 ≤ 8000) : ∀ (f k : Nat), k + f = N.length →
    (idxW (rowS tx a l) (N.drop k) k < 0 → ∀ τ, Fr mnF σ τ → NmM τ (N ++ [rowS tx a l]) → Q (nI N.length) τ) → (¬ idxW (rowS tx a l) (N.drop k) k < 0 → Q (idxW (rowS tx a l) (N.drop k) k) σ) →
    Bk w d 0 0 m_M_nameAt 0 0 (qi Q) 12 [oR 81, oI (nI l), oI (nI k), none, none] [] σ := by
  have hn := hT.1
  have hNl := hN.2.2
  intro f
  induction f with
  | zero =>
    intro k hk h1 _
    have hk : k = N.length := by omega
    subst hk
    rw [List.drop_length, idxW] at h1
    have h1 := h1 (by decide)
    refine v_M_nameAt_12 _ _ _ ?_
    rw [hN.1, nI_clamp (by omega)]
    refine ⟨fun _ => ⟨vp_in_nI (by omega) (by omega), ?_⟩, fun q => absurd (Int32.le_refl _) q⟩
    exact mk_nameAt_111 hd hT hN h7 hl hl2 hpt hc h1 l 0 _ (by omega) (Fr.rfl'.wI rfl) (by rw [wI_1, if_neg (by omega)]; exact hN.1) (by rw [wI_1, if_pos ⟨rfl, rfl⟩]) (fun k hk => ⟨by rw [wI_1, if_neg (by omega)], fun j _ => by rw [wI_1, if_neg (by omega)]⟩) (fun j hj => absurd hj (by omega))
  | succ f ih =>
    intro k hk h1 h2
    have hk2 : k < N.length := by omega
    rw [idxW_drop hk2] at h1 h2
    have hidx : ¬ nI k < 0 := nI_pos (by omega)
    have next : N.getD k [] ≠ rowS tx a l → Bk w d 0 0 m_M_nameAt 0 0 (qi Q) 12 [oR 81, oI (nI l), oI (nI (k + 1)), none, none] [] σ := by
      intro q
      rw [if_neg q] at h1 h2
      exact ih (k + 1) (by omega) h1 h2
    have this : N.getD k [] = rowS tx a l → Q (nI k) σ := by
      intro q
      rw [if_pos q] at h2
      exact h2 hidx
    have o := hN.2.1 k hk2
    refine v_M_nameAt_12 _ _ _ ?_
    have o2 := o.2.1
    rw [hN.1, nI_leI (by omega) (by omega), nI_clamp (n := k) (by omega), o.1, nI_eq (by omega) (by omega)]
    refine ⟨fun q => absurd q (by omega), fun _ => ⟨vp_in_nI (by omega) (by omega), fun q => ?_, fun q => ?_⟩⟩
    · exact mk_nameAt_39 hd hT hN h7 hl hk2 this next l 0 false (by omega) ⟨fun r => absurd r (by decide), fun r => absurd r.1 q⟩
    · exact mk_nameAt_39 hd hT hN h7 hl hk2 this next l 0 true (by omega) ⟨fun _ => ⟨q, rfl⟩, fun _ => rfl⟩
theorem mk_nameAt {w : Wd} {d : Nat} {Q : Int32 → Sg → Prop} {σ : Sg} {tx : Nat → Int32} {n a l : Nat} {N : List (List Int32)} (hd : 6 ≤ d) (hT : MX σ tx n) (hN : NmM σ N) (h7 : σ.1 81 7 = nI a) (h8 : σ.1 81 8 = nI (a + l)) (hl : a + l ≤ n) (hl2 : l ≤ 32) (hpt : ∀ i, i < l → isPt (tx (a + i)) = true) (hc : N.length + 1 ≤ 8000)
    (h : ∀ τ, Fr mnF σ τ → NmM τ (nmS N (rowS tx a l)).2 → Q (nmS N (rowS tx a l)).1 τ) : OkI w d m_M_nameAt [vR 81] σ Q := by
  have hn := hT.1
  unfold nmS at h
  refine v_M_nameAt _ (by omega) ?_
  have esub : nI (a + l) - nI a = nI l := by rw [pk_sub (by omega)]; congr 1; omega
  rw [h7, h8, esub]
  refine mk_nameAt_12 hd hT hN h7 hl hl2 hpt hc N.length 0 (by omega) (fun q τ t1 t2 => ?_) (fun q => ?_)
  · have q : idxW (rowS tx a l) N 0 < 0 := q
    rw [if_pos q] at h
    exact h τ t1 t2
  · have q : ¬ idxW (rowS tx a l) N 0 < 0 := q
    rw [if_neg q] at h
    exact h σ Fr.rfl' hN
