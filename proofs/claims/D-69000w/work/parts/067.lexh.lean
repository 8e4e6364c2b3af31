/-! 067: the component's names, and the next token -/
def ptE (tx : Nat → Int32) (n : Nat) : Nat → Nat → Nat
  | 0, a => a
  | f + 1, a => if isPt (pk tx n a) = true then ptE tx n f (a + 1) else a
def rowS (tx : Nat → Int32) (a l : Nat) : List Int32 := (List.range l).map (fun i => grt (tx (a + i)))
def namS (tx : Nat → Int32) (n a : Nat) (N : List (List Int32)) : TK × List (List Int32) :=
  if 32 < ptE tx n (n + 1) a - a then ((3, 0, 0, a), N)
  else if 0 ≤ idxW (rowS tx a (ptE tx n (n + 1) a - a)) wdL 0 then ((0, 2, idxW (rowS tx a (ptE tx n (n + 1) a - a)) wdL 0, ptE tx n (n + 1) a), N)
  else ((0, 1, (nmS N (rowS tx a (ptE tx n (n + 1) a - a))).1, ptE tx n (n + 1) a), (nmS N (rowS tx a (ptE tx n (n + 1) a - a))).2)
theorem rowS_len {tx : Nat → Int32} {a l : Nat} : (rowS tx a l).length = l := by simp [rowS]
theorem rowS_at {tx : Nat → Int32} {a l i : Nat} (h : i < l) : (rowS tx a l).getD i 0 = grt (tx (a + i)) := by simp [rowS, List.getD_eq_getElem?_getD, h]
theorem nI_b8 : ∀ j, j < 128 → (nI j).toInt8.toInt32 = nI j := by decide
theorem nI_fit : ∀ j, j < 128 → fits .byte (.int (nI j)) = true := by decide
theorem isPt_m1 : isPt (-1) = false := by decide
theorem pt_small {c : Int32} (h : isPt c = true) : ∃ j, j < 128 ∧ grt c = nI j := by
  have h1 : 0 ≤ grt c ∧ grt c ≤ 127 := by
    unfold isPt isLt isDg at h
    simp only [Bool.or_eq_true, decide_eq_true_eq] at h
    unfold grt at h ⊢
    grind
  obtain ⟨j, hj, e⟩ := nI_of (x := grt c) (Int32.not_lt.mpr h1.1)
  refine ⟨j, ?_, e⟩
  have : nI j ≤ nI 127 := by rw [← e]; exact h1.2
  rw [nI_leI hj (by decide)] at this
  omega
theorem pt_lt {tx : Nat → Int32} {n i : Nat} (h : isPt (pk tx n i) = true) : i < n ∧ pk tx n i = tx i := by
  unfold pk at h ⊢
  split at h
  · rename_i q; rw [if_pos q]; exact ⟨q, rfl⟩
  · rw [isPt_m1] at h; exact absurd h (by decide)
theorem ptE_ge {tx : Nat → Int32} {n : Nat} : ∀ f a, a ≤ ptE tx n f a := by
  intro f
  induction f with
  | zero => intro a; exact Nat.le_refl _
  | succ f ih =>
    intro a
    unfold ptE
    split
    · exact Nat.le_trans (Nat.le_succ _) (ih _)
    · exact Nat.le_refl _
theorem ptE_le {tx : Nat → Int32} {n : Nat} : ∀ f a, a ≤ n → ptE tx n f a ≤ n := by
  intro f
  induction f with
  | zero => intro a h; exact h
  | succ f ih =>
    intro a h
    unfold ptE
    split
    · rename_i q; exact ih _ (pt_lt q).1
    · exact h
/-- what reading a name, or any token, may change -/
def txF (k j : Nat) : Bool := tkF k j || nmF k j || Nat.beq k 6
theorem txF_tk {k j : Nat} (h : txF k j = false) : tkF k j = false := by unfold txF at h; simp only [Bool.or_eq_false_iff] at h; exact h.1.1
theorem txF_nm {k j : Nat} (h : txF k j = false) : nmF k j = false := by unfold txF at h; simp only [Bool.or_eq_false_iff] at h; exact h.1.2
def TkN (σ τ : Sg) (r : TK) (N : List (List Int32)) : Prop := τ.1 5 8 = r.1 ∧ τ.1 5 5 = r.2.1 ∧ (r.1 = 0 → τ.1 5 7 = r.2.2.1 ∧ τ.1 5 4 = nI r.2.2.2) ∧ NmC τ N ∧ Fr txF σ τ
theorem NmC.w {σ τ : Sg} {N : List (List Int32)} {P : Nat → Nat → Bool} (h : NmC σ N) (hF : Fr P σ τ) (h2 : ∀ j, P 2 j = false) (h3 : ∀ j, P 3 j = false) (h4 : ∀ j, P 4 j = false) : NmC τ N :=
  ⟨by rw [hF.1 2 2 (h2 2)]; exact h.1, fun k hk => by rw [hF.1 4 k (h4 k)]; exact h.2.1 k hk, fun i hi => by rw [hF.1 3 i (h3 i)]; exact h.2.2.1 i hi, h.2.2.2⟩
def rwF (k j : Nat) : Bool := Nat.beq k 6 || (Nat.beq k 5 && (Nat.beq j 4 || Nat.beq j 5 || Nat.beq j 7 || Nat.beq j 8))
theorem TX.f {σ τ : Sg} {tx : Nat → Int32} {n : Nat} {P : Nat → Nat → Bool} (h : TX σ tx n) (hF : Fr P σ τ) (h1 : ∀ j, P 1 j = false) (h5 : P 5 3 = false) : TX τ tx n :=
  ⟨h.1, by rw [hF.1 5 3 h5]; exact h.2.1, fun i hi => by rw [hF.1 1 i (h1 i)]; exact h.2.2 i hi⟩
theorem tk_name_2 {w : Wd} {d : Nat} {Q : Sg → Prop} {tx : Nat → Int32} {n a : Nat} {σ : Sg} {N : List (List Int32)} (hd : 4 ≤ d) (hN : NmC σ N) (h0 : σ.1 5 8 = 0) (hc : N.length + 1 ≤ 16000) (hc2 : N.flatten.length + 32 ≤ 16000) (hT : TX σ tx n) : ∀ (f p : Nat) (τ : Sg), n + 1 ≤ p + f → a ≤ p → p ≤ n → τ.1 5 4 = nI p → Fr rwF σ τ → (∀ i, i < p - a → isPt (tx (a + i)) = true) → τ.1 5 8 = 0 → (∀ i, i < p - a → i < 32 → τ.1 6 i = grt (tx (a + i))) →
    (∀ e, e = ptE tx n f p → ∀ υ, TkN σ υ (if 32 < e - a then ((3, 0, 0, a), N) else if 0 ≤ idxW (rowS tx a (e - a)) wdL 0 then ((0, 2, idxW (rowS tx a (e - a)) wdL 0, e), N) else ((0, 1, (nmS N (rowS tx a (e - a))).1, e), (nmS N (rowS tx a (e - a))).2) : TK × List (List Int32)).1 (if 32 < e - a then ((3, 0, 0, a), N) else if 0 ≤ idxW (rowS tx a (e - a)) wdL 0 then ((0, 2, idxW (rowS tx a (e - a)) wdL 0, e), N) else ((0, 1, (nmS N (rowS tx a (e - a))).1, e), (nmS N (rowS tx a (e - a))).2) : TK × List (List Int32)).2 → Q υ) →
    Bk w d 0 0 m_Tokens_name 0 0 (qv Q) 2 [oR 5, oI (nI (p - a))] [] τ := by
  have hn := hT.1
  intro f
  induction f with
  | zero => intro p τ hf _ hp; omega
  | succ f ih =>
    intro p τ hf hap hp hat hF hpt hft hrow h
    have hTt : TX τ tx n := hT.f hF (fun _ => rfl) rfl
    have hNt : NmC τ N := hN.w hF (fun _ => rfl) (fun _ => rfl) (fun _ => rfl)
    refine v_Tokens_name_2 _ _ (tk_peek (by omega) hTt hat (k := 0) rfl (by omega) (tk_isPart (by omega) ?_))
    rw [Nat.add_zero, b2_0, Bool.not_eq_false]
    have hF2 : ∀ {υ : Sg}, Fr rwF σ υ → Fr txF σ υ := fun q => q.mono (fun k j r => by
      unfold txF tkF nmF at r; unfold rwF
      simp only [Bool.or_eq_false_iff] at r ⊢
      exact ⟨r.2, r.1.1⟩)
    refine ⟨fun h1 => ⟨fun h2 => ?_, fun h2 => tk_fail (by omega) ?_⟩, fun h1 => ?_⟩
    · have e : ptE tx n (f + 1) p = p := by rw [ptE, if_neg (by rw [h1]; decide)]
      have h32 : p - a ≤ 32 := by
        have h2 : nI (p - a) ≤ nI 32 := h2
        rw [nI_leI (by omega) (by decide)] at h2; exact h2
      have h := h p e.symm
      rw [if_neg (by omega)] at h
      have hrw : RowC τ 6 (rowS tx a (p - a)) := ⟨by rw [rowS_len]; exact h32, fun i hi => by rw [rowS_len] at hi; rw [rowS_at hi, hrow i hi (by omega)]⟩
      refine tk_word (by omega) (by rw [rowS_len]) hrw ?_
      refine ⟨fun h3 => ⟨fun _ => ?_, fun q => absurd h3 q⟩, fun h3 => ⟨fun q => absurd q h3, fun _ => ?_⟩⟩
      · rw [if_pos h3] at h
        refine h _ ⟨by simp [wI_1, hft], by simp [wI_1], fun _ => ⟨by simp [wI_1], by simp [wI_1, hat]⟩, ?_, hF2 (((hF.wI rfl).wI rfl).wI rfl)⟩
        exact hN.w (P := rwF) (((hF.wI rfl).wI rfl).wI rfl) (fun _ => rfl) (fun _ => rfl) (fun _ => rfl)
      · rw [if_neg h3] at h
        have hF3 : Fr rwF σ (wI (wI τ 5 7 (idxW (rowS tx a (p - a)) wdL 0)) 5 5 1) := (hF.wI rfl).wI rfl
        refine nm_number (N := N) (r := rowS tx a (p - a)) (by omega) (hN.w hF3 (fun _ => rfl) (fun _ => rfl) (fun _ => rfl)) ⟨by rw [rowS_len]; exact h32, fun i hi => ?_⟩ (by rw [rowS_len]) (fun i hi => ?_) hc (by rw [rowS_len]; omega) (fun υ g1 g2 => ?_)
        · rw [wI_1, if_neg (by omega), wI_1, if_neg (by omega)]; exact hrw.2 i hi
        · rw [rowS_len] at hi
          rw [rowS_at hi]
          obtain ⟨j, hj, ej⟩ := pt_small (hpt i hi)
          rw [ej]; exact nI_fit j hj
        · have gF : Fr txF σ (wI υ 5 7 (nmS N (rowS tx a (p - a))).1) := ((hF2 hF3).trans (g1.mono (fun k j q => txF_nm q))).wI rfl
          have a8 : υ.1 5 8 = 0 := by rw [g1.1 5 8 rfl]; simp [wI_1, hft]
          have a5 : υ.1 5 5 = 1 := by rw [g1.1 5 5 rfl]; simp [wI_1]
          have a4 : υ.1 5 4 = nI p := by rw [g1.1 5 4 rfl]; simp [wI_1, hat]
          refine h _ ⟨by simp [wI_1, a8], by simp [wI_1, a5], fun _ => ⟨by simp [wI_1], by simp [wI_1, a4]⟩, ?_, gF⟩
          exact g2.w (P := tkF) (Fr.rfl'.wI rfl) (fun _ => rfl) (fun _ => rfl) (fun _ => rfl)
    · have e : ptE tx n (f + 1) p = p := by rw [ptE, if_neg (by rw [h1]; decide)]
      have h32 : 32 < p - a := by
        have h2 : ¬ nI (p - a) ≤ nI 32 := h2
        rw [nI_leI (by omega) (by decide)] at h2; omega
      have h := h p e.symm
      rw [if_pos h32] at h
      refine h _ ⟨by simp [wI_1], by simp [wI_1], fun q => absurd q (show ¬ (3 : Int32) = 0 by decide), ?_, hF2 ((hF.wI rfl).wI rfl)⟩
      exact hN.w (P := rwF) ((hF.wI rfl).wI rfl) (fun _ => rfl) (fun _ => rfl) (fun _ => rfl)
    · have e : ptE tx n (f + 1) p = ptE tx n f (p + 1) := by rw [ptE, if_pos h1]
      rw [e] at h
      obtain ⟨hlt, ep⟩ := pt_lt h1
      rw [ep] at h1
      have hsp : nI (p - a) + 1 = nI (p + 1 - a) := by rw [nI_1]; congr 1; omega
      have hpt2 : ∀ i, i < p + 1 - a → isPt (tx (a + i)) = true := fun i hi => by
        by_cases q : i < p - a
        · exact hpt i q
        · have : a + i = p := by omega
          rw [this]; exact h1
      rw [hsp]
      refine ⟨fun h2 => ?_, fun h2 => tk_peek (by omega) hTt hat (k := 0) rfl (by omega) (tk_great (by omega) ⟨?_, ?_⟩)⟩
      · have h2 : nI 32 ≤ nI (p - a) := h2
        rw [nI_leI (by decide) (by omega)] at h2
        refine ih (p + 1) _ (by omega) (by omega) (by omega) (by rw [wI_1, if_pos ⟨rfl, rfl⟩, hat, nI_1]) (hF.wI rfl) hpt2 (by simp [wI_1, hft]) (fun i hi hi2 => ?_) h
        rw [wI_1, if_neg (by omega)]; exact hrow i (by omega) hi2
      · have h2 : ¬ nI 32 ≤ nI (p - a) := h2
        rw [nI_leI (by decide) (by omega)] at h2
        exact vp_in_nI (by omega) (by omega)
      · have h2 : ¬ nI 32 ≤ nI (p - a) := h2
        rw [nI_leI (by decide) (by omega)] at h2
        obtain ⟨j, hj, ej⟩ := pt_small h1
        have ep0 : pk tx n (p + 0) = tx p := ep
        rw [ep0, vp_nar_byte, ej, nI_b8 j hj, nI_b8 j hj, nI_clamp (by omega), ← ej]
        refine ih (p + 1) _ (by omega) (by omega) (by omega) (by rw [wI_1, if_pos ⟨rfl, rfl⟩, hat, nI_1]) ((hF.wI rfl).wI rfl) hpt2 (by simp [wI_1, hft]) (fun i hi hi2 => ?_) h
        rw [wI_1, if_neg (by omega), wI_1]
        split
        · rename_i q; have : a + i = p := by omega
          rw [this]
        · exact hrow i (by omega) hi2
theorem tk_name {w : Wd} {d : Nat} {Q : Sg → Prop} {tx : Nat → Int32} {n a : Nat} {σ : Sg} {N : List (List Int32)} (hd : 4 ≤ d) (hT : TX σ tx n) (hN : NmC σ N) (h0 : σ.1 5 8 = 0) (hc : N.length + 1 ≤ 16000) (hc2 : N.flatten.length + 32 ≤ 16000) (ha : σ.1 5 4 = nI a) (hal : a ≤ n)
    (h : ∀ υ, TkN σ υ (namS tx n a N).1 (namS tx n a N).2 → Q υ) : OkV w d m_Tokens_name [vR 5] σ Q := by
  have hz : (0 : Int32) = nI (a - a) := by rw [Nat.sub_self]; rfl
  refine v_Tokens_name _ (by omega) ?_
  rw [hz]
  exact tk_name_2 hd hN h0 hc hc2 hT (n + 1) a σ (by omega) (Nat.le_refl _) hal ha Fr.rfl' (fun i hi => absurd hi (by omega)) h0 (fun i hi => absurd hi (by omega)) (fun e he υ hυ => by subst he; exact h υ hυ)
/-- the next token from a place on: where it begins, what it is, the names then -/
def lexS (tx : Nat → Int32) (n a : Nat) (N : List (List Int32)) : Nat × TK × List (List Int32) :=
  if (skE tx n (n + 1) a).2 = false then ((skE tx n (n + 1) a).1, (2, 0, 0, 0), N)
  else ((skE tx n (n + 1) a).1,
    if pk tx n (skE tx n (n + 1) a).1 < 0 then ((0, 0, 0, (skE tx n (n + 1) a).1), N)
    else if grt (pk tx n (skE tx n (n + 1) a).1) = 84 ∧ pk tx n ((skE tx n (n + 1) a).1 + 1) = 35 then (timS tx n (skE tx n (n + 1) a).1, N)
    else if isLt (pk tx n (skE tx n (n + 1) a).1) = true then namS tx n (skE tx n (n + 1) a).1 N
    else if isDg (pk tx n (skE tx n (n + 1) a).1) = true then (numS tx n (skE tx n (n + 1) a).1, N)
    else if pk tx n (skE tx n (n + 1) a).1 = 37 then (plaS tx n (skE tx n (n + 1) a).1, N)
    else (sigS tx n (skE tx n (n + 1) a).1, N))
