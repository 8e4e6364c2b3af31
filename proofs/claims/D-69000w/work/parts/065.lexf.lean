/-! 065: words in a row of words, each with a blank behind it -/
def flat : List (List Int32) → List Int32
  | [] => []
  | w :: ws => w ++ 32 :: flat ws
def spW : List Int32 → List Int32 → List (List Int32)
  | [], _ => []
  | c :: cs, cur => if c = 32 then cur.reverse :: spW cs [] else spW cs (c :: cur)
/-- which word it is; -1 for none -/
def idxW (r : List Int32) : List (List Int32) → Nat → Int32
  | [], _ => -1
  | w :: ws, k => if w = r then nI k else idxW r ws (k + 1)
def noB (ws : List (List Int32)) : Bool := ws.all (fun w => w.all (fun c => decide (c ≠ 32)))
theorem fl_at1 {pre w rest : List Int32} {i : Nat} (h : i < w.length) : (pre ++ (w ++ 32 :: rest)).getD (pre.length + i) 0 = w.getD i 0 := by
  simp [List.getD_eq_getElem?_getD, List.getElem?_append_right, List.getElem?_append_left, h]
theorem fl_at2 {pre w rest : List Int32} : (pre ++ (w ++ 32 :: rest)).getD (pre.length + w.length) 0 = 32 := by
  simp [List.getD_eq_getElem?_getD, List.getElem?_append_right]
theorem noB_at {w : List Int32} (h : w.all (fun c => decide (c ≠ 32)) = true) {i : Nat} (hi : i < w.length) : w.getD i 0 ≠ 32 := by
  have := List.all_eq_true.mp h (w.getD i 0) (by rw [List.getD_eq_getElem?_getD, List.getElem?_eq_getElem hi]; exact List.getElem_mem hi)
  exact of_decide_eq_true this
def wdA : List Int32 := match extT[0]? with | some x => x.2.2.2 | none => []
def wdL : List (List Int32) := spW wdA []
theorem rd_words {σ : Sg} {k : Nat} : rdI σ 1000 k = wdA.getD k 0 := rfl
theorem wdL_flat : flat wdL = wdA := by decide +kernel
theorem wdL_len : wdA.length = 270 := by decide +kernel
theorem wdL_noB : noB wdL = true := by decide +kernel
/-- the row that a name was read to -/
def RowC (σ : Sg) (k : Nat) (r : List Int32) : Prop := r.length ≤ 32 ∧ ∀ i, i < r.length → σ.1 k i = r.getD i 0
theorem tk_word_79 {w : Wd} {d : Nat} {Q : Int32 → Sg → Prop} {σ : Sg} {x1 x2 : Int32} {pre wo rest : List Int32} (hA : pre ++ (wo ++ 32 :: rest) = wdA) (hb : wo.all (fun c => decide (c ≠ 32)) = true)
    (h : Bk w d 0 0 m_Tokens_word 0 0 (qi Q) 4 [oR 5, oI x1, oI (x2 + 1), oI (nI (pre.length + wo.length + 1)), none] [] σ) : ∀ (f i : Nat), i + f = wo.length → Bk w d 0 0 m_Tokens_word 0 0 (qi Q) 79 [oR 5, oI x1, oI x2, oI (nI (pre.length + i)), none] [] σ := by
  have hl : pre.length + (wo.length + (rest.length + 1)) = 270 := by rw [← wdL_len, ← hA]; simp
  intro f
  induction f with
  | zero =>
    intro i hi
    have hi : i = wo.length := by omega
    subst hi
    refine v_Tokens_word_79 _ _ _ _ ⟨vp_in_nI (by omega) (by omega), ?_⟩
    rw [nI_clamp (by omega), rd_words, ← hA, fl_at2, nI_1]
    exact ⟨fun _ => h, fun q => absurd rfl q⟩
  | succ f ih =>
    intro i hi
    refine v_Tokens_word_79 _ _ _ _ ⟨vp_in_nI (by omega) (by omega), ?_⟩
    rw [nI_clamp (by omega), rd_words, ← hA, fl_at1 (by omega), nI_1]
    exact ⟨fun q => absurd q (noB_at hb (by omega)), fun _ => ih (i + 1) (by omega)⟩
theorem tk_word_15 {w : Wd} {d : Nat} {Q : Int32 → Sg → Prop} {σ : Sg} {x2 : Int32} {pre wo rest r : List Int32} (hA : pre ++ (wo ++ 32 :: rest) = wdA) (hb : wo.all (fun c => decide (c ≠ 32)) = true) (hr : RowC σ 6 r)
    (h1 : wo = r → Q x2 σ)
    (h2 : wo ≠ r → Bk w d 0 0 m_Tokens_word 0 0 (qi Q) 4 [oR 5, oI (nI r.length), oI (x2 + 1), oI (nI (pre.length + wo.length + 1)), none] [] σ) : ∀ (f i : Nat), i + f = wo.length → i ≤ r.length → wo.take i = r.take i →
    Bk w d 0 0 m_Tokens_word 0 0 (qi Q) 15 [oR 5, oI (nI r.length), oI x2, oI (nI pre.length), oI (nI i)] [] σ := by
  have hl : pre.length + (wo.length + (rest.length + 1)) = 270 := by rw [← wdL_len, ← hA]; simp
  have hr1 := hr.1
  have go : wo ≠ r → Bk w d 0 0 m_Tokens_word 0 0 (qi Q) 79 [oR 5, oI (nI r.length), oI x2, oI (nI pre.length), none] [] σ := fun q => tk_word_79 hA hb (h2 q) wo.length 0 (by omega)
  intro f
  induction f with
  | zero =>
    intro i hi hir ht
    have hi : i = wo.length := by omega
    subst hi
    refine v_Tokens_word_15 _ _ _ _ _ ?_
    rw [nI_add, nI_clamp (by omega), rd_words, ← hA, fl_at2, nI_eq (by omega) (by omega)]
    refine ⟨vp_in_nI (by omega) (by omega), fun _ => ⟨fun q => go (fun e => q (by rw [e])), fun q => ⟨vp_in_nI (by omega) (by omega), fun e => absurd rfl e, fun _ => h1 ?_⟩⟩, fun q => absurd rfl q⟩
    rw [List.take_of_length_le (Nat.le_refl _), List.take_of_length_le (by omega)] at ht
    exact ht
  | succ f ih =>
    intro i hi hir ht
    have hne := noB_at hb (i := i) (by omega)
    refine v_Tokens_word_15 _ _ _ _ _ ?_
    rw [nI_add, nI_clamp (n := pre.length + i) (by omega), nI_clamp (n := i) (by omega), rd_words, ← hA, fl_at1 (by omega), nI_eq (by omega) (by omega), nI_leI (by omega) (by omega), nI_1]
    have neL : i = r.length → wo ≠ r := fun q e => by rw [e] at hi; omega
    refine ⟨vp_in_nI (by omega) (by omega), fun q => absurd q hne, fun _ => ⟨fun q => ⟨fun e => absurd (by omega) e, fun e => ⟨vp_in_nI (by omega) (by omega), fun _ => go (neL e), fun q2 => absurd q2 hne⟩⟩, fun q => ⟨vp_in_nI (by omega) (by omega), vp_in_nI (by omega) (by omega), fun q2 => ⟨fun _ => go ?_, fun e => absurd e (by omega)⟩, fun q2 => ih (i + 1) (by omega) (by omega) ?_⟩⟩⟩
    · intro e
      rw [hr.2 i (by omega), e] at q2
      exact q2 rfl
    · rw [hr.2 i (by omega)] at q2
      rw [List.take_succ, List.take_succ, ht]
      congr 1
      rw [List.getD_eq_getElem?_getD, List.getD_eq_getElem?_getD, List.getElem?_eq_getElem (by omega), List.getElem?_eq_getElem (by omega)] at q2
      rw [List.getElem?_eq_getElem (by omega), List.getElem?_eq_getElem (by omega)]
      simp only [Option.getD_some] at q2
      rw [q2]
theorem tk_word_4 {w : Wd} {d : Nat} {Q : Int32 → Sg → Prop} {σ : Sg} {r : List Int32} (hr : RowC σ 6 r) : ∀ (ws : List (List Int32)) (pre : List Int32) (k : Nat), pre ++ flat ws = wdA → noB ws = true → Q (idxW r ws k) σ →
    Bk w d 0 0 m_Tokens_word 0 0 (qi Q) 4 [oR 5, oI (nI r.length), oI (nI k), oI (nI pre.length), none] [] σ := by
  intro ws
  induction ws with
  | nil =>
    intro pre k hA hb h
    have hl : pre.length = 270 := by rw [← wdL_len, ← hA]; simp [flat]
    rw [hl]
    exact v_Tokens_word_4 _ _ _ _ ⟨fun _ => h, fun q => absurd (by decide) q⟩
  | cons wo ws ih =>
    intro pre k hA hb h
    have hA2 : pre ++ (wo ++ 32 :: flat ws) = wdA := hA
    have hl : pre.length + (wo.length + ((flat ws).length + 1)) = 270 := by rw [← wdL_len, ← hA2]; simp
    have hb2 : wo.all (fun c => decide (c ≠ 32)) = true ∧ noB ws = true := by
      unfold noB at hb ⊢
      rw [List.all_cons, Bool.and_eq_true] at hb
      exact hb
    refine v_Tokens_word_4 _ _ _ _ ⟨fun q => ?_, fun _ => tk_word_15 hA2 hb2.1 hr (fun e => ?_) (fun e => ?_) wo.length 0 (by omega) (by omega) rfl⟩
    · have q : nI 270 ≤ nI pre.length := q
      rw [nI_leI (by decide) (by omega)] at q
      omega
    · rw [idxW, if_pos e] at h; exact h
    · rw [idxW, if_neg e] at h
      have := ih (pre ++ (wo ++ [32])) (k + 1) (by rw [← hA2]; simp) hb2.2 h
      have e2 : (pre ++ (wo ++ [32])).length = pre.length + wo.length + 1 := by simp; omega
      rw [e2] at this
      rw [nI_1]
      exact this
theorem tk_word {w : Wd} {d : Nat} {Q : Int32 → Sg → Prop} {σ : Sg} {r : List Int32} {x : Int32} (hd : 1 ≤ d) (hx : x = nI r.length) (hr : RowC σ 6 r) (h : Q (idxW r wdL 0) σ) : OkI w d m_Tokens_word [vR 5, vI x] σ Q := by
  subst hx
  exact v_Tokens_word _ _ hd (tk_word_4 hr wdL [] 0 (by rw [List.nil_append]; exact wdL_flat) wdL_noB h)
