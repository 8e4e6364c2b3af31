/-! 060: memory, and the tokens of the component (leaves) -/
theorem wI_1 {σ : Sg} {k j : Nat} {v : Int32} {a b : Nat} : (wI σ k j v).1 a b = if a = k ∧ b = j then v else σ.1 a b := up2_at
theorem wI_2 {σ : Sg} {k j : Nat} {v : Int32} : (wI σ k j v).2 = σ.2 := rfl
theorem wL_1 {σ : Sg} {k j : Nat} {v : Int64} : (wL σ k j v).1 = σ.1 := rfl
theorem wL_21 {σ : Sg} {k j : Nat} {v : Int64} {a b : Nat} : (wL σ k j v).2.1 a b = if a = k ∧ b = j then v else σ.2.1 a b := up2_at
theorem wL_22 {σ : Sg} {k j : Nat} {v : Int64} : (wL σ k j v).2.2 = σ.2.2 := rfl
theorem sg_ext {σ τ : Sg} (h1 : ∀ a b, σ.1 a b = τ.1 a b) (h2 : σ.2 = τ.2) : σ = τ := Prod.ext (funext fun a => funext fun b => h1 a b) h2
theorem wI_wI {σ : Sg} {k j : Nat} {u v : Int32} : wI (wI σ k j u) k j v = wI σ k j v := by
  refine sg_ext (fun a b => ?_) rfl
  simp only [wI_1]
  split <;> rfl
theorem wI_self {σ : Sg} {k j : Nat} {v : Int32} (h : σ.1 k j = v) : wI σ k j v = σ := by
  refine sg_ext (fun a b => ?_) rfl
  simp only [wI_1]
  split
  · rename_i q; rw [q.1, q.2, h]
  · rfl
theorem wI_comm {σ : Sg} {k j k' j' : Nat} {u v : Int32} (h : ¬ (k = k' ∧ j = j')) : wI (wI σ k j u) k' j' v = wI (wI σ k' j' v) k j u := by
  refine sg_ext (fun a b => ?_) rfl
  simp only [wI_1]
  grind
theorem nI_a2 (a : Nat) : nI a + 2 = nI (a + 2) := nI_add a 2
theorem nI_a3 (a : Nat) : nI a + 3 = nI (a + 3) := nI_add a 3
/-- letters in great ones -/
def grt (c : Int32) : Int32 := if c < 97 then c else if 122 < c then c else c - 32
def isDg (c : Int32) : Bool := decide (48 ≤ c ∧ c ≤ 57)
def isLt (c : Int32) : Bool := decide (65 ≤ grt c ∧ grt c ≤ 90) || decide (c = 95)
def isPt (c : Int32) : Bool := isLt c || isDg c
def b2 (b : Bool) : Int32 := if b then 1 else 0
theorem tk_great {w : Wd} {d : Nat} {σ : Sg} {x : Int32} {Q : Int32 → Sg → Prop} (hd : 1 ≤ d) (h : Q (grt x) σ) : OkI w d m_Tokens_great [vI x] σ Q := by
  refine v_Tokens_great _ _ hd ?_
  unfold grt at h
  grind
theorem tk_isDigit {w : Wd} {d : Nat} {σ : Sg} {x : Int32} {Q : Int32 → Sg → Prop} (hd : 1 ≤ d) (h : Q (b2 (isDg x)) σ) : OkI w d m_Tokens_isDigit [vI x] σ Q := by
  refine v_Tokens_isDigit _ _ hd ?_
  unfold isDg b2 at h
  grind
theorem tk_isLetter {w : Wd} {d : Nat} {σ : Sg} {x : Int32} {Q : Int32 → Sg → Prop} (hd : 2 ≤ d) (h : Q (b2 (isLt x)) σ) : OkI w d m_Tokens_isLetter [vI x] σ Q := by
  refine v_Tokens_isLetter _ _ (by omega) (tk_great (by omega) ?_)
  refine ⟨fun h1 => ?_, fun h1 => tk_great (by omega) ?_⟩
  · unfold isLt b2 at h; grind
  · unfold isLt b2 at h; grind
theorem tk_isPart {w : Wd} {d : Nat} {σ : Sg} {x : Int32} {Q : Int32 → Sg → Prop} (hd : 3 ≤ d) (h : Q (b2 (isPt x)) σ) : OkI w d m_Tokens_isPart [vI x] σ Q := by
  refine v_Tokens_isPart _ _ (by omega) (tk_isLetter (by omega) ?_)
  unfold isPt at h
  refine ⟨fun h1 => ?_, fun h1 => tk_isDigit (by omega) ?_⟩
  · unfold b2 at h h1; grind
  · unfold b2 at h h1 ⊢; grind
def dgt (c : Int32) : Int32 := if isDg c then c - 48 else if 65 ≤ grt c ∧ grt c ≤ 70 then grt c - 65 + 10 else 99
theorem tk_digit {w : Wd} {d : Nat} {σ : Sg} {x : Int32} {Q : Int32 → Sg → Prop} (hd : 2 ≤ d) (h : Q (dgt x) σ) : OkI w d m_Tokens_digit [vI x] σ Q := by
  refine v_Tokens_digit _ _ (by omega) (tk_isDigit (by omega) ?_)
  unfold dgt at h
  refine ⟨fun h1 => tk_great (by omega) ⟨fun h2 => ?_, fun h2 => tk_great (by omega) ⟨fun h3 => ?_, fun h3 => tk_great (by omega) ?_⟩⟩, fun h1 => ?_⟩
  all_goals (unfold b2 at h1; grind)
theorem tk_fail {w : Wd} {d : Nat} {σ : Sg} {x : Int32} {Q : Sg → Prop} (hd : 1 ≤ d) (h : Q (wI (wI σ 5 8 x) 5 5 0)) : OkV w d m_Tokens_fail [vR 5, vI x] σ Q := v_Tokens_fail _ _ hd h
/-- the text that is read: tx below n -/
def TX (σ : Sg) (tx : Nat → Int32) (n : Nat) : Prop := n ≤ 16384 ∧ σ.1 5 3 = nI n ∧ ∀ i, i < n → σ.1 1 i &&& 255 = tx i
def pk (tx : Nat → Int32) (n i : Nat) : Int32 := if i < n then tx i else -1
theorem TX.w5 {σ : Sg} {tx : Nat → Int32} {n j : Nat} {v : Int32} (h : TX σ tx n) (hj : j ≠ 3) : TX (wI σ 5 j v) tx n := by
  refine ⟨h.1, ?_, fun i hi => ?_⟩
  · rw [wI_1, if_neg (by omega)]; exact h.2.1
  · rw [wI_1, if_neg (by omega)]; exact h.2.2 i hi
theorem tk_peek {w : Wd} {d : Nat} {σ : Sg} {x : Int32} {Q : Int32 → Sg → Prop} {tx : Nat → Int32} {n a k : Nat} (hd : 1 ≤ d) (hT : TX σ tx n) (ha : σ.1 5 4 = nI a) (hx : x = nI k) (hb : a + k < 2 ^ 30) (h : Q (pk tx n (a + k)) σ) : OkI w d m_Tokens_peek [vR 5, vI x] σ Q := by
  refine v_Tokens_peek _ _ hd ?_
  have hn := hT.1
  rw [hT.2.1, ha, hx, nI_add, nI_leI (by omega) (by omega), nI_clamp (by omega)]
  unfold pk at h
  refine ⟨fun h1 => ?_, fun h1 => ⟨vp_in_nI (by omega) (by omega), ?_⟩⟩
  · rw [if_neg (by omega)] at h; exact h
  · rw [if_pos (by omega)] at h; rw [hT.2.2 _ (by omega)]; exact h
/-- where a remark ends: the place of its last sign, or the end -/
def rmE (tx : Nat → Int32) (n : Nat) : Nat → Nat → Nat
  | 0, a => a
  | f + 1, a => if n ≤ a then a else if tx a = 42 ∧ pk tx n (a + 1) = 41 then a else rmE tx n f (a + 1)
theorem rmE_le {tx : Nat → Int32} {n : Nat} : ∀ f a, a ≤ n + 3 → rmE tx n f a ≤ n + 3 := by
  intro f
  induction f with
  | zero => intro a h; exact h
  | succ f ih =>
    intro a h
    unfold rmE
    split
    · exact h
    · split
      · exact h
      · exact ih (a + 1) (by omega)
theorem tk_remark_18 {w : Wd} {d : Nat} {Q : Sg → Prop} {tx : Nat → Int32} {n : Nat} (hd : 2 ≤ d) : ∀ (f a : Nat) (σ : Sg), n + 3 ≤ a + f → TX σ tx n → σ.1 5 4 = nI a → a ≤ n + 3 →
    (let e := rmE tx n f a; if e < n then Q (wI σ 5 4 (nI (e + 2))) else Q (wI (wI (wI σ 5 4 (nI e)) 5 8 2) 5 5 0)) → Bk w d 0 0 m_Tokens_remark 0 0 (qv Q) 18 [oR 5] [] σ := by
  intro f
  induction f with
  | zero =>
    intro a σ hf hT ha hal h
    have hn := hT.1
    have ha2 : a = n + 3 := by omega
    refine v_Tokens_remark_18 _ ?_
    rw [hT.2.1, ha, nI_leI (by omega) (by omega)]
    refine ⟨fun h1 => ⟨fun h2 => tk_fail (by omega) ?_, fun h2 => absurd h1 h2⟩, fun h1 => absurd (by omega) h1⟩
    have h : (if a < n then Q (wI σ 5 4 (nI (a + 2))) else Q (wI (wI (wI σ 5 4 (nI a)) 5 8 2) 5 5 0)) := h
    rw [if_neg (by omega), wI_self ha] at h
    exact h
  | succ f ih =>
    intro a σ hf hT ha hal h
    have hn := hT.1
    refine v_Tokens_remark_18 _ ?_
    rw [hT.2.1, ha, nI_leI (by omega) (by omega), nI_a2]
    refine ⟨fun h1 => ⟨fun h2 => tk_fail (by omega) ?_, fun h2 => absurd h1 h2⟩, fun h1 => tk_peek (by omega) hT ha (k := 0) rfl (by omega) ?_⟩
    · have e0 : rmE tx n (f + 1) a = a := by rw [rmE, if_pos h1]
      rw [e0] at h
      have h : (if a < n then Q (wI σ 5 4 (nI (a + 2))) else Q (wI (wI (wI σ 5 4 (nI a)) 5 8 2) 5 5 0)) := h
      rw [if_neg (by omega), wI_self ha] at h
      exact h
    · have e1 : pk tx n (a + 0) = tx a := by unfold pk; rw [if_pos (by omega)]; rfl
      rw [e1]
      have go : ¬ (tx a = 42 ∧ pk tx n (a + 1) = 41) → Bk w d 0 0 m_Tokens_remark 0 0 (qv Q) 18 [oR 5] [] (wI σ 5 4 (σ.1 5 4 + 1)) := by
        intro h2
        have e0 : rmE tx n (f + 1) a = rmE tx n f (a + 1) := by rw [rmE, if_neg h1, if_neg h2]
        rw [e0] at h
        refine ih (a + 1) _ (by omega) (hT.w5 (by decide)) (by rw [wI_1, if_pos ⟨rfl, rfl⟩, ha, nI_1]) (by omega) ?_
        simp only [wI_wI]
        exact h
      refine ⟨fun h2 => ?_, fun h2 => tk_peek (by omega) hT ha (k := 1) rfl (by omega) ⟨fun h3 => ?_, fun h3 => ?_⟩⟩
      · exact go (fun q => h2 q.1)
      · have e0 : rmE tx n (f + 1) a = a := by rw [rmE, if_neg h1, if_pos ⟨h2, h3⟩]
        rw [e0] at h
        have h : (if a < n then Q (wI σ 5 4 (nI (a + 2))) else Q (wI (wI (wI σ 5 4 (nI a)) 5 8 2) 5 5 0)) := h
        rw [if_pos (by omega)] at h
        rw [hT.2.1, ha, nI_leI (by omega) (by omega), nI_a2]
        refine ⟨fun h4 => absurd h4 h1, fun h4 => ?_⟩
        exact h
      · exact go (fun q => h3 q.2)
theorem tk_remark {w : Wd} {d : Nat} {Q : Sg → Prop} {tx : Nat → Int32} {n a : Nat} {σ : Sg} (hd : 2 ≤ d) (hT : TX σ tx n) (ha : σ.1 5 4 = nI a) (hal : a ≤ n + 1)
    (h : let e := rmE tx n (n + 3) (a + 2); if e < n then Q (wI (wI σ 5 6 (nI a)) 5 4 (nI (e + 2))) else Q (wI (wI (wI (wI σ 5 6 (nI a)) 5 4 (nI e)) 5 8 2) 5 5 0)) : OkV w d m_Tokens_remark [vR 5] σ Q := by
  have hn := hT.1
  refine v_Tokens_remark _ (by omega) ?_
  rw [ha, nI_a2]
  refine tk_remark_18 (n := n) (tx := tx) hd (n + 3) (a + 2) _ (by omega) ((hT.w5 (by decide)).w5 (by decide)) (by rw [wI_1, if_pos ⟨rfl, rfl⟩]) (by omega) ?_
  simp only [wI_wI]
  exact h
/-- blanks and remarks gone over: the place behind them, or that of a remark that is open (false) -/
def skE (tx : Nat → Int32) (n : Nat) : Nat → Nat → Nat × Bool
  | 0, a => (a, true)
  | f + 1, a => if pk tx n a = 32 ∨ pk tx n a = 9 ∨ pk tx n a = 10 ∨ pk tx n a = 13 then skE tx n f (a + 1)
    else if pk tx n a = 40 ∧ pk tx n (a + 1) = 42 then (if rmE tx n (n + 3) (a + 2) < n then skE tx n f (rmE tx n (n + 3) (a + 2) + 2) else (a, false))
    else (a, true)
theorem rmE_ge {tx : Nat → Int32} {n : Nat} : ∀ f a, a ≤ rmE tx n f a := by
  intro f
  induction f with
  | zero => intro a; exact Nat.le_refl _
  | succ f ih =>
    intro a
    unfold rmE
    split
    · exact Nat.le_refl _
    · split
      · exact Nat.le_refl _
      · exact Nat.le_trans (Nat.le_succ _) (ih (a + 1))
theorem rmE_hit {tx : Nat → Int32} {n : Nat} : ∀ f a, n ≤ a + f → rmE tx n f a < n → pk tx n (rmE tx n f a + 1) = 41 := by
  intro f
  induction f with
  | zero => intro a h1 h2; unfold rmE at h2; omega
  | succ f ih =>
    intro a h1 h2
    unfold rmE at h2 ⊢
    split at h2
    · omega
    · split at h2
      · rename_i h3 h4; rw [if_neg h3, if_pos h4]; exact h4.2
      · rename_i h3 h4; rw [if_neg h3, if_neg h4]; exact ih (a + 1) (by omega) h2
theorem lx_pk_lt {tx : Nat → Int32} {n i : Nat} {c : Int32} (h : pk tx n i = c) (hc : c ≠ -1) : i < n := by
  unfold pk at h
  split at h
  · assumption
  · exact absurd h.symm hc
theorem tk_skip_2 {w : Wd} {d : Nat} {Q : Sg → Prop} {tx : Nat → Int32} {n : Nat} (hd : 3 ≤ d) : ∀ (f a : Nat) (σ : Sg), n + 1 ≤ a + f → TX σ tx n → σ.1 5 4 = nI a → a ≤ n → σ.1 5 8 = 0 →
    (∀ fr x, if (skE tx n f a).2 then Q (wI (wI σ 5 6 fr) 5 4 (nI (skE tx n f a).1)) else Q (wI (wI (wI (wI σ 5 6 (nI (skE tx n f a).1)) 5 4 x) 5 8 2) 5 5 0)) → Bk w d 0 0 m_Tokens_skip 0 0 (qv Q) 2 [oR 5, oI 1, none] [] σ := by
  intro f
  induction f with
  | zero => intro a σ hf hT ha hal h0 h; omega
  | succ f ih =>
    intro a σ hf hT ha hal h0 h
    have hn := hT.1
    refine v_Tokens_skip_2 _ _ ⟨fun h1 => absurd h1 (by decide), fun h1 => ⟨fun h2 => absurd h0 h2, fun h2 => tk_peek (by omega) hT ha (k := 0) rfl (by omega) ?_⟩⟩
    rw [Nat.add_zero]
    have go1 : (pk tx n a = 32 ∨ pk tx n a = 9 ∨ pk tx n a = 10 ∨ pk tx n a = 13) → Bk w d 0 0 m_Tokens_skip 0 0 (qv Q) 2 [oR 5, oI 1, none] [] (wI σ 5 4 (σ.1 5 4 + 1)) := by
      intro hc
      have hlt : a < n := by rcases hc with q | q | q | q <;> exact lx_pk_lt q (by decide)
      have e : skE tx n (f + 1) a = skE tx n f (a + 1) := by rw [skE, if_pos hc]
      rw [e] at h
      refine ih (a + 1) _ (by omega) (hT.w5 (by decide)) (by rw [wI_1, if_pos ⟨rfl, rfl⟩, ha, nI_1]) (by omega) (by rw [wI_1, if_neg (by omega)]; exact h0) (fun fr x => ?_)
      have := h fr x
      split at this
      · rename_i hb; rw [if_pos hb, wI_comm (k' := 5) (j' := 6) (by omega), wI_wI]; exact this
      · rename_i hb; rw [if_neg hb, wI_comm (k' := 5) (j' := 6) (by omega), wI_wI]; exact this
    have stop : skE tx n (f + 1) a = (a, true) → ∀ Y : Prop, (Q σ → Y) → Y := by
      intro e Y hY
      have := h (σ.1 5 6) 0
      rw [e, if_pos rfl, wI_self rfl, wI_self ha] at this
      exact hY this
    have go0 : skE tx n (f + 1) a = (a, true) → Bk w d 0 0 m_Tokens_skip 0 0 (qv Q) 2 [oR 5, oI 0, none] [] σ := by
      intro e
      refine v_Tokens_skip_2 _ _ ⟨fun _ => stop e _ id, fun q => absurd rfl q⟩
    refine ⟨fun c1 => go1 (Or.inl c1), fun c1 => ⟨fun c2 => go1 (Or.inr (Or.inl c2)), fun c2 => ⟨fun c3 => go1 (Or.inr (Or.inr (Or.inl c3))), fun c3 => ⟨fun c4 => ?_, fun c4 => go1 (Or.inr (Or.inr (Or.inr c4)))⟩⟩⟩⟩
    have hnb : ¬ (pk tx n a = 32 ∨ pk tx n a = 9 ∨ pk tx n a = 10 ∨ pk tx n a = 13) := by grind
    refine ⟨fun c5 => go0 (by rw [skE, if_neg hnb, if_neg (fun q => c5 q.1)]), fun c5 => tk_peek (by omega) hT ha (k := 1) rfl (by omega) ⟨fun c6 => go0 (by rw [skE, if_neg hnb, if_neg (fun q => c6 q.2)]), fun c6 => tk_remark (by omega) hT ha (by omega) ?_⟩⟩
    have hlt : a < n := lx_pk_lt c5 (by decide)
    have hge := rmE_ge (tx := tx) (n := n) (n + 3) (a + 2)
    dsimp only
    by_cases he : rmE tx n (n + 3) (a + 2) < n
    · rw [if_pos he]
      have h41 := rmE_hit (tx := tx) (n := n) (n + 3) (a + 2) (by omega) he
      have hlt2 : rmE tx n (n + 3) (a + 2) + 1 < n := lx_pk_lt h41 (by decide)
      have e : skE tx n (f + 1) a = skE tx n f (rmE tx n (n + 3) (a + 2) + 2) := by rw [skE, if_neg hnb, if_pos ⟨c5, c6⟩, if_pos he]
      rw [e] at h
      refine ih (rmE tx n (n + 3) (a + 2) + 2) _ (by omega) ((hT.w5 (by decide)).w5 (by decide)) (by rw [wI_1, if_pos ⟨rfl, rfl⟩]) (by omega) (by rw [wI_1, if_neg (by omega), wI_1, if_neg (by omega)]; exact h0) (fun fr x => ?_)
      have := h fr x
      split at this
      · rename_i hb; rw [if_pos hb, wI_comm (k := 5) (j := 4) (k' := 5) (j' := 6) (by omega), wI_wI, wI_wI]; exact this
      · rename_i hb; rw [if_neg hb, wI_comm (k := 5) (j := 4) (k' := 5) (j' := 6) (by omega), wI_wI, wI_wI]; exact this
    · rw [if_neg he]
      have e : skE tx n (f + 1) a = (a, false) := by rw [skE, if_neg hnb, if_pos ⟨c5, c6⟩, if_neg he]
      have := h 0 (nI (rmE tx n (n + 3) (a + 2)))
      rw [e] at this
      refine v_Tokens_skip_2 _ _ ⟨fun q => absurd q (by decide), fun _ => ⟨fun _ => this, fun q => ?_⟩⟩
      rw [wI_1, if_neg (by omega), wI_1, if_pos ⟨rfl, rfl⟩] at q
      exact absurd q (by decide)
theorem tk_skip {w : Wd} {d : Nat} {Q : Sg → Prop} {tx : Nat → Int32} {n a : Nat} {σ : Sg} (hd : 3 ≤ d) (hT : TX σ tx n) (ha : σ.1 5 4 = nI a) (hal : a ≤ n) (h0 : σ.1 5 8 = 0)
    (h : ∀ fr x, if (skE tx n (n + 1) a).2 then Q (wI (wI σ 5 6 fr) 5 4 (nI (skE tx n (n + 1) a).1)) else Q (wI (wI (wI (wI σ 5 6 (nI (skE tx n (n + 1) a).1)) 5 4 x) 5 8 2) 5 5 0)) : OkV w d m_Tokens_skip [vR 5] σ Q :=
  v_Tokens_skip _ (by omega) (tk_skip_2 hd (n + 1) a σ (by omega) hT ha hal h0 h)
