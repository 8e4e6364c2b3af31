/-! 062: what a token is (the rule for both sides), and the component's numbers, times, places, signs -/
/-- memory is the same but for some places -/
def Fr (P : Nat → Nat → Bool) (σ τ : Sg) : Prop := (∀ k j, P k j = false → τ.1 k j = σ.1 k j) ∧ τ.2 = σ.2
theorem Fr.rfl' {P : Nat → Nat → Bool} {σ : Sg} : Fr P σ σ := ⟨fun _ _ _ => rfl, rfl⟩
theorem Fr.wI {P : Nat → Nat → Bool} {σ τ : Sg} {k j : Nat} {v : Int32} (h : Fr P σ τ) (hk : P k j = true) : Fr P σ (wI τ k j v) := by
  refine ⟨fun a b hab => ?_, h.2⟩
  rw [wI_1, if_neg]
  · exact h.1 a b hab
  · rintro ⟨e1, e2⟩; rw [e1, e2, hk] at hab; exact absurd hab (by decide)
theorem Fr.trans {P : Nat → Nat → Bool} {σ τ υ : Sg} (h : Fr P σ τ) (h2 : Fr P τ υ) : Fr P σ υ := ⟨fun k j q => (h2.1 k j q).trans (h.1 k j q), h2.2.trans h.2⟩
theorem Fr.mono {P P' : Nat → Nat → Bool} {σ τ : Sg} (h : Fr P σ τ) (hp : ∀ k j, P' k j = false → P k j = false) : Fr P' σ τ := ⟨fun k j q => h.1 k j (hp k j q), h.2⟩
/-- fault, kind, value, the place behind -/
abbrev TK : Type := Int32 × Int32 × Int32 × Nat
def tkF (k j : Nat) : Bool := Nat.beq k 5 && (Nat.beq j 4 || Nat.beq j 5 || Nat.beq j 7 || Nat.beq j 8)
def TkP (σ τ : Sg) (r : TK) : Prop := τ.1 5 8 = r.1 ∧ τ.1 5 5 = r.2.1 ∧ (r.1 = 0 → τ.1 5 7 = r.2.2.1 ∧ τ.1 5 4 = nI r.2.2.2) ∧ Fr tkF σ τ
def takeS (tx : Nat → Int32) (n : Nat) (ok : Bool) (v e : Nat) : TK := if ok = false ∨ 2147483647 < v ∨ isPt (pk tx n e) = true then (4, 0, 0, e) else (0, 3, nI v, e)
def numS (tx : Nat → Int32) (n a : Nat) : TK :=
  if pk tx n (dgN tx n 10 (n + 1) a 0).2 = 35 then
    (if (dgN tx n 10 (n + 1) a 0).1 = 16 then takeS tx n (decide ((dgN tx n 16 (n + 1) ((dgN tx n 10 (n + 1) a 0).2 + 1) 0).2 ≠ (dgN tx n 10 (n + 1) a 0).2 + 1)) (dgN tx n 16 (n + 1) ((dgN tx n 10 (n + 1) a 0).2 + 1) 0).1 (dgN tx n 16 (n + 1) ((dgN tx n 10 (n + 1) a 0).2 + 1) 0).2
     else if (dgN tx n 10 (n + 1) a 0).1 = 2 then takeS tx n (decide ((dgN tx n 2 (n + 1) ((dgN tx n 10 (n + 1) a 0).2 + 1) 0).2 ≠ (dgN tx n 10 (n + 1) a 0).2 + 1)) (dgN tx n 2 (n + 1) ((dgN tx n 10 (n + 1) a 0).2 + 1) 0).1 (dgN tx n 2 (n + 1) ((dgN tx n 10 (n + 1) a 0).2 + 1) 0).2
     else (4, 0, 0, a))
  else takeS tx n (decide ((dgN tx n 10 (n + 1) a 0).2 ≠ a)) (dgN tx n 10 (n + 1) a 0).1 (dgN tx n 10 (n + 1) a 0).2
theorem dgN_le {tx : Nat → Int32} {n b : Nat} (hb : b ≤ 16) : ∀ f a v, a ≤ n → (dgN tx n b f a v).2 ≤ n := by
  intro f
  induction f with
  | zero => intro a v h; exact h
  | succ f ih =>
    intro a v h
    unfold dgN
    split
    · rename_i hc; exact ih _ _ (dgt_lt hb hc).1
    · exact h
theorem dgN_0 {tx : Nat → Int32} {n b f a : Nat} (h : (dgN tx n b f a 0).2 = a) : (dgN tx n b f a 0).1 = 0 := by
  cases f with
  | zero => rfl
  | succ f =>
    unfold dgN at h ⊢
    split
    · rename_i hc
      rw [if_pos hc] at h
      have := dgN_ge (tx := tx) (n := n) (b := b) f (a + 1) (0 * b + (dgt (pk tx n a)).toNatClampNeg)
      omega
    · rfl
theorem dgL_lt {a v e : Nat} : dgL a v e < 0 ↔ e = a := by
  unfold dgL
  split
  · rename_i h; exact ⟨fun _ => h, fun _ => by decide⟩
  · rename_i h
    have e0 : (0 : Int64) = lN 0 := rfl
    rw [e0, lN_ltI (by omega) (by decide)]
    omega
theorem dgL_gt {a v e k : Nat} (hk : k < 2147483648) : lN k < dgL a v e ↔ ¬ e = a ∧ k < v := by
  unfold dgL
  split
  · rename_i h
    refine ⟨fun q => ?_, fun q => absurd h q.1⟩
    exfalso
    rw [Int64.lt_iff_toInt_lt, lN_tI (by omega)] at q
    have : (-1 : Int64).toInt = -1 := by decide
    omega
  · rename_i h
    rw [lN_ltI (by omega) (by omega)]
    omega
theorem dgL_eq {a v e k : Nat} (hk : k < 2147483648) : dgL a v e = lN k ↔ ¬ e = a ∧ v = k := by
  unfold dgL
  split
  · rename_i h
    refine ⟨fun q => ?_, fun q => absurd h q.1⟩
    exfalso
    have q := congrArg Int64.toInt q
    rw [lN_tI (by omega)] at q
    have : (-1 : Int64).toInt = -1 := by decide
    omega
  · rename_i h
    rw [lN_eqI (by omega) (by omega)]
    omega
theorem dgL_32 {a v e : Nat} (h : ¬ e = a) (hv : v ≤ 2147483648) : (dgL a v e).toInt32 = nI v := by
  unfold dgL
  rw [if_neg h, Nat.min_eq_left hv, lN_i]
theorem TkP_fault {σ τ : Sg} {c : Int32} {e : Nat} (h : Fr tkF σ τ) : TkP σ (wI (wI τ 5 8 c) 5 5 0) (c, 0, 0, e) ∨ c = 0 := by
  by_cases hc : c = 0
  · exact Or.inr hc
  · refine Or.inl ⟨by simp [wI_1], by simp [wI_1], fun q => absurd q hc, (h.wI rfl).wI rfl⟩
theorem tk_take' {w : Wd} {d : Nat} {Q : Sg → Prop} {tx : Nat → Int32} {n a v e : Nat} {σ τ : Sg} {x : Int64} (hd : 4 ≤ d) (hT : TX τ tx n) (h0 : τ.1 5 8 = 0) (he : τ.1 5 4 = nI e) (hel : e ≤ n + 8) (hF : Fr tkF σ τ) (ok : Bool)
    (h1 : x < 0 ↔ ok = false) (h2 : ok = true → (2147483647 < x ↔ 2147483647 < v)) (h3 : ok = true → v ≤ 2147483647 → x.toInt32 = nI v)
    (h : ∀ υ, TkP σ υ (takeS tx n ok v e) → Q υ) : OkV w d m_Tokens_take [vR 5, vL x] τ Q := by
  refine tk_take hd hT he hel ?_
  unfold takeS at h
  cases ok with
  | false =>
    rw [if_pos (Or.inl (h1.mpr rfl))]
    rw [if_pos (Or.inl rfl)] at h
    exact h _ ((TkP_fault hF).resolve_right (by decide))
  | true =>
    have h2 := h2 rfl
    have h3 := h3 rfl
    have h1 : ¬ x < 0 := fun q => absurd (h1.mp q) (by decide)
    split
    · rename_i q
      rw [if_pos (by rcases q with q | q | q; exact absurd q h1; exact Or.inr (Or.inl (h2.mp q)); exact Or.inr (Or.inr q))] at h
      exact h _ ((TkP_fault hF).resolve_right (by decide))
    · rename_i q
      have hv : ¬ 2147483647 < v := fun r => q (Or.inr (Or.inl (h2.mpr r)))
      rw [if_neg (by rintro (r | r | r); exact absurd r (by decide); exact hv r; exact q (Or.inr (Or.inr r)))] at h
      refine h _ ⟨by simp [wI_1, h0], by simp [wI_1], fun _ => ⟨by rw [wI_1, if_pos ⟨rfl, rfl⟩]; exact h3 (by omega), by simp [wI_1, he]⟩, (hF.wI rfl).wI rfl⟩
theorem tk_takeD {w : Wd} {d : Nat} {Q : Sg → Prop} {tx : Nat → Int32} {n a v e : Nat} {σ τ : Sg} (hd : 4 ≤ d) (hT : TX τ tx n) (h0 : τ.1 5 8 = 0) (he : τ.1 5 4 = nI e) (hel : e ≤ n + 8) (hF : Fr tkF σ τ)
    (h : ∀ υ, TkP σ υ (takeS tx n (decide (e ≠ a)) v e) → Q υ) : OkV w d m_Tokens_take [vR 5, vL (dgL a v e)] τ Q := by
  refine tk_take' (a := a) hd hT h0 he hel hF (decide (e ≠ a)) ?_ (fun q => ?_) (fun q hv => ?_) h
  · rw [dgL_lt]; simp
  · have q := of_decide_eq_true q
    have := dgL_gt (a := a) (v := v) (e := e) (k := 2147483647) (by decide)
    exact this.trans ⟨fun r => r.2, fun r => ⟨q, r⟩⟩
  · exact dgL_32 (of_decide_eq_true q) (by omega)
theorem tk_number {w : Wd} {d : Nat} {Q : Sg → Prop} {tx : Nat → Int32} {n a : Nat} {σ : Sg} (hd : 5 ≤ d) (hT : TX σ tx n) (h0 : σ.1 5 8 = 0) (ha : σ.1 5 4 = nI a) (hal : a ≤ n)
    (h : ∀ υ, TkP σ υ (numS tx n a) → Q υ) : OkV w d m_Tokens_number [vR 5] σ Q := by
  have hn := hT.1
  have hle := dgN_le (tx := tx) (n := n) (b := 10) (by decide) (n + 1) a 0 hal
  unfold numS at h
  refine v_Tokens_number _ (by omega) (tk_digits (b := 10) rfl (by omega) (by decide) (by decide) hT ha hal ?_)
  have hT1 : TX (wI σ 5 4 (nI (dgN tx n 10 (n + 1) a 0).2)) tx n := hT.w5 (by decide)
  have hA1 : (wI σ 5 4 (nI (dgN tx n 10 (n + 1) a 0).2)).1 5 4 = nI (dgN tx n 10 (n + 1) a 0).2 := by rw [wI_1, if_pos ⟨rfl, rfl⟩]
  have h01 : (wI σ 5 4 (nI (dgN tx n 10 (n + 1) a 0).2)).1 5 8 = 0 := by rw [wI_1, if_neg (by omega)]; exact h0
  refine tk_peek (by omega) hT1 hA1 (k := 0) rfl (by omega) ?_
  rw [Nat.add_zero]
  refine ⟨fun h1 => ?_, fun h1 => ?_⟩
  · rw [if_neg h1] at h
    exact tk_takeD (by omega) hT1 h01 hA1 (by omega) (Fr.rfl'.wI rfl) h
  · rw [if_pos h1] at h
    have hlt : (dgN tx n 10 (n + 1) a 0).2 < n := lx_pk_lt h1 (by decide)
    have e16 : (16 : Int64) = lN 16 := rfl
    have e2 : (2 : Int64) = lN 2 := rfl
    rw [hA1, wI_wI, nI_1, lg_eq, lg_eq, e16, e2, dgL_eq (by decide), dgL_eq (by decide)]
    have hT2 : TX (wI σ 5 4 (nI ((dgN tx n 10 (n + 1) a 0).2 + 1))) tx n := hT.w5 (by decide)
    have hA2 : (wI σ 5 4 (nI ((dgN tx n 10 (n + 1) a 0).2 + 1))).1 5 4 = nI ((dgN tx n 10 (n + 1) a 0).2 + 1) := by rw [wI_1, if_pos ⟨rfl, rfl⟩]
    have h02 : (wI σ 5 4 (nI ((dgN tx n 10 (n + 1) a 0).2 + 1))).1 5 8 = 0 := by rw [wI_1, if_neg (by omega)]; exact h0
    have hne : ∀ k, 0 < k → (dgN tx n 10 (n + 1) a 0).1 = k → ¬ (dgN tx n 10 (n + 1) a 0).2 = a := fun k hk q r => by have := dgN_0 r; omega
    have fin : ∀ b, b ≤ 16 → 1 ≤ b → (∀ υ, TkP σ υ (takeS tx n (decide ((dgN tx n b (n + 1) ((dgN tx n 10 (n + 1) a 0).2 + 1) 0).2 ≠ (dgN tx n 10 (n + 1) a 0).2 + 1)) (dgN tx n b (n + 1) ((dgN tx n 10 (n + 1) a 0).2 + 1) 0).1 (dgN tx n b (n + 1) ((dgN tx n 10 (n + 1) a 0).2 + 1) 0).2) → Q υ) →
        OkL w (d - 1) m_Tokens_digits [vR 5, vI (nI b)] (wI σ 5 4 (nI ((dgN tx n 10 (n + 1) a 0).2 + 1))) (fun r s => OkV w (d - 1) m_Tokens_take [vR 5, vL r] s (fun s3 => Q s3)) := by
      intro b hb hb1 h
      have hle2 := dgN_le (tx := tx) (n := n) (b := b) hb (n + 1) ((dgN tx n 10 (n + 1) a 0).2 + 1) 0 hlt
      refine tk_digits (b := b) rfl (by omega) hb hb1 hT2 hA2 hlt ?_
      rw [wI_wI]
      exact tk_takeD (by omega) (hT.w5 (by decide)) (by rw [wI_1, if_neg (by omega)]; exact h0) (by rw [wI_1, if_pos ⟨rfl, rfl⟩]) (by omega) (Fr.rfl'.wI rfl) h
    refine ⟨fun h3 => ⟨fun h4 => ?_, fun h4 => ?_⟩, fun h3 => ?_⟩
    · rw [if_neg (fun q => h3 ⟨hne 16 (by decide) q, q⟩), if_neg (fun q => h4 ⟨hne 2 (by decide) q, q⟩)] at h
      refine tk_take (by omega) hT2 hA2 (by omega) ?_
      rw [if_pos (Or.inl (by decide))]
      exact h _ ((TkP_fault (Fr.rfl'.wI rfl)).resolve_right (by decide))
    · rw [if_neg (fun q => h3 ⟨hne 16 (by decide) q, q⟩), if_pos h4.2] at h
      exact fin 2 (by decide) (by decide) h
    · rw [if_pos h3.2] at h
      exact fin 16 (by decide) (by decide) h
/-- what the letters behind a time make of it: milliseconds, and how many letters -/
def unS (c c2 : Int32) : Nat × Nat := if c = 77 ∧ c2 = 83 then (1, 2) else if c = 83 then (1000, 1) else if c = 77 then (60000, 1) else if c = 72 then (3600000, 1) else (0, 0)
def timS (tx : Nat → Int32) (n a : Nat) : TK :=
  let r := dgN tx n 10 (n + 1) (a + 2) 0
  let u := unS (grt (pk tx n r.2)) (grt (pk tx n (r.2 + 1)))
  takeS tx n (decide (r.2 ≠ a + 2) && decide (u.1 ≠ 0)) (r.1 * u.1) (r.2 + u.2)
theorem grt_lt {tx : Nat → Int32} {n i : Nat} {c : Int32} (h : grt (pk tx n i) = c) (hc : c ≠ -1) : i < n := by
  unfold pk at h
  split at h
  · assumption
  · exact absurd h.symm hc
theorem tk_time_99 {w : Wd} {d : Nat} {Q : Sg → Prop} {tx : Nat → Int32} {n a v e u k : Nat} {σ τ : Sg} (hd : 5 ≤ d) (hT : TX τ tx n) (h0 : τ.1 5 8 = 0) (he : τ.1 5 4 = nI e) (hel : e ≤ n) (hF : Fr tkF σ τ) (hu : u ≤ 3600000) (hk : k ≤ 2) (hk0 : u = 0 → k = 0)
    (h : ∀ υ, TkP σ υ (takeS tx n (decide (e ≠ a) && decide (u ≠ 0)) (v * u) (e + k)) → Q υ) (x4 : Int32) (hx4 : u ≠ 0 → x4 = nI k) : Bk w d 0 0 m_Tokens_time 0 0 (qv Q) 99 [oR 5, oL (dgL a v e), none, none, oI x4, none, none] [vL (lN u)] τ := by
  have hn := hT.1
  have e0 : (0 : Int64) = lN 0 := rfl
  refine v_Tokens_time_99 _ _ _ _ ?_
  rw [lg_le, lg_lt, lg_eq]
  by_cases hu0 : u = 0
  · have hk1 := hk0 hu0
    clear hk0
    subst hk1
    subst hu0
    have bad : ∀ τ', τ'.1 5 4 = nI e → TX τ' tx n → τ'.1 5 8 = 0 → Fr tkF σ τ' → OkV w (d - 1) m_Tokens_take [vR 5, vL (-1)] τ' (fun s1 => Q s1) := by
      intro τ' q1 q2 q3 q4
      refine tk_take' (a := a) (v := v * 0) (e := e + 0) (by omega) q2 q3 q1 (by omega) q4 (decide (e ≠ a) && decide (0 ≠ 0)) ?_ (fun q => ?_) (fun q => ?_) h
      · simp
      · simp at q
      · simp at q
    have hz : nI e + 0 = nI e := nI_add e 0
    rw [he, hz, wI_self he]
    refine ⟨fun _ => ⟨fun _ => bad _ he hT h0 hF, fun _ => ⟨fun q => absurd rfl q, fun _ => bad _ he hT h0 hF⟩⟩, fun q => absurd (Int64.le_refl _) q⟩
  · have hx4 := hx4 hu0
    subst hx4
    have hpos : ¬ lN u ≤ 0 := by rw [e0, lN_leI (by omega) (by decide)]; omega
    have hne : ¬ lN u = 0 := by rw [e0, lN_eqI (by omega) (by decide)]; exact hu0
    have hdu : decide (u ≠ 0) = true := decide_eq_true hu0
    rw [hdu, Bool.and_true] at h
    refine ⟨fun q => absurd q hpos, fun _ => ?_⟩
    rw [he, nI_add, dgL_lt]
    have hTk : TX (wI τ 5 4 (nI (e + k))) tx n := hT.w5 (by decide)
    have hAk : (wI τ 5 4 (nI (e + k))).1 5 4 = nI (e + k) := by rw [wI_1, if_pos ⟨rfl, rfl⟩]
    have h0k : (wI τ 5 4 (nI (e + k))).1 5 8 = 0 := by rw [wI_1, if_neg (by omega)]; exact h0
    refine ⟨fun h1 => ?_, fun h1 => ⟨fun _ => ?_, fun q => absurd q hne⟩⟩
    · refine tk_take' (a := a) (v := v * u) (by omega) hTk h0k hAk (by omega) (hF.wI rfl) (decide (e ≠ a)) ?_ (fun q => ?_) (fun q => ?_) h
      · simp [h1]
      · simp [h1] at q
      · simp [h1] at q
    · have hm : dgL a v e * lN u = lN (min v 2147483648 * u) := by unfold dgL; rw [if_neg h1, lN_mul]
      have hb : min v 2147483648 * u ≤ 2147483648 * 3600000 := Nat.mul_le_mul (Nat.min_le_right _ _) hu
      rw [hm]
      refine tk_take' (a := a) (v := v * u) (by omega) hTk h0k hAk (by omega) (hF.wI rfl) (decide (e ≠ a)) ?_ (fun q => ?_) (fun q hv => ?_) h
      · rw [e0, lN_ltI (by omega) (by decide)]; simp [h1]
      · have e3 : (2147483647 : Int64) = lN 2147483647 := rfl
        rw [e3, lN_ltI (by decide) (by omega)]
        by_cases hc : v ≤ 2147483648
        · rw [Nat.min_eq_left hc]
        · rw [Nat.min_eq_right (by omega)]
          have t1 : 2147483648 ≤ 2147483648 * u := Nat.le_mul_of_pos_right _ (by omega)
          have t2 : v ≤ v * u := Nat.le_mul_of_pos_right _ (by omega)
          omega
      · have t2 : v ≤ v * u := Nat.le_mul_of_pos_right _ (by omega)
        rw [Nat.min_eq_left (by omega), lN_i]
theorem tk_time_50 {w : Wd} {d : Nat} {Q : Sg → Prop} {tx : Nat → Int32} {n a v e : Nat} {σ τ : Sg} {c c2 y : Int32} (hd : 5 ≤ d) (hT : TX τ tx n) (h0 : τ.1 5 8 = 0) (he : τ.1 5 4 = nI e) (hel : e ≤ n) (hF : Fr tkF σ τ)
    (hy : y = if c = 77 ∧ c2 = 83 then 2 else 1)
    (h : ∀ υ, TkP σ υ (takeS tx n (decide (e ≠ a) && decide ((unS c c2).1 ≠ 0)) (v * (unS c c2).1) (e + (unS c c2).2)) → Q υ) : Bk w d 0 0 m_Tokens_time 0 0 (qv Q) 50 [oR 5, oL (dgL a v e), none, oI c, none, none, none] [vI y] τ := by
  subst hy
  refine v_Tokens_time_50 _ _ _ _ ?_
  by_cases hc : c = 77 ∧ c2 = 83
  · rw [if_pos hc]
    have e1 : unS c c2 = (1, 2) := by unfold unS; rw [if_pos hc]
    rw [e1] at h
    exact ⟨fun q => absurd rfl q, fun _ => tk_time_99 (u := 1) (k := 2) hd hT h0 he hel hF (by decide) (by decide) (by decide) h _ (fun _ => rfl)⟩
  · rw [if_neg hc]
    refine ⟨fun _ => ⟨fun h1 => ⟨fun h2 => ⟨fun h3 => ?_, fun h3 => ?_⟩, fun h2 => ?_⟩, fun h1 => ?_⟩, fun q => absurd q (by decide)⟩
    · have e1 : unS c c2 = (0, 0) := by unfold unS; rw [if_neg hc, if_neg h1, if_neg h2, if_neg h3]
      rw [e1] at h
      exact tk_time_99 (u := 0) (k := 0) hd hT h0 he hel hF (by decide) (by decide) (by decide) h _ (fun q => absurd rfl q)
    · have e1 : unS c c2 = (3600000, 1) := by unfold unS; rw [if_neg hc, if_neg h1, if_neg h2, if_pos h3]
      rw [e1] at h
      exact tk_time_99 (u := 3600000) (k := 1) hd hT h0 he hel hF (by decide) (by decide) (by decide) h _ (fun _ => rfl)
    · have e1 : unS c c2 = (60000, 1) := by unfold unS; rw [if_neg hc, if_neg h1, if_pos h2]
      rw [e1] at h
      exact tk_time_99 (u := 60000) (k := 1) hd hT h0 he hel hF (by decide) (by decide) (by decide) h _ (fun _ => rfl)
    · have e1 : unS c c2 = (1000, 1) := by unfold unS; rw [if_neg hc, if_pos h1]
      rw [e1] at h
      exact tk_time_99 (u := 1000) (k := 1) hd hT h0 he hel hF (by decide) (by decide) (by decide) h _ (fun _ => rfl)
theorem tk_time {w : Wd} {d : Nat} {Q : Sg → Prop} {tx : Nat → Int32} {n a : Nat} {σ : Sg} (hd : 5 ≤ d) (hT : TX σ tx n) (h0 : σ.1 5 8 = 0) (ha : σ.1 5 4 = nI a) (hal : a + 2 ≤ n)
    (h : ∀ υ, TkP σ υ (timS tx n a) → Q υ) : OkV w d m_Tokens_time [vR 5] σ Q := by
  have hn := hT.1
  have hle := dgN_le (tx := tx) (n := n) (b := 10) (by decide) (n + 1) (a + 2) 0 hal
  refine v_Tokens_time _ (by omega) ?_
  rw [ha, nI_a2]
  refine tk_digits (b := 10) (a := a + 2) rfl (by omega) (by decide) (by decide) (hT.w5 (by decide)) (by rw [wI_1, if_pos ⟨rfl, rfl⟩]) hal ?_
  rw [wI_wI]
  have hT1 : TX (wI σ 5 4 (nI (dgN tx n 10 (n + 1) (a + 2) 0).2)) tx n := hT.w5 (by decide)
  have hA1 : (wI σ 5 4 (nI (dgN tx n 10 (n + 1) (a + 2) 0).2)).1 5 4 = nI (dgN tx n 10 (n + 1) (a + 2) 0).2 := by rw [wI_1, if_pos ⟨rfl, rfl⟩]
  have h01 : (wI σ 5 4 (nI (dgN tx n 10 (n + 1) (a + 2) 0).2)).1 5 8 = 0 := by rw [wI_1, if_neg (by omega)]; exact h0
  have hF : Fr tkF σ (wI σ 5 4 (nI (dgN tx n 10 (n + 1) (a + 2) 0).2)) := Fr.rfl'.wI rfl
  refine tk_peek (by omega) hT1 hA1 (k := 0) rfl (by omega) (tk_great (by omega) ?_)
  rw [Nat.add_zero]
  refine ⟨fun h1 => v_Tokens_time_49 _ _ _ (tk_time_50 (c2 := grt (pk tx n ((dgN tx n 10 (n + 1) (a + 2) 0).2 + 1))) hd hT1 h01 hA1 hle hF (by rw [if_neg (fun q => h1 q.1)]) h), fun h1 => tk_peek (by omega) hT1 hA1 (k := 1) rfl (by omega) (tk_great (by omega) ⟨fun h2 => ?_, fun h2 => ?_⟩)⟩
  · exact v_Tokens_time_49 _ _ _ (tk_time_50 (c2 := grt (pk tx n ((dgN tx n 10 (n + 1) (a + 2) 0).2 + 1))) hd hT1 h01 hA1 hle hF (by rw [if_neg (fun q => h2 q.2)]) h)
  · exact tk_time_50 (c2 := grt (pk tx n ((dgN tx n 10 (n + 1) (a + 2) 0).2 + 1))) hd hT1 h01 hA1 hle hF (by rw [if_pos ⟨h1, h2⟩]) h
