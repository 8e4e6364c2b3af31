/-! 082: where tokens begin and end -/
theorem skE_ge {tx : Nat → Int32} {n : Nat} : ∀ f a, a ≤ (skE tx n f a).1 := by
  intro f
  induction f with
  | zero => intro a; exact Nat.le_refl _
  | succ f ih =>
    intro a
    unfold skE
    split
    · exact Nat.le_trans (Nat.le_succ _) (ih _)
    · split
      · split
        · have := rmE_ge (tx := tx) (n := n) (n + 3) (a + 2)
          exact Nat.le_trans (by omega) (ih _)
        · exact Nat.le_refl _
      · exact Nat.le_refl _
theorem dgN_ge' {tx : Nat → Int32} {n b : Nat} : ∀ f a v, a ≤ (dgN tx n b f a v).2 := by
  intro f
  induction f with
  | zero => intro a v; exact Nat.le_refl _
  | succ f ih =>
    intro a v
    unfold dgN
    split
    · exact Nat.le_trans (Nat.le_succ _) (ih _ _)
    · exact Nat.le_refl _
theorem takeS_ok {tx : Nat → Int32} {n v e : Nat} {ok : Bool} (h : (takeS tx n ok v e).1 = 0) : ok = true ∧ (takeS tx n ok v e).2.2.2 = e ∧ (takeS tx n ok v e).2.1 = 3 := by
  unfold takeS at h ⊢
  split at h
  · exact absurd h (show ¬ (4 : Int32) = 0 by decide)
  · rename_i q
    rw [if_neg q]
    refine ⟨?_, rfl, rfl⟩
    cases ok with
    | true => rfl
    | false => exact absurd (Or.inl rfl) q
theorem numS_pos {tx : Nat → Int32} {n a : Nat} (ha : a ≤ n) (h : (numS tx n a).1 = 0) : a < (numS tx n a).2.2.2 ∧ (numS tx n a).2.2.2 ≤ n := by
  have h0 := dgN_ge' (tx := tx) (n := n) (b := 10) (n + 1) a 0
  have h1 := dgN_le (tx := tx) (n := n) (b := 10) (by decide) (n + 1) a 0 ha
  unfold numS at h ⊢
  split at h
  · rename_i q
    rw [if_pos q]
    have hlt : (dgN tx n 10 (n + 1) a 0).2 < n := lx_pk_lt q (by decide)
    split at h
    · rename_i q2
      rw [if_pos q2]
      have t := takeS_ok h
      have g0 := dgN_ge' (tx := tx) (n := n) (b := 16) (n + 1) ((dgN tx n 10 (n + 1) a 0).2 + 1) 0
      have g1 := dgN_le (tx := tx) (n := n) (b := 16) (by decide) (n + 1) ((dgN tx n 10 (n + 1) a 0).2 + 1) 0 hlt
      rw [t.2.1]; omega
    · rename_i q2
      rw [if_neg q2]
      split at h
      · rename_i q3
        rw [if_pos q3]
        have t := takeS_ok h
        have g0 := dgN_ge' (tx := tx) (n := n) (b := 2) (n + 1) ((dgN tx n 10 (n + 1) a 0).2 + 1) 0
        have g1 := dgN_le (tx := tx) (n := n) (b := 2) (by decide) (n + 1) ((dgN tx n 10 (n + 1) a 0).2 + 1) 0 hlt
        rw [t.2.1]; omega
      · exact absurd h (show ¬ (4 : Int32) = 0 by decide)
  · rename_i q
    rw [if_neg q]
    have t := takeS_ok h
    rw [t.2.1]
    have := of_decide_eq_true t.1
    omega
theorem timS_pos {tx : Nat → Int32} {n a : Nat} (ha : a + 2 ≤ n) (h : (timS tx n a).1 = 0) : a < (timS tx n a).2.2.2 ∧ (timS tx n a).2.2.2 ≤ n := by
  have h0 := dgN_ge' (tx := tx) (n := n) (b := 10) (n + 1) (a + 2) 0
  have h1 := dgN_le (tx := tx) (n := n) (b := 10) (by decide) (n + 1) (a + 2) 0 ha
  unfold timS at h ⊢
  have t := takeS_ok h
  dsimp only at t ⊢
  rw [t.2.1]
  have t1 := t.1
  rw [Bool.and_eq_true, decide_eq_true_eq, decide_eq_true_eq] at t1
  refine ⟨by omega, ?_⟩
  have t2 := t1.2
  unfold unS at t2 ⊢
  split at t2
  · rename_i q; rw [if_pos q]
    have := grt_lt q.2 (by decide)
    show _ + 2 ≤ n; omega
  · rename_i q; rw [if_neg q]
    split at t2
    · rename_i q2; rw [if_pos q2]
      have := grt_lt q2 (by decide)
      show _ + 1 ≤ n; omega
    · rename_i q2; rw [if_neg q2]
      split at t2
      · rename_i q3; rw [if_pos q3]
        have := grt_lt q3 (by decide)
        show _ + 1 ≤ n; omega
      · rename_i q3; rw [if_neg q3]
        split at t2
        · rename_i q4; rw [if_pos q4]
          have := grt_lt q4 (by decide)
          show _ + 1 ≤ n; omega
        · exact absurd rfl t2
theorem plaS_pos {tx : Nat → Int32} {n a : Nat} (h : (plaS tx n a).1 = 0) : a < (plaS tx n a).2.2.2 ∧ (plaS tx n a).2.2.2 ≤ n := by
  have hW := whS_cases (grt (pk tx n (a + 1))) (grt (pk tx n (a + 2)))
  unfold plaS at h ⊢
  by_cases q : whS (grt (pk tx n (a + 1))) (grt (pk tx n (a + 2))) < 0
  · rw [if_pos q] at h
    exact absurd h (show ¬ (5 : Int32) = 0 by decide)
  · rw [if_neg q] at h ⊢
    by_cases q2 : (dgN tx n 10 (n + 1) (a + 3) 0).2 = a + 3 ∨ (if whS (grt (pk tx n (a + 1))) (grt (pk tx n (a + 2))) < 3 then 255 else 63) < (dgN tx n 10 (n + 1) (a + 3) 0).1 ∨ isPt (pk tx n (dgN tx n 10 (n + 1) (a + 3) 0).2) = true
    · rw [if_pos q2] at h
      exact absurd h (show ¬ (5 : Int32) = 0 by decide)
    · rw [if_neg q2]
      have hlt : a + 2 < n := by
        rcases hW with q3 | ⟨k, _, _, q3 | q3⟩
        · rw [q3] at q; exact absurd (by decide) q
        · exact grt_lt q3 (by decide)
        · exact grt_lt q3 (by decide)
      have h0 := dgN_ge' (tx := tx) (n := n) (b := 10) (n + 1) (a + 3) 0
      have h1 := dgN_le (tx := tx) (n := n) (b := 10) (by decide) (n + 1) (a + 3) 0 (by omega)
      exact ⟨by show a < (dgN tx n 10 (n + 1) (a + 3) 0).2; omega, h1⟩
theorem twS_lt {tx : Nat → Int32} {n a : Nat} (h : 0 < twS (pk tx n a) (pk tx n (a + 1))) : a + 1 < n := by
  unfold twS at h
  split at h
  · rename_i q; exact lx_pk_lt q.2 (by decide)
  · split at h
    · rename_i q; exact lx_pk_lt q.2 (by decide)
    · split at h
      · rename_i q; exact lx_pk_lt q.2 (by decide)
      · split at h
        · rename_i q; exact lx_pk_lt q.2 (by decide)
        · split at h
          · rename_i q; exact lx_pk_lt q.2 (by decide)
          · exact absurd h (by decide)
theorem sigS_pos {tx : Nat → Int32} {n a : Nat} (h : (sigS tx n a).1 = 0) (hp : a < n) : a < (sigS tx n a).2.2.2 ∧ (sigS tx n a).2.2.2 ≤ n := by
  unfold sigS at h ⊢
  split at h
  · exact absurd h (show ¬ (1 : Int32) = 0 by decide)
  · rename_i q
    rw [if_neg q]
    dsimp only
    split
    · rename_i q2
      have := twS_lt q2
      omega
    · omega
theorem namS_pos {tx : Nat → Int32} {n a : Nat} {N : List (List Int32)} (ha : a ≤ n) (hl : isPt (pk tx n a) = true) (h : (namS tx n a N).1.1 = 0) : a < (namS tx n a N).1.2.2.2 ∧ (namS tx n a N).1.2.2.2 ≤ n ∧ (namS tx n a N).2.length ≤ N.length + ((namS tx n a N).1.2.2.2 - a) ∧ (namS tx n a N).2.flatten.length ≤ N.flatten.length + ((namS tx n a N).1.2.2.2 - a) ∧ ((namS tx n a N).1.2.1 = 1 ∨ (namS tx n a N).1.2.1 = 2) := by
  have h1 := ptE_le (tx := tx) (n := n) (n + 1) a ha
  have h2 : a < ptE tx n (n + 1) a := by
    rw [ptE, if_pos hl]
    exact ptE_ge n (a + 1)
  unfold namS at h ⊢
  split at h
  · exact absurd h (show ¬ (3 : Int32) = 0 by decide)
  · rename_i q
    rw [if_neg q]
    split at h
    · rename_i q2; rw [if_pos q2]
      exact ⟨h2, h1, by show N.length ≤ _; omega, by show N.flatten.length ≤ _; omega, Or.inr rfl⟩
    · rename_i q2; rw [if_neg q2]
      refine ⟨h2, h1, ?_, ?_, Or.inl rfl⟩
      · show (nmS N _).2.length ≤ N.length + (ptE tx n (n + 1) a - a)
        unfold nmS
        split
        · rw [List.length_append, List.length_singleton]; omega
        · show N.length ≤ _; omega
      · show (nmS N _).2.flatten.length ≤ N.flatten.length + (ptE tx n (n + 1) a - a)
        unfold nmS
        split
        · rw [List.flatten_append, List.length_append, List.flatten_singleton, rowS_len]; omega
        · show N.flatten.length ≤ _; omega
theorem isLt_pt {c : Int32} (h : isLt c = true) : isPt c = true := by unfold isPt; rw [h, Bool.true_or]
/-- the next token: it begins behind the place, ends within the text; names grow by no more than it is long; kinds that are no END go on -/
theorem lex_pos {tx : Nat → Int32} {n a : Nat} {N : List (List Int32)} (ha : a ≤ n) (h : (lexS tx n a N).2.1.1 = 0) :
    a ≤ (lexS tx n a N).1 ∧ (lexS tx n a N).1 ≤ n ∧ (lexS tx n a N).1 ≤ (lexS tx n a N).2.1.2.2.2 ∧ (lexS tx n a N).2.1.2.2.2 ≤ n ∧ ((lexS tx n a N).2.1.2.1 ≠ 0 → (lexS tx n a N).1 < (lexS tx n a N).2.1.2.2.2) ∧
    (lexS tx n a N).2.2.length ≤ N.length + ((lexS tx n a N).2.1.2.2.2 - (lexS tx n a N).1) ∧ (lexS tx n a N).2.2.flatten.length ≤ N.flatten.length + ((lexS tx n a N).2.1.2.2.2 - (lexS tx n a N).1) := by
  have g0 := skE_ge (tx := tx) (n := n) (n + 1) a
  have g1 := skE_le (tx := tx) (n := n) (n + 1) a ha
  unfold lexS at h ⊢
  generalize (skE tx n (n + 1) a).1 = p at g0 g1 h ⊢
  split at h
  · exact absurd h (show ¬ (2 : Int32) = 0 by decide)
  · rename_i q
    rw [if_neg q]
    have key : ∀ t : TK, p < t.2.2.2 → t.2.2.2 ≤ n → a ≤ p ∧ p ≤ n ∧ p ≤ t.2.2.2 ∧ t.2.2.2 ≤ n ∧ (t.2.1 ≠ 0 → p < t.2.2.2) ∧ N.length ≤ N.length + (t.2.2.2 - p) ∧ N.flatten.length ≤ N.flatten.length + (t.2.2.2 - p) :=
      fun t h1 h2 => ⟨g0, g1, by omega, h2, fun _ => h1, by omega, by omega⟩
    dsimp only at h ⊢
    split at h
    · rename_i q1; rw [if_pos q1]
      exact ⟨g0, g1, Nat.le_refl _, g1, fun r => absurd rfl r, Nat.le_add_right _ _, Nat.le_add_right _ _⟩
    · rename_i q1; rw [if_neg q1]
      have hpn : p < n := by
        unfold pk at q1
        split at q1
        · assumption
        · exact absurd (by decide) q1
      split at h
      · rename_i q2; rw [if_pos q2]
        have := timS_pos (lx_pk_lt q2.2 (by decide)) h
        exact key _ this.1 this.2
      · rename_i q2; rw [if_neg q2]
        split at h
        · rename_i q3; rw [if_pos q3]
          have := namS_pos (N := N) g1 (isLt_pt q3) h
          exact ⟨g0, g1, by omega, this.2.1, fun _ => this.1, this.2.2.1, this.2.2.2.1⟩
        · rename_i q3; rw [if_neg q3]
          split at h
          · rename_i q4; rw [if_pos q4]
            have := numS_pos g1 h
            exact key _ this.1 this.2
          · rename_i q4; rw [if_neg q4]
            split at h
            · rename_i q5; rw [if_pos q5]
              have := plaS_pos h
              exact key _ this.1 this.2
            · rename_i q5; rw [if_neg q5]
              have := sigS_pos h hpn
              exact key _ this.1 this.2
