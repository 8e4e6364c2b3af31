/-! 076: the reference's places and signs -/
theorem st1_at {k : Nat} : (stL 1).getD k 0 = plc k := rfl
theorem st1_len : (stL 1).length = 12 := rfl
theorem mk_place_it {w : Wd} {d : Nat} {Q : Sg → Prop} {tx : Nat → Int32} {n a k : Nat} {σ : Sg} {x1 : Int32} (hd : 6 ≤ d) (hT : MX σ tx n) (ha : σ.1 81 7 = nI a) (hal : a ≤ n) (hk : k < 6) {x2 x3 : Int32} (h2 : x2 = nI k) (h3 : x3 = nI (k + 1))
    (h : Bk w d 0 0 m_M_readPlace 0 0 (qv Q) 4 [oR 81, oI (whk (grt (pk tx n (a + 1))) (grt (pk tx n (a + 2))) k x1), oI x3, none] [] σ) : Bk w d 0 0 m_M_readPlace 0 0 (qv Q) 4 [oR 81, oI x1, oI x2, none] [] σ := by
  have hn := hT.1
  subst h2 h3
  have e2 : (2 : Int32) * nI k = nI (2 * k) := pk_mul 2 k
  refine v_M_readPlace_4 _ _ _ ⟨fun q => ?_, fun _ => ?_⟩
  · have q : nI 6 ≤ nI k := q
    rw [nI_leI (by decide) (by omega)] at q
    omega
  rw [ha, e2, nI_1, nI_1, nI_1]
  unfold whk at h
  refine mk_great (by omega) hT rfl (by omega) ⟨trivial, st_charAt 1 (2 * k) (by omega) (by decide) rfl (by rw [st1_len]; omega) ⟨fun h1 => ?_, fun h1 => ?_⟩⟩
  · rw [st1_at] at h1
    rw [if_neg (fun q => h1 q.1)] at h; exact h
  · rw [ha, nI_a2]
    refine mk_great (by omega) hT rfl (by omega) ⟨trivial, st_charAt 1 (2 * k + 1) (by omega) (by decide) rfl (by rw [st1_len]; omega) ⟨fun h2 => ?_, fun h2 => ?_⟩⟩
    · rw [st1_at] at h2
      rw [if_neg (fun q => h2 q.2)] at h; exact h
    · rw [st1_at] at h1 h2
      rw [if_pos ⟨h1, h2⟩] at h; exact h
theorem mk_place_90 {w : Wd} {d : Nat} {Q : Sg → Prop} {tx : Nat → Int32} {n a v e : Nat} {σ τ : Sg} {x : Int32} {y : Int64} (hd : 5 ≤ d) (hT : MX τ tx n) (h0 : τ.1 81 10 = 0) (h7 : τ.1 81 7 = nI a) (he : 0 ≤ x → τ.1 81 8 = nI e) (hel : e ≤ n + 8) (hF : Fr mkF σ τ) (h8 : ∃ c, c < 2 ^ 30 ∧ τ.1 81 8 = nI c) (b : Nat)
    (hy : if x < 0 then y = -1 else y = dgM b v e)
    (h : ∀ υ, MkP σ υ a (if x < 0 then (5, 0, 0, a) else if e = b ∨ (if x < 3 then 255 else 63) < v ∨ isPt (pk tx n e) = true then (5, 0, 0, a) else (0, 4, 256 * x + nI v, e)) → Q υ) :
    Bk w d 0 0 m_M_readPlace 0 0 (qv Q) 90 [oR 81, oI x, none, none] [vL y] τ := by
  have hn := hT.1
  refine v_M_readPlace_90 _ _ _ ?_
  by_cases hx : x < 0
  · rw [if_pos hx] at hy h
    subst hy
    exact ⟨fun _ => mk_bad (by omega) h0 h7 hF (by decide) h8 h, fun q => absurd (by decide) q⟩
  · rw [if_neg hx] at hy h
    subst hy
    have he := he (Int32.not_lt.mp hx)
    have g63 : 0 < lg_cmp (dgM b v e) 63 ↔ ¬ e = b ∧ 63 < v := by rw [lg_gt]; exact dgM_gt (k := 63) (by decide)
    have g255 : 0 < lg_cmp (dgM b v e) 255 ↔ ¬ e = b ∧ 255 < v := by rw [lg_gt]; exact dgM_gt (k := 255) (by decide)
    rw [lg_lt, dgM_lt, g63, g255]
    have bad : (e = b ∨ (if x < 3 then 255 else 63) < v ∨ isPt (pk tx n e) = true) → OkV w (d - 1) m_M_fail [vR 81, vI 5, vI (τ.1 81 7)] τ (fun s1 => Q s1) := by
      intro hq
      rw [if_pos hq] at h
      exact mk_bad (by omega) h0 h7 hF (by decide) h8 h
    have good : ¬ e = b → ¬ (if x < 3 then 255 else 63) < v → b2 (isPt (pk tx n e)) = 0 → Q (wI (wI τ 81 6 4) 81 9 (256 * x + (dgM b v e).toInt32)) := by
      intro q1 q2 q3
      have q4 : ¬ isPt (pk tx n e) = true := fun q => by rw [q] at q3; exact absurd q3 (by decide)
      rw [if_neg (by rintro (q | q | q); exact q1 q; exact q2 q; exact q4 q)] at h
      have hv : v ≤ 255 := by split at q2 <;> omega
      rw [dgM_32 q1 (by omega)]
      exact h _ ⟨by simp [wI_1, h0], fun q => absurd rfl q, fun _ => ⟨by simp [wI_1], by simp [wI_1], by simp [wI_1, he]⟩, (hF.wI rfl).wI rfl⟩
    refine ⟨fun q => bad (Or.inl q), fun q => ⟨fun q3 => ⟨fun q4 => ?_, fun q4 => mk_goesOn (by omega) hT he (by omega) ⟨fun q5 => ?_, fun q5 => ?_⟩⟩, fun q3 => ⟨fun q4 => ?_, fun q4 => mk_goesOn (by omega) hT he (by omega) ⟨fun q5 => ?_, fun q5 => ?_⟩⟩⟩⟩
    · exact bad (Or.inr (Or.inl (by rw [if_neg (Int32.not_lt.mpr q3)]; exact q4.2)))
    · exact good q (by rw [if_neg (Int32.not_lt.mpr q3)]; exact fun r => q4 ⟨q, r⟩) q5
    · exact bad (Or.inr (Or.inr (b2_n0.mp q5)))
    · exact bad (Or.inr (Or.inl (by rw [if_pos (Int32.not_le.mp q3)]; exact q4.2)))
    · exact good q (by rw [if_pos (Int32.not_le.mp q3)]; exact fun r => q4 ⟨q, r⟩) q5
    · exact bad (Or.inr (Or.inr (b2_n0.mp q5)))
theorem mk_readPlace {w : Wd} {d : Nat} {Q : Sg → Prop} {tx : Nat → Int32} {n a : Nat} {σ : Sg} (hd : 6 ≤ d) (hT : MX σ tx n) (h0 : σ.1 81 10 = 0) (ha : σ.1 81 7 = nI a) (hal : a ≤ n) (h8 : ∃ c, c < 2 ^ 30 ∧ σ.1 81 8 = nI c)
    (h : ∀ υ, MkP σ υ a (plaS tx n a) → Q υ) : OkV w d m_M_readPlace [vR 81] σ Q := by
  have hn := hT.1
  refine v_M_readPlace _ (by omega) ?_
  refine mk_place_it (k := 0) (by omega) hT ha hal (by decide) rfl rfl ?_
  refine mk_place_it (k := 1) (by omega) hT ha hal (by decide) rfl rfl ?_
  refine mk_place_it (k := 2) (by omega) hT ha hal (by decide) rfl rfl ?_
  refine mk_place_it (k := 3) (by omega) hT ha hal (by decide) rfl rfl ?_
  refine mk_place_it (k := 4) (by omega) hT ha hal (by decide) rfl rfl ?_
  refine mk_place_it (k := 5) (by omega) hT ha hal (by decide) rfl rfl ?_
  have eW : whk (grt (pk tx n (a + 1))) (grt (pk tx n (a + 2))) 5 (whk (grt (pk tx n (a + 1))) (grt (pk tx n (a + 2))) 4 (whk (grt (pk tx n (a + 1))) (grt (pk tx n (a + 2))) 3 (whk (grt (pk tx n (a + 1))) (grt (pk tx n (a + 2))) 2 (whk (grt (pk tx n (a + 1))) (grt (pk tx n (a + 2))) 1 (whk (grt (pk tx n (a + 1))) (grt (pk tx n (a + 2))) 0 (-1)))))) = whS (grt (pk tx n (a + 1))) (grt (pk tx n (a + 2))) := rfl
  rw [eW]
  unfold plaS at h
  have hW := whS_cases (grt (pk tx n (a + 1))) (grt (pk tx n (a + 2)))
  generalize whS (grt (pk tx n (a + 1))) (grt (pk tx n (a + 2))) = x at h hW ⊢
  refine v_M_readPlace_4 _ _ _ ⟨fun _ => ?_, fun q => absurd (by decide) q⟩
  rw [ha, nI_a3]
  refine ⟨fun h1 => ?_, fun h1 => ?_⟩
  · have hlt : a + 2 < n := by
      rcases hW with q | ⟨k, _, _, q | q⟩
      · rw [q] at h1; exact absurd h1 (by decide)
      · exact grt_lt q (by decide)
      · exact grt_lt q (by decide)
    refine mk_digits (b := 10) (a := a + 3) rfl rfl (by omega) (by decide) (by decide) hT (by omega) ?_
    have hle := dgN_le (tx := tx) (n := n) (b := 10) (by decide) (n + 1) (a + 3) 0 (by omega)
    exact mk_place_90 (by omega) (hT.w (by decide)) (by rw [wI_1, if_neg (by omega)]; exact h0) (by rw [wI_1, if_neg (by omega)]; exact ha) (fun _ => by rw [wI_1, if_pos ⟨rfl, rfl⟩]) (by omega) (Fr.rfl'.wI rfl) ⟨(dgN tx n 10 (n + 1) (a + 3) 0).2, by omega, by rw [wI_1, if_pos ⟨rfl, rfl⟩]⟩ (a + 3) (by rw [if_neg (Int32.not_lt.mpr h1)]) h
  · exact mk_place_90 (v := (dgN tx n 10 (n + 1) (a + 3) 0).1) (e := n) (by omega) hT h0 ha (fun q => absurd q h1) (by omega) Fr.rfl' h8 (a + 3) (by rw [if_pos (Int32.not_le.mp h1)]) (by rw [if_pos (Int32.not_le.mp h1)] at h ⊢; exact h)
/-- the reference looks a sign up in a row -/
theorem st2_sg : stL 2 = sgL := rfl
theorem ixC_mem {c : Int32} : ∀ (l : List Int32) (k : Nat), k + l.length < 2 ^ 31 → (0 ≤ ixC c l k ↔ c ∈ l) := by
  intro l
  induction l with
  | nil => intro k _; exact ⟨fun q => absurd q (show ¬ (0 : Int32) ≤ -1 by decide), fun q => absurd q (by simp)⟩
  | cons a l ih =>
    intro k hk
    rw [List.length_cons] at hk
    rw [ixC]
    split
    · rename_i h
      exact ⟨fun _ => by rw [h]; exact List.mem_cons_self, fun _ => Int32.not_lt.mp (nI_pos (by omega))⟩
    · rename_i h
      rw [ih (k + 1) (by omega), List.mem_cons]
      exact ⟨Or.inr, fun q => q.resolve_left (fun e => h e.symm)⟩
theorem knF_ix {c : Int32} {b : Bool} : knF c 17 0 b = (b || decide (0 ≤ ixC c sgL 0)) := by
  have e0 : decide (0 ≤ ixC c sgL 0) = decide (c ∈ sgL) := decide_eq_decide.mpr (ixC_mem (c := c) sgL 0 (by decide))
  rw [e0]
  cases b
  · rw [Bool.eq_iff_iff]
    simp only [knF, sgL, List.getD_cons_zero, List.getD_cons_succ, Bool.false_or, Bool.or_eq_true, decide_eq_true_eq, List.mem_cons, List.not_mem_nil, or_false, eq_comm (a := c), or_assoc]
  · have : ∀ f i, knF c f i true = true := by
      intro f
      induction f with
      | zero => intro i; rfl
      | succ f ih => intro i; rw [knF, Bool.true_or]; exact ih _
    rw [this, Bool.true_or]
theorem ixC_sg {c : Int32} (h : 0 ≤ ixC c sgL 0) : 0 < c ∧ c < 128 := by
  rw [ixC_mem _ _ (by decide)] at h
  simp only [sgL, List.mem_cons, List.not_mem_nil, or_false] at h
  rcases h with h | h | h | h | h | h | h | h | h | h | h | h | h | h | h | h | h <;> subst h <;> decide
theorem nI_ch : ∀ j, j < 128 → (Int32.toUInt32 (nI j) % 65536).toInt32 = nI j := by decide
theorem mk_sign_139 {w : Wd} {d : Nat} {Q : Sg → Prop} {a : Nat} {σ : Sg} {c t y : Int32} (h8 : ∃ c, c < 2 ^ 30 ∧ σ.1 81 8 = nI c) (hd : 2 ≤ d) (h0 : σ.1 81 10 = 0) (ha : σ.1 81 7 = nI a) (ht : ¬ t < 0) (hy : y = 0 ∨ y = 1) (hk : (¬ t = 0 ∨ y = 1) ↔ knF c 17 0 (decide (0 < t)) = true)
    (h : ∀ υ, MkP σ υ a (if knF c 17 0 (decide (0 < t)) = false then (1, 0, 0, a) else (0, 5, if 0 < t then t else c, a + if 0 < t then 2 else 1)) → Q υ) : Bk w d 0 0 m_M_readSign 0 0 (qv Q) 139 [oR 81, oI c, none, oI t, none] [vI y] σ := by
  refine v_M_readSign_139 _ _ _ _ ?_
  rw [ha, nI_1, nI_a2]
  have fin : knF c 17 0 (decide (0 < t)) = true → ((t ≤ 0 → ((t ≤ 0 → Q (wI (wI (wI σ 81 6 5) 81 9 c) 81 8 (nI (a + 1)))) ∧ (¬ t ≤ 0 → Q (wI (wI (wI σ 81 6 5) 81 9 c) 81 8 (nI (a + 2)))))) ∧ (¬ t ≤ 0 → ((t ≤ 0 → Q (wI (wI (wI σ 81 6 5) 81 9 t) 81 8 (nI (a + 1)))) ∧ (¬ t ≤ 0 → Q (wI (wI (wI σ 81 6 5) 81 9 t) 81 8 (nI (a + 2))))))) := by
    intro q
    rw [if_neg (by rw [q]; decide)] at h
    refine ⟨fun q1 => ⟨fun _ => ?_, fun q2 => absurd q1 q2⟩, fun q1 => ⟨fun q2 => absurd q2 q1, fun _ => ?_⟩⟩
    · rw [if_neg (Int32.not_lt.mpr q1), if_neg (Int32.not_lt.mpr q1)] at h
      exact h _ ⟨by simp [wI_1, h0], fun q => absurd rfl q, fun _ => ⟨by simp [wI_1], by simp [wI_1], by simp [wI_1]⟩, ((Fr.rfl'.wI rfl).wI rfl).wI rfl⟩
    · rw [if_pos (Int32.not_le.mp q1), if_pos (Int32.not_le.mp q1)] at h
      exact h _ ⟨by simp [wI_1, h0], fun q => absurd rfl q, fun _ => ⟨by simp [wI_1], by simp [wI_1], by simp [wI_1]⟩, ((Fr.rfl'.wI rfl).wI rfl).wI rfl⟩
  refine ⟨fun q => fin (hk.mp (Or.inl q)), fun q => ⟨fun q2 => fin (hk.mp (Or.inr (hy.resolve_left q2))), fun q2 => ?_⟩⟩
  have : knF c 17 0 (decide (0 < t)) = false := by
    rw [Bool.eq_false_iff]
    intro r
    rcases hk.mpr r with r | r
    · exact r q
    · rw [q2] at r; exact absurd r (by decide)
  rw [if_pos this] at h
  exact mk_bad (by omega) h0 rfl Fr.rfl' (by decide) h8 h
theorem mk_sign_111 {w : Wd} {d : Nat} {Q : Sg → Prop} {a : Nat} {σ : Sg} {c t : Int32} (h8 : ∃ c, c < 2 ^ 30 ∧ σ.1 81 8 = nI c) (hd : 8 ≤ d) (h0 : σ.1 81 10 = 0) (ha : σ.1 81 7 = nI a) (ht : ¬ t < 0)
    (h : ∀ υ, MkP σ υ a (if knF c 17 0 (decide (0 < t)) = false then (1, 0, 0, a) else (0, 5, if 0 < t then t else c, a + if 0 < t then 2 else 1)) → Q υ) : Bk w d 0 0 m_M_readSign 0 0 (qv Q) 111 [oR 81, oI c, none, none, none] [vI t] σ := by
  have t0 : ¬ t = 0 ↔ 0 < t := by grind
  have no : ¬ 0 ≤ ixC c sgL 0 → Bk w d 0 0 m_M_readSign 0 0 (qv Q) 138 [oR 81, oI c, none, oI t, none] [] σ := by
    intro q
    refine v_M_readSign_138 _ _ _ (mk_sign_139 h8 (by omega) h0 ha ht (Or.inl rfl) ?_ h)
    rw [knF_ix, decide_eq_false q, Bool.or_false, decide_eq_true_eq, t0]
    exact ⟨fun r => r.resolve_right (by decide), Or.inl⟩
  refine v_M_readSign_111 _ _ _ ⟨fun q => no (fun r => absurd (ixC_sg r).1 (Int32.not_lt.mpr q)), fun q => ⟨fun q2 => no (fun r => absurd (ixC_sg r).2 (Int32.not_lt.mpr q2)), fun q2 => ⟨trivial, ?_⟩⟩⟩
  have hc : (Int32.toUInt32 c % 65536).toInt32 = c := by
    obtain ⟨j, hj, e⟩ := nI_of (x := c) (by grind)
    have : nI j < nI 128 := by rw [← e]; exact Int32.not_le.mp q2
    rw [nI_ltI hj (by decide)] at this
    rw [e]
    exact nI_ch j this
  rw [hc]
  refine st_index 2 (by omega) (by decide) (by grind) (Int32.not_le.mp q2) ?_
  rw [st2_sg]
  refine ⟨fun r => no (Int32.not_le.mpr r), fun r => mk_sign_139 h8 (by omega) h0 ha ht (Or.inr rfl) ?_ h⟩
  rw [knF_ix, decide_eq_true (Int32.not_lt.mp r), Bool.or_true]
  exact ⟨fun _ => rfl, fun _ => Or.inr rfl⟩
theorem mk_readSign {w : Wd} {d : Nat} {Q : Sg → Prop} {tx : Nat → Int32} {n a : Nat} {σ : Sg} (hd : 8 ≤ d) (hT : MX σ tx n) (h0 : σ.1 81 10 = 0) (ha : σ.1 81 7 = nI a) (hal : a ≤ n) (h8 : ∃ c, c < 2 ^ 30 ∧ σ.1 81 8 = nI c)
    (h : ∀ υ, MkP σ υ a (sigS tx n a) → Q υ) : OkV w d m_M_readSign [vR 81] σ Q := by
  have hn := hT.1
  unfold sigS at h
  refine v_M_readSign _ (by omega) (mk_byteOf (by omega) hT ha (by omega) (mk_byteOf (by omega) hT (by rw [ha, nI_1]) (by omega) ?_))
  generalize pk tx n (a + 1) = e at h ⊢
  generalize pk tx n a = c at h ⊢
  have fin : ∀ t, twS c e = t → Bk w d 0 0 m_M_readSign 0 0 (qv Q) 111 [oR 81, oI c, none, none, none] [vI t] σ := by
    intro t ht
    have ht0 : ¬ t < 0 := by rw [← ht]; unfold twS; split; decide; split; decide; split; decide; split; decide; split <;> decide
    rw [ht] at h
    exact mk_sign_111 h8 hd h0 ha ht0 h
  have f74 : ¬ (c = 58 ∧ e = 61) → ¬ (c = 46 ∧ e = 46) → ¬ (c = 60 ∧ e = 61) → Bk w d 0 0 m_M_readSign 0 0 (qv Q) 74 [oR 81, oI c, oI e, none, none] [] σ := by
    intro q1 q2 q3
    refine v_M_readSign_74 _ _ _ ⟨fun h1 => ⟨fun h2 => fin _ ?_, fun h2 => ⟨fun h3 => fin _ ?_, fun h3 => fin _ ?_⟩⟩, fun h1 => ⟨fun h2 => ⟨fun h3 => fin _ ?_, fun h3 => ⟨fun h4 => fin _ ?_, fun h4 => fin _ ?_⟩⟩, fun h2 => fin _ ?_⟩⟩
    all_goals (unfold twS; grind)
  have f56 : ¬ (c = 58 ∧ e = 61) → ¬ (c = 46 ∧ e = 46) → Bk w d 0 0 m_M_readSign 0 0 (qv Q) 56 [oR 81, oI c, oI e, none, none] [] σ := by
    intro q1 q2
    refine v_M_readSign_56 _ _ _ ⟨fun h1 => f74 q1 q2 (fun q => h1 q.1), fun h1 => ⟨fun h2 => f74 q1 q2 (fun q => h2 q.2), fun h2 => fin _ ?_⟩⟩
    unfold twS; grind
  have f38 : ¬ (c = 58 ∧ e = 61) → Bk w d 0 0 m_M_readSign 0 0 (qv Q) 38 [oR 81, oI c, oI e, none, none] [] σ := by
    intro q1
    refine v_M_readSign_38 _ _ _ ⟨fun h1 => f56 q1 (fun q => h1 q.1), fun h1 => ⟨fun h2 => f56 q1 (fun q => h2 q.2), fun h2 => fin _ ?_⟩⟩
    unfold twS; grind
  refine ⟨fun h1 => f38 (fun q => h1 q.1), fun h1 => ⟨fun h2 => f38 (fun q => h2 q.2), fun h2 => fin _ ?_⟩⟩
  unfold twS; grind
