/-! 074: the reference's times -/
theorem mk_time_84 {w : Wd} {d : Nat} {Q : Sg → Prop} {tx : Nat → Int32} {n a v e u k fr : Nat} {σ τ : Sg} {y : Int32} (hd : 5 ≤ d) (hT : MX τ tx n) (h0 : τ.1 81 10 = 0) (h7 : τ.1 81 7 = nI fr) (he : τ.1 81 8 = nI e) (hel : e ≤ n) (hF : Fr mkF σ τ) (hy : y = nI u) (hu : u ≤ 3600000) (hk : k = if u = 1 then 2 else if u = 0 then 0 else 1)
    (h : ∀ υ, MkP σ υ fr (takeS tx n (decide (e ≠ a) && decide (u ≠ 0)) (v * u) (e + k)) → Q υ) : Bk w d 0 0 m_M_readTime 0 0 (qv Q) 84 [oR 81, oL (dgM a v e), none, none, none] [vI y] τ := by
  subst hy
  have hn := hT.1
  have hk2 : k ≤ 2 := by rw [hk]; split; omega; split <;> omega
  have z0 : (0 : Int32) = nI 0 := rfl
  have z1 : (1 : Int32) = nI 1 := rfl
  have g0 : 0 ≤ lg_cmp (dgM a v e) 0 ↔ ¬ e = a := by rw [← dgM_lt (a := a) (v := v), ← lg_lt, Int32.not_lt]
  have e3 : (2147483647 : Int64) = lN 2147483647 := rfl
  have g1 : lg_cmp (dgM a v e) 2147483647 ≤ 0 ↔ ¬ (¬ e = a ∧ 2147483647 < v) := by rw [← dgM_gt (a := a) (v := v) (by decide), ← e3, ← lg_gt, Int32.not_lt]
  have hT2 : MX (wI τ 81 8 (nI (e + k))) tx n := hT.w (by decide)
  have h02 : (wI τ 81 8 (nI (e + k))).1 81 10 = 0 := by rw [wI_1, if_neg (by omega)]; exact h0
  have h72 : (wI τ 81 8 (nI (e + k))).1 81 7 = nI fr := by rw [wI_1, if_neg (by omega)]; exact h7
  have he2 : (wI τ 81 8 (nI (e + k))).1 81 8 = nI (e + k) := by rw [wI_1, if_pos ⟨rfl, rfl⟩]
  have hF2 : Fr mkF σ (wI τ 81 8 (nI (e + k))) := hF.wI rfl
  have neg : (u = 0 ∨ e = a) → OkV w (d - 1) m_M_settle [vR 81, vL (-1)] (wI τ 81 8 (nI (e + k))) (fun s => Q s) := by
    intro q
    have hb : (decide (e ≠ a) && decide (u ≠ 0)) = false := by
      rcases q with q | q <;> simp [q]
    refine mk_settle (v := v * u) (by omega) hT2 h02 h72 he2 (by omega) hF2 _ ?_ (fun r => ?_) (fun r => ?_) h
    · rw [hb]; decide
    · rw [hb] at r; exact absurd r (by decide)
    · rw [hb] at r; exact absurd r (by decide)
  have pos : ¬ u = 0 → ¬ e = a → ∀ x, (2147483647 < v → x = dgM a v e) → (¬ 2147483647 < v → x = lN (v * u)) → OkV w (d - 1) m_M_settle [vR 81, vL x] (wI τ 81 8 (nI (e + k))) (fun s => Q s) := by
    intro q1 q2 x x1 x2
    have t2 : v ≤ v * u := Nat.le_mul_of_pos_right _ (by omega)
    have hb : (decide (e ≠ a) && decide (u ≠ 0)) = true := by simp [q1, q2]
    have e0 : (0 : Int64) = lN 0 := rfl
    by_cases hv : 2147483647 < v
    · refine mk_settle (v := v * u) (by omega) hT2 h02 h72 he2 (by omega) hF2 _ ?_ (fun r => ?_) (fun r r2 => absurd hv (by omega)) h
      · rw [hb, x1 hv, dgM_lt]; simp [q2]
      · rw [x1 hv, e3, dgM_gt (by decide)]
        exact ⟨fun _ => by omega, fun _ => ⟨q2, hv⟩⟩
    · have hm : v * u ≤ 2147483647 * 3600000 := Nat.mul_le_mul (by omega) hu
      refine mk_settle (v := v * u) (by omega) hT2 h02 h72 he2 (by omega) hF2 _ ?_ (fun r => ?_) (fun r r2 => ?_) h
      · rw [hb, x2 hv, e0, lN_ltI (by omega) (by decide)]; simp
      · rw [x2 hv, e3, lN_ltI (by decide) (by omega)]
      · rw [x2 hv, lN_i]
  have all : (u = 0 → OkV w (d - 1) m_M_settle [vR 81, vL (-1)] (wI τ 81 8 (nI (e + k))) (fun s => Q s)) ∧ (¬ u = 0 → ((¬ e = a → ((¬ (¬ e = a ∧ 2147483647 < v) → OkV w (d - 1) m_M_settle [vR 81, vL (dgM a v e * lN u)] (wI τ 81 8 (nI (e + k))) (fun s => Q s)) ∧ (¬ ¬ (¬ e = a ∧ 2147483647 < v) → OkV w (d - 1) m_M_settle [vR 81, vL (dgM a v e)] (wI τ 81 8 (nI (e + k))) (fun s => Q s)))) ∧ (¬ ¬ e = a → OkV w (d - 1) m_M_settle [vR 81, vL (-1)] (wI τ 81 8 (nI (e + k))) (fun s => Q s)))) := by
    refine ⟨fun q => neg (Or.inl q), fun q => ⟨fun r => ⟨fun t => pos q r _ (fun u2 => absurd ⟨r, u2⟩ t) (fun u2 => ?_), fun t => pos q r _ (fun _ => rfl) (fun u2 => absurd (fun u3 => u2 u3.2) t)⟩, fun r => neg (Or.inr (Classical.not_not.mp r))⟩⟩
    unfold dgM
    rw [if_neg r, Nat.min_eq_left (by omega), lN_mul]
  refine v_M_readTime_84 _ _ _ ?_
  rw [z1, z0, nI_eq (by omega) (by decide), nI_eq (by omega) (by decide), nI_leI (by omega) (by decide), ← z0, g0, g1, nI_l (by omega), he]
  have p0 : nI e + 0 = nI (e + 0) := nI_add e 0
  rw [p0, ← z1, nI_1, nI_a2]
  refine ⟨fun q1 => ⟨fun q2 => ?_, fun q2 => ?_⟩, fun q1 => ?_⟩
  · have e5 : k = 0 := by rw [hk, if_neg q1, if_pos (by omega)]
    rw [e5] at all; exact all
  · have e5 : k = 1 := by rw [hk, if_neg q1, if_neg (by omega)]
    rw [e5] at all; exact all
  · have e5 : k = 2 := by rw [hk, if_pos q1]
    rw [e5] at all; exact all
theorem mk_readTime {w : Wd} {d : Nat} {Q : Sg → Prop} {tx : Nat → Int32} {n a : Nat} {σ : Sg} (hd : 5 ≤ d) (hT : MX σ tx n) (h0 : σ.1 81 10 = 0) (ha : σ.1 81 7 = nI a) (hal : a + 2 ≤ n)
    (h : ∀ υ, MkP σ υ a (timS tx n a) → Q υ) : OkV w d m_M_readTime [vR 81] σ Q := by
  have hn := hT.1
  have hle := dgN_le (tx := tx) (n := n) (b := 10) (by decide) (n + 1) (a + 2) 0 hal
  refine v_M_readTime _ (by omega) (mk_digits (b := 10) (a := a + 2) (by rw [ha, nI_a2]) rfl (by omega) (by decide) (by decide) hT hal ?_)
  have hT1 : MX (wI σ 81 8 (nI (dgN tx n 10 (n + 1) (a + 2) 0).2)) tx n := hT.w (by decide)
  have hA1 : (wI σ 81 8 (nI (dgN tx n 10 (n + 1) (a + 2) 0).2)).1 81 8 = nI (dgN tx n 10 (n + 1) (a + 2) 0).2 := by rw [wI_1, if_pos ⟨rfl, rfl⟩]
  have h01 : (wI σ 81 8 (nI (dgN tx n 10 (n + 1) (a + 2) 0).2)).1 81 10 = 0 := by rw [wI_1, if_neg (by omega)]; exact h0
  have h71 : (wI σ 81 8 (nI (dgN tx n 10 (n + 1) (a + 2) 0).2)).1 81 7 = nI a := by rw [wI_1, if_neg (by omega)]; exact ha
  have hF : Fr mkF σ (wI σ 81 8 (nI (dgN tx n 10 (n + 1) (a + 2) 0).2)) := Fr.rfl'.wI rfl
  have h : ∀ υ, MkP σ υ a (takeS tx n (decide ((dgN tx n 10 (n + 1) (a + 2) 0).2 ≠ a + 2) && decide ((unS (grt (pk tx n (dgN tx n 10 (n + 1) (a + 2) 0).2)) (grt (pk tx n ((dgN tx n 10 (n + 1) (a + 2) 0).2 + 1)))).1 ≠ 0)) ((dgN tx n 10 (n + 1) (a + 2) 0).1 * (unS (grt (pk tx n (dgN tx n 10 (n + 1) (a + 2) 0).2)) (grt (pk tx n ((dgN tx n 10 (n + 1) (a + 2) 0).2 + 1)))).1) ((dgN tx n 10 (n + 1) (a + 2) 0).2 + (unS (grt (pk tx n (dgN tx n 10 (n + 1) (a + 2) 0).2)) (grt (pk tx n ((dgN tx n 10 (n + 1) (a + 2) 0).2 + 1)))).2)) → Q υ := h
  refine mk_great (by omega) hT1 hA1 (by omega) ?_
  rw [hA1, nI_1]
  have fin : ∀ u k, unS (grt (pk tx n (dgN tx n 10 (n + 1) (a + 2) 0).2)) (grt (pk tx n ((dgN tx n 10 (n + 1) (a + 2) 0).2 + 1))) = (u, k) → u ≤ 3600000 → (k = if u = 1 then 2 else if u = 0 then 0 else 1) → ∀ y, y = nI u → Bk w d 0 0 m_M_readTime 0 0 (qv Q) 84 [oR 81, oL (dgM (a + 2) (dgN tx n 10 (n + 1) (a + 2) 0).1 (dgN tx n 10 (n + 1) (a + 2) 0).2), none, none, none] [vI y] (wI σ 81 8 (nI (dgN tx n 10 (n + 1) (a + 2) 0).2)) := by
    intro u k e1 e2 e3 y ey
    rw [e1] at h
    exact mk_time_84 hd hT1 h01 h71 hA1 hle hF ey e2 e3 h
  generalize grt (pk tx n (dgN tx n 10 (n + 1) (a + 2) 0).2) = c at fin ⊢
  have f47 : ¬ (c = 77 ∧ grt (pk tx n ((dgN tx n 10 (n + 1) (a + 2) 0).2 + 1)) = 83) → Bk w d 0 0 m_M_readTime 0 0 (qv Q) 47 [oR 81, oL (dgM (a + 2) (dgN tx n 10 (n + 1) (a + 2) 0).1 (dgN tx n 10 (n + 1) (a + 2) 0).2), none, oI c, none] [] (wI σ 81 8 (nI (dgN tx n 10 (n + 1) (a + 2) 0).2)) := by
    intro hc
    refine v_M_readTime_47 _ _ _ ⟨fun h1 => ⟨fun h2 => ⟨fun h3 => ?_, fun h3 => ?_⟩, fun h2 => ?_⟩, fun h1 => ?_⟩
    · exact fin 0 0 (by unfold unS; rw [if_neg hc, if_neg h1, if_neg h2, if_neg h3]) (by decide) (by decide) _ rfl
    · exact fin 3600000 1 (by unfold unS; rw [if_neg hc, if_neg h1, if_neg h2, if_pos h3]) (by decide) (by decide) _ rfl
    · exact fin 60000 1 (by unfold unS; rw [if_neg hc, if_neg h1, if_pos h2]) (by decide) (by decide) _ rfl
    · exact fin 1000 1 (by unfold unS; rw [if_neg hc, if_pos h1]) (by decide) (by decide) _ rfl
  refine ⟨fun h1 => f47 (fun q => h1 q.1), fun h1 => mk_great (by omega) hT1 rfl (by omega) ⟨fun h2 => f47 (fun q => h2 q.2), fun h2 => ?_⟩⟩
  exact fin 1 2 (by unfold unS; rw [if_pos ⟨h1, h2⟩]) (by decide) (by decide) _ rfl
