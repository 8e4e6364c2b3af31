/-! 073: the reference's numbers and times, as tokens -/
def mkF (k j : Nat) : Bool := Nat.beq k 81 && (Nat.beq j 6 || Nat.beq j 8 || Nat.beq j 9 || Nat.beq j 10 || Nat.beq j 11)
def MkP (σ τ : Sg) (fr : Nat) (r : TK) : Prop := τ.1 81 10 = r.1 ∧ (r.1 ≠ 0 → τ.1 81 11 = nI fr ∧ ∃ c, c < 2 ^ 30 ∧ τ.1 81 8 = nI c) ∧ (r.1 = 0 → τ.1 81 6 = r.2.1 ∧ τ.1 81 9 = r.2.2.1 ∧ τ.1 81 8 = nI r.2.2.2) ∧ Fr mkF σ τ
theorem mk_bad {w : Wd} {d : Nat} {Q : Sg → Prop} {σ τ : Sg} {c : Int32} {e fr : Nat} {x : Int32} (hd : 1 ≤ d) (h0 : τ.1 81 10 = 0) (hx : x = nI fr) (hF : Fr mkF σ τ) (hc : c ≠ 0) (h8 : ∃ c, c < 2 ^ 30 ∧ τ.1 81 8 = nI c) (h : ∀ υ, MkP σ υ fr (c, 0, 0, e) → Q υ) : OkV w d m_M_fail [vR 81, vI c, vI x] τ Q := by
  obtain ⟨c8, q1, q2⟩ := h8
  refine mk_fail hd h0 (h _ ⟨by simp [wI_1], fun _ => ⟨by simp [wI_1, hx], c8, q1, by simp [wI_1, q2]⟩, fun q => absurd q hc, (hF.wI rfl).wI rfl⟩)
theorem mk_settle {w : Wd} {d : Nat} {Q : Sg → Prop} {tx : Nat → Int32} {n v e fr : Nat} {σ τ : Sg} {x : Int64} (hd : 4 ≤ d) (hT : MX τ tx n) (h0 : τ.1 81 10 = 0) (h7 : τ.1 81 7 = nI fr) (he : τ.1 81 8 = nI e) (hel : e ≤ n + 8) (hF : Fr mkF σ τ) (ok : Bool)
    (h1 : x < 0 ↔ ok = false) (h2 : ok = true → (2147483647 < x ↔ 2147483647 < v)) (h3 : ok = true → v ≤ 2147483647 → x.toInt32 = nI v)
    (h : ∀ υ, MkP σ υ fr (takeS tx n ok v e) → Q υ) : OkV w d m_M_settle [vR 81, vL x] τ Q := by
  have hn := hT.1
  unfold takeS at h
  refine v_M_settle _ _ (by omega) ?_
  rw [lg_lt, lg_gt]
  refine ⟨fun q => ?_, fun q => ?_⟩
  · rw [if_pos (Or.inl (h1.mp q))] at h
    exact mk_bad (by omega) h0 h7 hF (by decide) ⟨e, by omega, he⟩ h
  · have hok : ok = true := by cases ok with | true => rfl | false => exact absurd (h1.mpr rfl) q
    subst hok
    have h2 := h2 rfl
    have h3 := h3 rfl
    refine ⟨fun r => ?_, fun r => mk_goesOn (by omega) hT he (by omega) ?_⟩
    · rw [if_pos (Or.inr (Or.inl (h2.mp r)))] at h
      exact mk_bad (by omega) h0 h7 hF (by decide) ⟨e, by omega, he⟩ h
    · have hv : ¬ 2147483647 < v := fun t => r (h2.mpr t)
      rw [b2_0, Bool.not_eq_false]
      refine ⟨fun t => ?_, fun t => ?_⟩
      · rw [if_neg (by rintro (u | u | u); exact absurd u (by decide); exact hv u; rw [t] at u; exact absurd u (by decide))] at h
        exact h _ ⟨by simp [wI_1, h0], fun u => absurd rfl u, fun _ => ⟨by simp [wI_1], by rw [wI_1, if_pos ⟨rfl, rfl⟩]; exact h3 (by omega), by simp [wI_1, he]⟩, (hF.wI rfl).wI rfl⟩
      · rw [if_pos (Or.inr (Or.inr t))] at h
        exact mk_bad (by omega) h0 h7 hF (by decide) ⟨e, by omega, he⟩ h
theorem mk_settleD {w : Wd} {d : Nat} {Q : Sg → Prop} {tx : Nat → Int32} {n a v e fr : Nat} {σ τ : Sg} (hd : 4 ≤ d) (hT : MX τ tx n) (h0 : τ.1 81 10 = 0) (h7 : τ.1 81 7 = nI fr) (he : τ.1 81 8 = nI e) (hel : e ≤ n + 8) (hF : Fr mkF σ τ)
    (h : ∀ υ, MkP σ υ fr (takeS tx n (decide (e ≠ a)) v e) → Q υ) : OkV w d m_M_settle [vR 81, vL (dgM a v e)] τ Q := by
  refine mk_settle hd hT h0 h7 he hel hF (decide (e ≠ a)) ?_ (fun q => ?_) (fun q hv => ?_) h
  · rw [dgM_lt]; simp
  · have q := of_decide_eq_true q
    have := dgM_gt (a := a) (v := v) (e := e) (k := 2147483647) (by decide)
    exact this.trans ⟨fun r => r.2, fun r => ⟨q, r⟩⟩
  · exact dgM_32 (of_decide_eq_true q) (by omega)
theorem mk_readNumber {w : Wd} {d : Nat} {Q : Sg → Prop} {tx : Nat → Int32} {n a : Nat} {σ : Sg} (hd : 5 ≤ d) (hT : MX σ tx n) (h0 : σ.1 81 10 = 0) (ha : σ.1 81 7 = nI a) (hal : a ≤ n)
    (h : ∀ υ, MkP σ υ a (numS tx n a) → Q υ) : OkV w d m_M_readNumber [vR 81] σ Q := by
  have hn := hT.1
  have hle := dgN_le (tx := tx) (n := n) (b := 10) (by decide) (n + 1) a 0 hal
  unfold numS at h
  refine v_M_readNumber _ (by omega) (mk_digits (b := 10) ha rfl (by omega) (by decide) (by decide) hT hal ?_)
  have hT1 : MX (wI σ 81 8 (nI (dgN tx n 10 (n + 1) a 0).2)) tx n := hT.w (by decide)
  have hA1 : (wI σ 81 8 (nI (dgN tx n 10 (n + 1) a 0).2)).1 81 8 = nI (dgN tx n 10 (n + 1) a 0).2 := by rw [wI_1, if_pos ⟨rfl, rfl⟩]
  have h01 : ∀ x, (wI σ 81 8 x).1 81 10 = 0 := fun x => by rw [wI_1, if_neg (by omega)]; exact h0
  have h71 : ∀ x, (wI σ 81 8 x).1 81 7 = nI a := fun x => by rw [wI_1, if_neg (by omega)]; exact ha
  refine mk_byteOf (by omega) hT1 hA1 (by omega) ?_
  refine ⟨fun h1 => ?_, fun h1 => ?_⟩
  · rw [if_neg h1] at h
    exact mk_settleD (by omega) hT1 (h01 _) (h71 _) hA1 (by omega) (Fr.rfl'.wI rfl) h
  · rw [if_pos h1] at h
    have hlt : (dgN tx n 10 (n + 1) a 0).2 < n := lx_pk_lt h1 (by decide)
    have e16 : (16 : Int64) = lN 16 := rfl
    have e2 : (2 : Int64) = lN 2 := rfl
    have hne : ∀ k, 0 < k → (dgN tx n 10 (n + 1) a 0).1 = k → ¬ (dgN tx n 10 (n + 1) a 0).2 = a := fun k hk q r => by have := dgN_0 r; omega
    rw [hA1, nI_1, lg_eq, lg_eq, e16, e2, dgM_eq (by decide), dgM_eq (by decide)]
    have fin : ∀ b, b ≤ 16 → 1 ≤ b → (¬ (dgN tx n 10 (n + 1) a 0).2 = a ∧ (dgN tx n 10 (n + 1) a 0).1 = b) → (∀ υ, MkP σ υ a (takeS tx n (decide ((dgN tx n b (n + 1) ((dgN tx n 10 (n + 1) a 0).2 + 1) 0).2 ≠ (dgN tx n 10 (n + 1) a 0).2 + 1)) (dgN tx n b (n + 1) ((dgN tx n 10 (n + 1) a 0).2 + 1) 0).1 (dgN tx n b (n + 1) ((dgN tx n 10 (n + 1) a 0).2 + 1) 0).2) → Q υ) →
        OkL w (d - 1) m_M_digits [vR 81, vI (nI ((dgN tx n 10 (n + 1) a 0).2 + 1)), vI (dgM a (dgN tx n 10 (n + 1) a 0).1 (dgN tx n 10 (n + 1) a 0).2).toInt32] (wI σ 81 8 (nI (dgN tx n 10 (n + 1) a 0).2)) (fun r s => OkV w (d - 1) m_M_settle [vR 81, vL r] s (fun s3 => Q s3)) := by
      intro b hb hb1 hq h
      have hle2 := dgN_le (tx := tx) (n := n) (b := b) hb (n + 1) ((dgN tx n 10 (n + 1) a 0).2 + 1) 0 hlt
      refine mk_digits (b := b) rfl (by rw [dgM_32 hq.1 (by omega), hq.2]) (by omega) hb hb1 hT1 hlt ?_
      rw [wI_wI]
      exact mk_settleD (by omega) (hT.w (by decide)) (h01 _) (h71 _) (by rw [wI_1, if_pos ⟨rfl, rfl⟩]) (by omega) (Fr.rfl'.wI rfl) h
    refine ⟨fun h3 => ?_, fun h3 => ⟨fun h4 => ?_, fun h4 => ?_⟩⟩
    · rw [if_pos h3.2] at h
      exact fin 16 (by decide) (by decide) h3 h
    · rw [if_neg (fun q => h3 ⟨hne 16 (by decide) q, q⟩), if_neg (fun q => h4 ⟨hne 2 (by decide) q, q⟩)] at h
      refine mk_settle (v := 0) (by omega) hT1 (h01 _) (h71 _) hA1 (by omega) (Fr.rfl'.wI rfl) false (by decide) (fun q => absurd q (by decide)) (fun q => absurd q (by decide)) (fun υ hυ => h υ ?_)
      unfold takeS at hυ
      rw [if_pos (Or.inl rfl)] at hυ
      exact ⟨hυ.1, hυ.2.1, fun q => absurd q (show ¬ (4 : Int32) = 0 by decide), hυ.2.2.2⟩
    · rw [if_neg (fun q => h3 ⟨hne 16 (by decide) q, q⟩), if_pos h4.2] at h
      exact fin 2 (by decide) (by decide) h4 h
