/-! 078: the reference's next token -/
def mxF (k j : Nat) : Bool := mkF k j || mnF k j
def MkN (σ τ : Sg) (fr : Nat) (r : TK) (N : List (List Int32)) : Prop := τ.1 81 10 = r.1 ∧ (r.1 ≠ 0 → τ.1 81 11 = nI fr ∧ ∃ c, c < 2 ^ 30 ∧ τ.1 81 8 = nI c) ∧ (r.1 = 0 → τ.1 81 6 = r.2.1 ∧ τ.1 81 9 = r.2.2.1 ∧ τ.1 81 8 = nI r.2.2.2) ∧ NmM τ N ∧ Fr mxF σ τ
theorem NmM.f {σ τ : Sg} {N : List (List Int32)} {P : Nat → Nat → Bool} (h : NmM σ N) (hF : Fr P σ τ) (h1 : P 81 3 = false) (h3 : ∀ j, P 83 j = false) (h4 : ∀ j, P 84 j = false) : NmM τ N :=
  ⟨by rw [hF.1 81 3 h1]; exact h.1, fun k hk => ⟨by rw [hF.1 84 k (h4 k)]; exact (h.2.1 k hk).1, (h.2.1 k hk).2.1, fun i hi => by rw [hF.1 83 _ (h3 _)]; exact (h.2.1 k hk).2.2 i hi⟩, h.2.2⟩
theorem mxF_mk {k j : Nat} (h : mxF k j = false) : mkF k j = false := by unfold mxF at h; simp only [Bool.or_eq_false_iff] at h; exact h.1
theorem mxF_mn {k j : Nat} (h : mxF k j = false) : mnF k j = false := by unfold mxF at h; simp only [Bool.or_eq_false_iff] at h; exact h.2
theorem mk_readName_8 {w : Wd} {d : Nat} {Q : Sg → Prop} {tx : Nat → Int32} {n a : Nat} {σ : Sg} {N : List (List Int32)} (hd : 8 ≤ d) (hT : MX σ tx n) (hN : NmM σ N) (h0 : σ.1 81 10 = 0) (h7 : σ.1 81 7 = nI a) (hc : N.length + 1 ≤ 8000) : ∀ (f p : Nat) (τ : Sg), n + 1 ≤ p + f → a ≤ p → p ≤ n → τ.1 81 8 = nI p → Fr mkF σ τ → τ.1 81 10 = 0 → (∀ i, i < p - a → isPt (tx (a + i)) = true) →
    (∀ e, e = ptE tx n f p → ∀ υ, MkN σ υ a (if 32 < e - a then ((3, 0, 0, a), N) else if 0 ≤ idxW (rowS tx a (e - a)) wdL 0 then ((0, 2, idxW (rowS tx a (e - a)) wdL 0, e), N) else ((0, 1, (nmS N (rowS tx a (e - a))).1, e), (nmS N (rowS tx a (e - a))).2) : TK × List (List Int32)).1 (if 32 < e - a then ((3, 0, 0, a), N) else if 0 ≤ idxW (rowS tx a (e - a)) wdL 0 then ((0, 2, idxW (rowS tx a (e - a)) wdL 0, e), N) else ((0, 1, (nmS N (rowS tx a (e - a))).1, e), (nmS N (rowS tx a (e - a))).2) : TK × List (List Int32)).2 → Q υ) →
    Bk w d 0 0 m_M_readName 0 0 (qv Q) 8 [oR 81] [] τ := by
  have hn := hT.1
  intro f
  induction f with
  | zero => intro p τ hf _ hp; omega
  | succ f ih =>
    intro p τ hf hap hp hat hF h10 hpt h
    have hTt : MX τ tx n := hT.f hF (fun _ => rfl) rfl
    have hNt : NmM τ N := hN.f hF rfl (fun _ => rfl) (fun _ => rfl)
    have h7t : τ.1 81 7 = nI a := by rw [hF.1 81 7 rfl]; exact h7
    refine v_M_readName_8 _ (mk_goesOn (by omega) hTt hat (by omega) ?_)
    rw [b2_0, Bool.not_eq_false]
    have esub : nI p - nI a = nI (p - a) := pk_sub hap
    refine ⟨fun h1 => ?_, fun h1 => ?_⟩
    · have e : ptE tx n (f + 1) p = p := by rw [ptE, if_neg (by rw [h1]; decide)]
      have h := h p e.symm
      rw [hat, h7t, esub]
      refine ⟨fun h2 => ?_, fun h2 => ?_⟩
      · have h32 : p - a ≤ 32 := by
          have h2 : nI (p - a) ≤ nI 32 := h2
          rw [nI_leI (by omega) (by decide)] at h2; exact h2
        rw [if_neg (by omega)] at h
        refine mk_wordAt (l := p - a) (by omega) hTt h7t (by rw [hat]; congr 1; omega) (by omega) ?_
        refine ⟨fun h3 => ⟨fun _ => ?_, fun q => absurd h3 q⟩, fun h3 => ⟨fun q => absurd q h3, fun _ => ?_⟩⟩
        · rw [if_pos h3] at h
          refine h _ ⟨by simp [wI_1, h10], fun q => absurd rfl q, fun _ => ⟨by simp [wI_1], by simp [wI_1], by simp [wI_1, hat]⟩, ?_, ?_⟩
          · exact hN.f (P := mkF) (((hF.wI rfl).wI rfl).wI rfl) rfl (fun _ => rfl) (fun _ => rfl)
          · exact (Fr.mono (P := mkF) (((hF.wI rfl).wI rfl).wI rfl) (fun k j q => mxF_mk q))
        · rw [if_neg h3] at h
          have hF3 : Fr mkF σ (wI (wI τ 81 9 (idxW (rowS tx a (p - a)) wdL 0)) 81 6 1) := (hF.wI rfl).wI rfl
          refine mk_nameAt (N := N) (a := a) (l := p - a) (tx := tx) (n := n) (by omega) (hT.f hF3 (fun _ => rfl) rfl) (hN.f hF3 rfl (fun _ => rfl) (fun _ => rfl)) (by rw [hF3.1 81 7 rfl]; exact h7) (by simp [wI_1, hat]; congr 1; omega) (by omega) h32 hpt hc (fun υ g1 g2 => ?_)
          have gF : Fr mxF σ (wI υ 81 9 (nmS N (rowS tx a (p - a))).1) := ((hF3.mono (fun k j q => mxF_mk q)).trans (g1.mono (fun k j q => mxF_mn q))).wI rfl
          have a10 : υ.1 81 10 = 0 := by rw [g1.1 81 10 rfl]; simp [wI_1, h10]
          have a6 : υ.1 81 6 = 1 := by rw [g1.1 81 6 rfl]; simp [wI_1]
          have a8 : υ.1 81 8 = nI p := by rw [g1.1 81 8 rfl]; simp [wI_1, hat]
          refine h _ ⟨by simp [wI_1, a10], fun q => absurd rfl q, fun _ => ⟨by simp [wI_1, a6], by simp [wI_1], by simp [wI_1, a8]⟩, ?_, gF⟩
          exact g2.f (P := mkF) (Fr.rfl'.wI rfl) rfl (fun _ => rfl) (fun _ => rfl)
      · have h32 : 32 < p - a := by
          have h2 : ¬ nI (p - a) ≤ nI 32 := h2
          rw [nI_leI (by omega) (by decide)] at h2; omega
        rw [if_pos h32] at h
        refine mk_fail (by omega) h10 ?_
        refine h _ ⟨by simp [wI_1], fun _ => ⟨by simp [wI_1], p, by omega, by simp [wI_1, hat]⟩, fun q => absurd q (show ¬ (3 : Int32) = 0 by decide), ?_, ?_⟩
        · exact hN.f (P := mkF) ((hF.wI rfl).wI rfl) rfl (fun _ => rfl) (fun _ => rfl)
        · exact (Fr.mono (P := mkF) ((hF.wI rfl).wI rfl) (fun k j q => mxF_mk q))
    · have e : ptE tx n (f + 1) p = ptE tx n f (p + 1) := by rw [ptE, if_pos h1]
      rw [e] at h
      obtain ⟨hlt, ep⟩ := pt_lt h1
      rw [ep] at h1
      rw [hat, nI_1]
      refine ih (p + 1) _ (by omega) (by omega) (by omega) (by rw [wI_1, if_pos ⟨rfl, rfl⟩]) (hF.wI rfl) (by simp [wI_1, h10]) (fun i hi => ?_) h
      by_cases q : i < p - a
      · exact hpt i q
      · have : a + i = p := by omega
        rw [this]; exact h1
theorem mk_readName {w : Wd} {d : Nat} {Q : Sg → Prop} {tx : Nat → Int32} {n a : Nat} {σ : Sg} {N : List (List Int32)} (hd : 8 ≤ d) (hT : MX σ tx n) (hN : NmM σ N) (h0 : σ.1 81 10 = 0) (h7 : σ.1 81 7 = nI a) (hal : a ≤ n) (hc : N.length + 1 ≤ 8000)
    (h : ∀ υ, MkN σ υ a (namS tx n a N).1 (namS tx n a N).2 → Q υ) : OkV w d m_M_readName [vR 81] σ Q := by
  refine v_M_readName _ (by omega) ?_
  rw [h7]
  exact mk_readName_8 hd hT hN h0 h7 hc (n + 1) a _ (by omega) (Nat.le_refl _) hal (by rw [wI_1, if_pos ⟨rfl, rfl⟩]) (Fr.rfl'.wI rfl) (by rw [wI_1, if_neg (by omega)]; exact h0) (fun i hi => absurd hi (by omega)) (fun e he υ hυ => by subst he; exact h υ hυ)
def myF (k j : Nat) : Bool := mxF k j || (Nat.beq k 81 && Nat.beq j 7)
def MkX (σ τ : Sg) (r : Nat × TK × List (List Int32)) : Prop := τ.1 81 10 = r.2.1.1 ∧ (r.2.1.1 ≠ 0 → τ.1 81 11 = nI r.1 ∧ ∃ c, c < 2 ^ 30 ∧ τ.1 81 8 = nI c) ∧ (r.2.1.1 = 0 → τ.1 81 7 = nI r.1 ∧ τ.1 81 6 = r.2.1.2.1 ∧ (r.2.1.2.1 ≠ 0 → τ.1 81 9 = r.2.1.2.2.1) ∧ τ.1 81 8 = nI r.2.1.2.2.2) ∧ NmM τ r.2.2 ∧ Fr myF σ τ
theorem myF_mx {k j : Nat} (h : myF k j = false) : mxF k j = false := by unfold myF at h; simp only [Bool.or_eq_false_iff] at h; exact h.1
theorem isDg_grt (c : Int32) : isDg (grt c) = isDg c := by
  unfold isDg
  rw [decide_eq_decide]
  unfold grt
  grind
theorem grt_37 (c : Int32) : grt c = 37 ↔ c = 37 := by
  unfold grt
  grind
theorem MX.pos {σ : Sg} {tx : Nat → Int32} {n i : Nat} (h : MX σ tx n) : pk tx n i < 0 ↔ n ≤ i := by
  unfold pk
  split
  · rename_i q
    rw [← h.2.2 i q]
    have := pk_andIn (σ.1 82 i) (m := 255) 8 (by decide) (by decide)
    unfold vp_in at this
    exact ⟨fun r => absurd (Or.inl r) this, fun r => by omega⟩
  · rename_i q
    exact ⟨fun _ => by omega, fun _ => by decide⟩
theorem mk_next {w : Wd} {d : Nat} {Q : Sg → Prop} {tx : Nat → Int32} {n a : Nat} {σ : Sg} {N : List (List Int32)} (hd : 10 ≤ d) (hT : MX σ tx n) (hN : NmM σ N) (h0 : σ.1 81 10 = 0) (hc : N.length + 1 ≤ 8000) (ha : σ.1 81 8 = nI a) (hal : a ≤ n)
    (h : ∀ υ, MkX σ υ (lexS tx n a N) → Q υ) : OkV w d m_M_next [vR 81] σ Q := by
  have hn := hT.1
  have hp := skE_le (tx := tx) (n := n) (n + 1) a hal
  unfold lexS at h
  refine v_M_next _ (by omega) (mk_skip (by omega) hT ha hal h0 ?_)
  generalize (skE tx n (n + 1) a).1 = p at h hp ⊢
  by_cases hs : (skE tx n (n + 1) a).2 = true
  · rw [if_pos hs]
    rw [if_neg (by rw [hs]; decide)] at h
    refine ⟨fun _ => ?_, fun q => absurd (Int32.not_lt.mp (nI_pos (by omega))) q⟩
    have hF1 : Fr myF σ (wI σ 81 7 (nI p)) := Fr.rfl'.wI rfl
    have t0 : (wI σ 81 7 (nI p)).1 81 10 = 0 := by simp [wI_1, h0]
    have t7 : (wI σ 81 7 (nI p)).1 81 7 = nI p := by simp [wI_1]
    have t8 : ∃ c, c < 2 ^ 30 ∧ (wI σ 81 7 (nI p)).1 81 8 = nI c := ⟨a, by omega, by simp [wI_1, ha]⟩
    have hTt : MX (wI σ 81 7 (nI p)) tx n := hT.w (by decide)
    have hNt : NmM (wI σ 81 7 (nI p)) N := ⟨by simp [wI_1, hN.1], fun k hk => ⟨by simp [wI_1]; exact (hN.2.1 k hk).1, (hN.2.1 k hk).2.1, fun i hi => by simp [wI_1]; exact (hN.2.1 k hk).2.2 i hi⟩, hN.2.2⟩
    generalize wI σ 81 7 (nI p) = τ at hF1 t0 t7 t8 hTt hNt ⊢
    refine mk_great (by omega) hTt rfl (by omega) ?_
    rw [t7, hTt.2.1, nI_ltI (by omega) (by omega), nI_1]
    have fin : ∀ r, (∀ υ, MkX σ υ (p, r, N) → Q υ) → ∀ υ, MkP τ υ p r → Q υ := by
      intro r hr υ hυ
      refine hr υ ⟨hυ.1, hυ.2.1, fun q => ⟨by rw [hυ.2.2.2.1 81 7 rfl]; exact t7, (hυ.2.2.1 q).1, fun _ => (hυ.2.2.1 q).2.1, (hυ.2.2.1 q).2.2⟩, hNt.f hυ.2.2.2 rfl (fun _ => rfl) (fun _ => rfl), hF1.trans (hυ.2.2.2.mono (fun k j q => mxF_mk (myF_mx q)))⟩
    have fin2 : (∀ υ, MkX σ υ (p, namS tx n p N) → Q υ) → ∀ υ, MkN τ υ p (namS tx n p N).1 (namS tx n p N).2 → Q υ := by
      intro hr υ hυ
      exact hr υ ⟨hυ.1, hυ.2.1, fun q => ⟨by rw [hυ.2.2.2.2.1 81 7 rfl]; exact t7, (hυ.2.2.1 q).1, fun _ => (hυ.2.2.1 q).2.1, (hυ.2.2.1 q).2.2⟩, hυ.2.2.2.1, hF1.trans (hυ.2.2.2.2.mono (fun k j q => myF_mx q))⟩
    refine ⟨fun h1 => ?_, fun h1 => ?_⟩
    · rw [if_neg (by rw [hTt.pos]; omega)] at h
      have rest : ¬ (grt (pk tx n p) = 84 ∧ pk tx n (p + 1) = 35) → OkI w (d - 1) m_M_isLetter [vI (grt (pk tx n p))] τ (fun r3 s3 => ((r3 = 0 → OkI w (d - 1) m_M_isDigit [vI (grt (pk tx n p))] s3 (fun r4 s4 => ((r4 = 0 → ((¬ grt (pk tx n p) = 37 → OkV w (d - 1) m_M_readSign [vR 81] s4 (fun s5 => Q s5)) ∧ (grt (pk tx n p) = 37 → OkV w (d - 1) m_M_readPlace [vR 81] s4 (fun s6 => Q s6)))) ∧ (¬ r4 = 0 → OkV w (d - 1) m_M_readNumber [vR 81] s4 (fun s7 => Q s7))))) ∧ (¬ r3 = 0 → OkV w (d - 1) m_M_readName [vR 81] s3 (fun s8 => Q s8)))) := by
        intro hq
        rw [if_neg hq] at h
        refine mk_isLetter (by omega) ?_
        rw [isLg_grt, b2_0, Bool.not_eq_false]
        refine ⟨fun h2 => mk_isDigit (by omega) ?_, fun h2 => ?_⟩
        · rw [if_neg (by rw [h2]; decide)] at h
          rw [isDg_grt, b2_0, Bool.not_eq_false, grt_37]
          refine ⟨fun h3 => ⟨fun h4 => ?_, fun h4 => ?_⟩, fun h3 => ?_⟩
          · rw [if_neg (by rw [h3]; decide), if_neg h4] at h
            exact mk_readSign (by omega) hTt t0 t7 hp t8 (fin _ h)
          · rw [if_neg (by rw [h3]; decide), if_pos h4] at h
            exact mk_readPlace (by omega) hTt t0 t7 hp t8 (fin _ h)
          · rw [if_pos h3] at h
            exact mk_readNumber (by omega) hTt t0 t7 hp (fin _ h)
        · rw [if_pos h2] at h
          exact mk_readName (by omega) hTt hNt t0 t7 hp hc (fin2 h)
      refine ⟨fun h2 => rest (fun q => h2 q.1), fun h2 => mk_byteOf (by omega) hTt rfl (by omega) ⟨fun h3 => rest (fun q => h3 q.2), fun h3 => ?_⟩⟩
      rw [if_pos ⟨h2, h3⟩] at h
      exact mk_readTime (by omega) hTt t0 t7 (lx_pk_lt h3 (by decide)) (fin _ h)
    · rw [if_pos (by rw [hTt.pos]; omega)] at h
      have ep : p = n := by omega
      subst ep
      refine h _ ⟨by simp [wI_1, t0], fun q => absurd rfl q, fun _ => ⟨by simp [wI_1], by simp [wI_1], fun q => absurd rfl q, by simp [wI_1]⟩, ?_, ((hF1.wI rfl).wI rfl).wI rfl⟩
      exact ⟨by simp [wI_1, hNt.1], fun k hk => ⟨by simp [wI_1]; exact (hNt.2.1 k hk).1, (hNt.2.1 k hk).2.1, fun i hi => by simp [wI_1]; exact (hNt.2.1 k hk).2.2 i hi⟩, hNt.2.2⟩
  · rw [if_neg hs]
    rw [if_pos (by rw [Bool.eq_false_iff]; exact hs)] at h
    refine ⟨fun q => absurd q (by decide), fun _ => ?_⟩
    refine h _ ⟨by simp [wI_1], fun _ => ⟨by simp [wI_1], a, by omega, by simp [wI_1, ha]⟩, fun q => absurd q (show ¬ (2 : Int32) = 0 by decide), ?_, (((Fr.rfl'.wI rfl).wI rfl).wI rfl).wI rfl⟩
    exact ⟨by simp [wI_1, hN.1], fun k hk => ⟨by simp [wI_1]; exact (hN.2.1 k hk).1, (hN.2.1 k hk).2.1, fun i hi => by simp [wI_1]; exact (hN.2.1 k hk).2.2 i hi⟩, hN.2.2⟩
