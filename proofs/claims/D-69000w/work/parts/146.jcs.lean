/-! 146: the component judges: a block is entered; the text is left -/
section
variable {w : Wd} {d : Nat} {g : Nat → NI} {N : List (List Int32)} {M : Nat} {σ0 σ : Sg} {s : JS} {E : Nat} {tk : Nat → Bool} {ft : Option JE}
theorem JW0.tb (hG : StG g N M σ0) (h : Fr jcF σ0 σ) {k : Nat} (hk : k < M) : σ.1 8 k = gK g k ∧ σ.1 9 k = gP g k ∧ σ.1 10 k = gV g k ∧ σ.1 11 k = jO (gU g k) ∧ σ.1 12 k = jO (gF g k) ∧ σ.1 14 k = jO (gX g k) := by
  have e : ∀ o, oN (fun j => j) o = jO o := fun o => by cases o <;> rfl
  have := hG.1 k hk
  rw [e, e, e] at this
  rw [h.1 8 k rfl, h.1 9 k rfl, h.1 10 k rfl, h.1 11 k rfl, h.1 12 k rfl, h.1 14 k rfl]
  exact this
/-- a rule, whatever else the memory says -/
theorem jr_rule0 {Q : Sg → Prop} {c : Bool} {x1 x3 : Int32} {k : Nat} {e : Int32} (hd : 2 ≤ d) (hG : StG g N M σ0) (hF : Fr jcF σ0 σ) (hf : FT σ ft) (hk : k < M) (h1 : x1 = b2 c) (h3 : x3 = nI k) (he : e ≠ 0) (h : ∀ σ', Fr jcF σ0 σ' → FT σ' (orF ft (rlF g c e k)) → (∀ k j, ¬ (k = 21 ∧ (j = 2 ∨ j = 3)) → σ'.1 k j = σ.1 k j) → Q σ') : OkV w d m_Rules_rule [vR 21, vI x1, vI e, vI x3] σ Q := by
  subst h1 h3
  have hM := hG.2.2.1
  refine v_Rules_rule _ _ _ _ (by omega) ⟨fun q => ?_, fun q => ?_⟩
  · have q := b2_n0.mp q
    subst q
    refine h σ hF ?_ (fun _ _ _ => rfl)
    cases ft with
    | none => exact hf
    | some e => exact hf
  · have q := b2_0.mp q
    subst q
    refine v_Rules_fail _ _ _ (by omega) ?_
    rw [hf.none_iff]
    cases ft with
    | some e => exact ⟨fun _ => h σ hF hf (fun _ _ _ => rfl), fun q => by cases q⟩
    | none =>
      refine ⟨fun q => absurd rfl q, fun _ => ⟨vp_in_nI (by omega) (by omega), ?_⟩⟩
      rw [nI_clamp (by omega), (JW0.tb hG hF hk).2.1]
      refine h _ ((hF.wI rfl).wI rfl) ⟨by simp [wI_1], he, by simp [wI_1]⟩ (fun k j hk => by simp only [wI_1]; rw [if_neg (by omega), if_neg (by omega)])
theorem JW0.beg {τ : Sg} {k : Nat} {nb : BL} {xs : List VR} {F : Nat → Int32 × Int32 × Int32} (h : JW0 g N M σ0 σ s k tk) (hk : k < M) (hl : (jB s).length < 700) (hv : (jV s).length + xs.length ≤ 7000) (hnb : bN nb = k ∧ gV g k = bA nb ∧ gK g k = bK nb ∧ bF nb = (jV s).length ∧ bC nb ≤ 20000)
    (hxs : ∀ x, xs = [x] → bK nb = 1 ∧ τ.1 28 (jV s).length = vN x ∧ τ.1 29 (jV s).length = vS x ∧ τ.1 30 (jV s).length = vT x ∧ τ.1 35 (jV s).length = imgI (vP x) ∧ τ.1 31 (jV s).length = vE x ∧ τ.1 32 (jV s).length = nI (vC x)) (hx1 : xs.length ≤ 1)
    (hF : Fr jcF σ0 τ) (r36 : ∀ b, τ.1 36 b = if b = (jB s).length then nI k else σ.1 36 b) (r37 : ∀ b, τ.1 37 b = if b = (jB s).length then nI (jV s).length else σ.1 37 b) (r38 : ∀ b, τ.1 38 b = σ.1 38 b) (r22 : τ.1 21 22 = nI ((jB s).length + 1)) (r24 : τ.1 21 24 = nI (jB s).length) (r25 : τ.1 21 25 = nI (bC nb)) (r17 : τ.1 21 17 = nI ((jV s).length + xs.length)) (rv : ∀ a v, 28 ≤ a → a ≤ 35 → v < (jV s).length → τ.1 a v = σ.1 a v) (ran : ∀ i, i < k + 1 → τ.1 25 i = (F i).1 ∧ τ.1 26 i = (F i).2.1 ∧ τ.1 27 i = (F i).2.2) (r : ∀ a j, a = 22 ∨ a = 23 ∨ a = 24 → τ.1 a j = σ.1 a j) : JW g N M σ0 τ (jB s ++ [nb], jV s ++ xs, F) (k + 1) tk := by
  obtain ⟨h1, h2, hc, h3, h5, h6, h7, h8⟩ := h
  have lB : (jB s ++ [nb]).length = (jB s).length + 1 := by simp
  have lV : (jV s ++ xs).length = (jV s).length + xs.length := by simp
  have gBo : ∀ b, b < (jB s).length → (jB s ++ [nb]).getD b bl0 = (jB s).getD b bl0 := fun b hb => gD_app hb
  have gBn : (jB s ++ [nb]).getD (jB s).length bl0 = nb := gD_last
  refine ⟨hF, ⟨?_, ?_, fun b hb => ?_⟩, ⟨?_, ?_, fun v hv' => ?_⟩, fun _ => ?_, ran, fun j hj => ?_, fun p hp => ?_, by omega⟩
  · show _ = nI (jB s ++ [nb]).length; rw [lB]; exact r22
  · show (jB s ++ [nb]).length ≤ 700; rw [lB]; omega
  · have hb : b < (jB s ++ [nb]).length := hb
    rw [lB] at hb
    show τ.1 36 b = nI (bN ((jB s ++ [nb]).getD b bl0)) ∧ τ.1 37 b = nI (bF ((jB s ++ [nb]).getD b bl0)) ∧ bN ((jB s ++ [nb]).getD b bl0) < M ∧ gV g (bN ((jB s ++ [nb]).getD b bl0)) = bA ((jB s ++ [nb]).getD b bl0) ∧ gK g (bN ((jB s ++ [nb]).getD b bl0)) = bK ((jB s ++ [nb]).getD b bl0) ∧ bF ((jB s ++ [nb]).getD b bl0) ≤ (jV s ++ xs).length ∧ (b + 1 < (jB s ++ [nb]).length → τ.1 38 b = nI (bC ((jB s ++ [nb]).getD b bl0)) ∧ bF ((jB s ++ [nb]).getD b bl0) ≤ bF ((jB s ++ [nb]).getD (b + 1) bl0)) ∧ bC ((jB s ++ [nb]).getD b bl0) ≤ 20000
    rw [r36, r37, r38, lV, lB]
    by_cases e : b = (jB s).length
    · subst e
      rw [if_pos rfl, if_pos rfl, gBn, hnb.1, hnb.2.2.2.1]
      exact ⟨rfl, rfl, hk, hnb.2.1, hnb.2.2.1, by omega, fun q => absurd q (by omega), hnb.2.2.2.2⟩
    · have hb' : b < (jB s).length := by omega
      obtain ⟨a1, a2, a3, a4, a5, a6, a7, a8⟩ := h2.2.2 b hb'
      rw [if_neg e, if_neg e, gBo b hb']
      refine ⟨a1, a2, a3, a4, a5, by omega, fun _ => ⟨hc b hb', ?_⟩, a8⟩
      by_cases e2 : b + 1 < (jB s).length
      · rw [gBo _ e2]; exact (a7 e2).2
      · rw [show b + 1 = (jB s).length by omega, gBn, hnb.2.2.2.1]; exact a6
  · show _ = nI (jV s ++ xs).length; rw [lV]; exact r17
  · show (jV s ++ xs).length ≤ 7000; rw [lV]; exact hv
  · have hv' : v < (jV s ++ xs).length := hv'
    rw [lV] at hv'
    show τ.1 28 v = vN ((jV s ++ xs).getD v vr0) ∧ τ.1 29 v = vS ((jV s ++ xs).getD v vr0) ∧ τ.1 30 v = vT ((jV s ++ xs).getD v vr0) ∧ τ.1 35 v = imgI (vP ((jV s ++ xs).getD v vr0)) ∧ (vT ((jV s ++ xs).getD v vr0) ≠ -1 → τ.1 31 v = vE ((jV s ++ xs).getD v vr0) ∧ τ.1 32 v = nI (vC ((jV s ++ xs).getD v vr0)) ∧ (isRes (jB s ++ [nb], jV s ++ xs, F) v ∨ (τ.1 33 v = vW ((jV s ++ xs).getD v vr0) ∧ τ.1 34 v = nI (vM ((jV s ++ xs).getD v vr0)))))
    by_cases e : v < (jV s).length
    · rw [gD_app e, rv 28 v (by omega) (by omega) e, rv 29 v (by omega) (by omega) e, rv 30 v (by omega) (by omega) e, rv 31 v (by omega) (by omega) e, rv 32 v (by omega) (by omega) e, rv 33 v (by omega) (by omega) e, rv 34 v (by omega) (by omega) e, rv 35 v (by omega) (by omega) e]
      have z := h3.2.2 v e
      refine ⟨z.1, z.2.1, z.2.2.1, z.2.2.2.1, fun q => ?_⟩
      have y := z.2.2.2.2 q
      refine ⟨y.1, y.2.1, y.2.2.elim (fun ⟨b, q1, q2, q3⟩ => Or.inl ⟨b, ?_, ?_, ?_⟩) Or.inr⟩
      · show b < (jB s ++ [nb]).length; rw [lB]; omega
      · show bK ((jB s ++ [nb]).getD b bl0) = 1; rw [gBo b q1]; exact q2
      · show bF ((jB s ++ [nb]).getD b bl0) = v; rw [gBo b q1]; exact q3
    · cases xs with
      | nil => simp at hv'; omega
      | cons x xs =>
        have : xs = [] := by cases xs with
          | nil => rfl
          | cons y ys => simp at hx1
        subst this
        obtain ⟨y0, y1, y2, y3, y4, y5, y6⟩ := hxs x rfl
        have ev : v = (jV s).length := by simp at hv'; omega
        subst ev
        rw [gD_last]
        refine ⟨y1, y2, y3, y4, fun _ => ⟨y5, y6, Or.inl ⟨(jB s).length, ?_, ?_, ?_⟩⟩⟩
        · show (jB s).length < (jB s ++ [nb]).length; rw [lB]; omega
        · show bK ((jB s ++ [nb]).getD _ bl0) = 1; rw [gBn]; exact y0
        · show bF ((jB s ++ [nb]).getD _ bl0) = _; rw [gBn]; exact hnb.2.2.2.1
  · have el : (jB ((jB s ++ [nb], jV s ++ xs, F) : JS)).length - 1 = (jB s).length := by show (jB s ++ [nb]).length - 1 = _; rw [lB]; rfl
    rw [cb_gB, el]
    have : gB ((jB s ++ [nb], jV s ++ xs, F) : JS) (jB s).length = nb := gBn
    rw [this]; exact ⟨r24, r25⟩
  · rw [r 23 j (by omega), r 24 j (by omega)]; exact h6 j hj
  · rw [r 22 p (by omega)]; exact h7 p hp
theorem jr_enterB {Q : Sg → Prop} {k : Nat} {x1 : Int32} (hd : 3 ≤ d) (hG : StG g N M σ0) (hR : GrT g M) (hS : JW0 g N M σ0 σ s k tk) (hf : FT σ none) (hk : k < M) (hq : gK g k = 1 ∨ gK g k = 2 ∨ gK g k = 3) (hl : (jB s).length < 700) (hv : (jV s).length < 6900) (h1 : x1 = nI k) (h : ∀ σ', JP g N M σ0 σ' (enS g N k s) (k + 1) tk → Q σ') : OkV w d m_Rules_enter [vR 21, vI x1] σ Q := by
  subst h1
  have hM := hG.2.2.1
  have hNl := hG.2.2.2.2.1
  have hin : vp_in (nI k) 33500 := vp_in_nI (by omega) (by omega)
  obtain ⟨nj, hnj, en⟩ := hG.nm hk (by rcases hq with e | e | e <;> rw [e] <;> decide)
  obtain ⟨hF0, hB, hBc, hVm, hAn, hNm, hTk, hEM⟩ := hS
  have T := JW0.tb hG hF0 hk
  -- the state behind clearing
  generalize eσ : wI (wI (wI (wI σ 25 k (-1)) 26 k (-1)) 27 k (-1)) 21 24 (nI (jB s).length) = σ1
  have O1 : ∀ a j, ¬ (25 ≤ a ∧ a ≤ 27 ∧ j = k) → ¬ (a = 21 ∧ j = 24) → σ1.1 a j = σ.1 a j := by
    intro a j q1 q2
    rw [← eσ]; simp only [wI_1]
    rw [if_neg (by omega), if_neg (by omega), if_neg (by omega), if_neg (by omega)]
  have hF1 : Fr jcF σ0 σ1 := by rw [← eσ]; exact hF0.trans ((((Fr.rfl'.wI rfl).wI rfl).wI rfl).wI rfl)
  have hf1 : FT σ1 none := by rw [← eσ]; exact (((hf.wr (by omega)).wr (by omega)).wr (by omega)).wr (by omega)
  have s124 : σ1.1 21 24 = nI (jB s).length := by rw [← eσ, wI_1, if_pos ⟨rfl, rfl⟩]
  have an1 : ∀ i, i < k + 1 → σ1.1 25 i = jT (setA s k (-1, -1, -1)) i ∧ σ1.1 26 i = jC (setA s k (-1, -1, -1)) i ∧ σ1.1 27 i = jM (setA s k (-1, -1, -1)) i := by
    intro i hi
    have := an_new hAn i hi
    rw [← eσ]
    rw [wI_1, if_neg (by omega), wI_1 (a := 26), if_neg (by omega), wI_1 (a := 27), if_neg (by omega)]
    exact this
  -- the rules
  have eEn : ∀ (c1 c2 : Bool), (decide (jB s = []) || decide (bK (cb s) ≠ 3)) = c1 → (decide (sdI N (gV g k) < 0) && decide (bfd (gV g k) (-1) (jB s) 0 = none)) = c2 → enS g N k s = toR (orF (rlF g c1 10 k) (rlF g c2 11 k)) (jB s ++ [(k, gV g k, gK g k, (jV s).length, if gK g k = 3 then 960 else if gK g k = 1 then 1 else 0, -1)], if gK g k = 1 then jV s ++ [(gV g k, 0, gV g (k + 1), 0, 0, 0, 1, -1, 0)] else jV s, (setA s k (-1, -1, -1)).2.2) := by
    intro c1 c2 e1 e2
    unfold enS
    rw [e1, rl_eq]
    cases rlF g c1 10 k with
    | some e => rfl
    | none =>
      show Except.bind (rl g (decide (sdI N (gV g k) < 0) && decide (bfd (gV g k) (-1) (jB s) 0 = none)) 11 k (setA s k (-1, -1, -1))) _ = _
      rw [e2, rl_eq]
      cases rlF g c2 11 k with
      | some e => rfl
      | none => rfl
  -- the end
  have b132 : ∀ (c1 c2 : Bool) (σ2 : Sg), (decide (jB s = []) || decide (bK (cb s) ≠ 3)) = c1 → (decide (sdI N (gV g k) < 0) && decide (bfd (gV g k) (-1) (jB s) 0 = none)) = c2 → Fr jcF σ0 σ2 → FT σ2 (rlF g c1 10 k) → (∀ k j, ¬ (k = 21 ∧ (j = 2 ∨ j = 3)) → σ2.1 k j = σ1.1 k j) → Bk w d 0 0 m_Rules_enter 0 0 (qv Q) 132 [oR 21, oI (nI k), oI (gK g k), oI (gV g k), none] [vI (b2 c2), vR 21] σ2 := by
    intro c1 c2 σ2 e1 e2 hF2 hf2 k2
    rw [eEn c1 c2 e1 e2] at h
    refine v_Rules_enter_132 _ _ _ _ _ (jr_rule0 (by omega) hG hF2 hf2 hk rfl rfl (by decide) (fun σ3 hF3 hf3 k3 => ?_))
    have k31 : ∀ a j, ¬ (a = 21 ∧ (j = 2 ∨ j = 3)) → σ3.1 a j = σ1.1 a j := fun a j q => by rw [k3 a j q, k2 a j q]
    have s22 : σ3.1 21 22 = nI (jB s).length := by rw [k31 21 22 (by omega), O1 21 22 (by omega) (by omega)]; exact hB.1
    have s17 : σ3.1 21 17 = nI (jV s).length := by rw [k31 21 17 (by omega), O1 21 17 (by omega) (by omega)]; exact hVm.1
    rw [s22, s17, nI_clamp (by omega), nI_1]
    refine ⟨vp_in_nI (by omega) (by omega), vp_in_nI (by omega) (by omega), ?_⟩
    have T3 := JW0.tb hG hF3 hk
    have n5 : ¬ gK g k = 5 := by rcases hq with e | e | e <;> rw [e] <;> decide
    -- reads behind the writes
    have build : ∀ (τ : Sg) (xs : List VR), (xs.length ≤ 1) → Fr jcF σ0 τ → FT τ (orF (rlF g c1 10 k) (rlF g c2 11 k)) → (∀ a j, ¬ (a = 21 ∧ (j = 22 ∨ j = 25 ∨ j = 17)) → ¬ (a = 36 ∧ j = (jB s).length) → ¬ (a = 37 ∧ j = (jB s).length) → ¬ (28 ≤ a ∧ a ≤ 35 ∧ j = (jV s).length) → τ.1 a j = σ3.1 a j) → τ.1 36 (jB s).length = nI k → τ.1 37 (jB s).length = nI (jV s).length → τ.1 21 22 = nI ((jB s).length + 1) → τ.1 21 25 = nI (if gK g k = 3 then 960 else if gK g k = 1 then 1 else 0) → τ.1 21 17 = nI ((jV s).length + xs.length) → (∀ x, xs = [x] → gK g k = 1 ∧ τ.1 28 (jV s).length = vN x ∧ τ.1 29 (jV s).length = vS x ∧ τ.1 30 (jV s).length = vT x ∧ τ.1 35 (jV s).length = imgI (vP x) ∧ τ.1 31 (jV s).length = vE x ∧ τ.1 32 (jV s).length = nI (vC x)) → (if gK g k = 1 then jV s ++ [(gV g k, 0, gV g (k + 1), 0, 0, 0, 1, -1, 0)] else jV s) = jV s ++ xs → Q τ := by
      intro τ xs hx hFt hft O r36 r37 r22 r25 r17 hxs ev
      refine h τ ?_
      rw [ev]
      have k1o : ∀ a j, ¬ (a = 21 ∧ (j = 22 ∨ j = 25 ∨ j = 17)) → ¬ (a = 36 ∧ j = (jB s).length) → ¬ (a = 37 ∧ j = (jB s).length) → ¬ (28 ≤ a ∧ a ≤ 35 ∧ j = (jV s).length) → ¬ (25 ≤ a ∧ a ≤ 27 ∧ j = k) → a ≠ 21 → τ.1 a j = σ.1 a j := by
        intro a j q1 q2 q3 q4 q5 q6
        rw [O a j q1 q2 q3 q4, k31 a j (by omega), O1 a j q5 (by omega)]
      refine JP.of (JW0.beg (σ := σ) ⟨hF0, hB, hBc, hVm, hAn, hNm, hTk, hEM⟩ hk hl (by omega) ⟨rfl, rfl, rfl, rfl, ?_⟩ hxs hx hFt ?_ ?_ ?_ r22 ?_ r25 r17 ?_ ?_ ?_) hft
      · show (if gK g k = 3 then 960 else if gK g k = 1 then 1 else 0) ≤ 20000
        split
        · omega
        · split <;> omega
      · intro b
        by_cases e : b = (jB s).length
        · rw [if_pos e, e]; exact r36
        · rw [if_neg e]; exact k1o 36 b (by omega) (by omega) (by omega) (by omega) (by omega) (by omega)
      · intro b
        by_cases e : b = (jB s).length
        · rw [if_pos e, e]; exact r37
        · rw [if_neg e]; exact k1o 37 b (by omega) (by omega) (by omega) (by omega) (by omega) (by omega)
      · intro b; exact k1o 38 b (by omega) (by omega) (by omega) (by omega) (by omega) (by omega)
      · rw [O 21 24 (by omega) (by omega) (by omega) (by omega), k31 21 24 (by omega)]; exact s124
      · intro a v q1 q2 q3; exact k1o a v (by omega) (by omega) (by omega) (by omega) (by omega) (by omega)
      · intro i hi
        rw [O 25 i (by omega) (by omega) (by omega) (by omega), O 26 i (by omega) (by omega) (by omega) (by omega), O 27 i (by omega) (by omega) (by omega) (by omega), k31 25 i (by omega), k31 26 i (by omega), k31 27 i (by omega)]
        exact an1 i hi
      · intro a j q; exact k1o a j (by omega) (by omega) (by omega) (by omega) (by omega) (by omega)
    have plain : ∀ (y : Nat), gK g k ≠ 1 → (if gK g k = 3 then 960 else if gK g k = 1 then 1 else 0) = y → Q (wI (wI (wI (wI σ3 36 (jB s).length (nI k)) 37 (jB s).length (nI (jV s).length)) 21 22 (nI ((jB s).length + 1))) 21 25 (nI y)) := by
      intro y n1 hy
      refine build _ [] (by simp) ((((hF3.wI rfl).wI rfl).wI rfl).wI rfl) ((((hf3.wr (by omega)).wr (by omega)).wr (by omega)).wr (by omega)) (fun a j q1 q2 q3 q4 => ?_) (by simp [wI_1]) (by simp [wI_1]) (by simp [wI_1]) (by rw [wI_1, if_pos ⟨rfl, rfl⟩, hy]) ?_ (fun x q => by cases q) (by rw [if_neg n1, List.append_nil])
      · simp only [wI_1]; rw [if_neg (by omega), if_neg (by omega), if_neg (by omega), if_neg (by omega)]
      · simp only [wI_1]; rw [if_neg (by omega), if_neg (by omega), if_neg (by omega), if_neg (by omega)]; exact s17
    refine ⟨fun n3 => ⟨fun n1 => ⟨fun _ => plain 0 n1 (by rw [if_neg n3, if_neg n1]), fun e => absurd e n5⟩, fun e1 => ⟨hin, ?_⟩⟩, fun e3 => ⟨fun n1 => ⟨fun _ => plain 960 n1 (by rw [if_pos e3]), fun e => absurd e n5⟩, fun e1 => by rw [e3] at e1; exact absurd e1 (by decide)⟩⟩
    -- a function
    obtain ⟨L, f, hc, hr, hff, hL⟩ := hR k hk
    rw [e1] at hr
    obtain ⟨a, R, eL⟩ := RowG.nfin (g := g) (a := 2) (L := L) hr hff (by decide)
    have eF : gF g k = some a := by rw [eL] at hc; exact hc.1
    have ha := (hG.2.1 k hk).2.1 a eF
    have eak : a = k + 1 := ha.1
    subst eak
    rw [nI_clamp (by omega), T3.2.2.2.2.1, eF, show jO (some (k + 1)) = nI (k + 1) from rfl, nI_clamp (by omega), (JW0.tb hG hF3 ha.2.1).2.2.1]
    refine ⟨vp_in_nI (by omega) (by omega), v_Rules_addVariable _ _ _ (by omega) ?_⟩
    have s17' : (wI (wI (wI (wI σ3 36 (jB s).length (nI k)) 37 (jB s).length (nI (jV s).length)) 21 22 (nI ((jB s).length + 1))) 21 25 0).1 21 17 = nI (jV s).length := by
      simp only [wI_1]; rw [if_neg (by omega), if_neg (by omega), if_neg (by omega), if_neg (by omega)]; exact s17
    have vin : vp_in (nI (jV s).length) 16384 := vp_in_nI (by omega) (by omega)
    rw [s17', nI_1, nI_pred, nI_clamp (by omega)]
    refine ⟨vin, vin, vin, vin, vin, vin, fun _ => ?_, fun e => absurd e n5⟩
    refine build _ [(gV g k, 0, gV g (k + 1), 0, 0, 0, 1, -1, 0)] (by simp) ?_ ?_ (fun a j q1 q2 q3 q4 => ?_) (by simp [wI_1]) (by simp [wI_1]) (by simp [wI_1]) ?_ (by simp [wI_1]) (fun x q => ?_) (by rw [if_pos e1])
    · exact ((((((((((((hF3.wI rfl).wI rfl).wI rfl).wI rfl).wI rfl).wI rfl).wI rfl).wI rfl).wI rfl).wI rfl).wI rfl).wI rfl)
    · exact ((((((((((((hf3.wr (by omega)).wr (by omega)).wr (by omega)).wr (by omega)).wr (by omega)).wr (by omega)).wr (by omega)).wr (by omega)).wr (by omega)).wr (by omega)).wr (by omega)).wr (by omega))
    · simp only [wI_1]
      repeat rw [if_neg (by omega)]
    · rw [wI_1, if_pos ⟨rfl, rfl⟩, if_neg (by rw [e1]; decide), if_pos e1]; rfl
    · cases q
      refine ⟨e1, by simp [wI_1]; rfl, by simp [wI_1]; rfl, by simp [wI_1]; rfl, by simp [wI_1]; rfl, by simp [wI_1]; rfl, by simp [wI_1]; rfl⟩
  have b92 : ∀ c1 : Bool, (decide (jB s = []) || decide (bK (cb s) ≠ 3)) = c1 → Bk w d 0 0 m_Rules_enter 0 0 (qv Q) 92 [oR 21, oI (nI k), oI (gK g k), none, none] [vI (b2 c1), vR 21] σ1 := by
    intro c1 e1
    refine v_Rules_enter_92 _ _ _ _ (jr_rule0 (by omega) hG hF1 hf1 hk rfl rfl (by decide) (fun σ2 hF2 hf2 k2 => ⟨hin, ?_⟩))
    have hf2 : FT σ2 (rlF g c1 10 k) := hf2
    rw [nI_clamp (by omega), (JW0.tb hG hF2 hk).2.2.1]
    have s23 : σ2.1 23 nj = sdI N (gV g k) := by rw [k2 23 nj (by omega), O1 23 nj (by omega) (by omega), en]; exact (hNm nj hnj).1
    have hB2 : JB g M σ2 s := by
      refine ⟨by rw [k2 21 22 (by omega), O1 21 22 (by omega) (by omega)]; exact hB.1, hB.2.1, fun b hb => ?_⟩
      rw [k2 36 b (by omega), k2 37 b (by omega), k2 38 b (by omega), O1 36 b (by omega) (by omega), O1 37 b (by omega) (by omega), O1 38 b (by omega) (by omega)]
      exact hB.2.2 b hb
    rw [en, nI_clamp (by omega), s23, ← en]
    have no : (decide (sdI N (gV g k) < 0) && decide (bfd (gV g k) (-1) (jB s) 0 = none)) = false → Bk w d 0 0 m_Rules_enter 0 0 (qv Q) 131 [oR 21, oI (nI k), oI (gK g k), oI (gV g k), none] [vR 21] σ2 := fun q => v_Rules_enter_131 _ _ _ _ (b132 c1 false σ2 e1 q hF2 hf2 k2)
    refine ⟨by rw [en]; exact vp_in_nI (by omega) (by omega), fun q => no (by rw [decide_eq_false (Int32.not_lt.mpr q)]; rfl), fun q => jr_blockNamed (m := (jB s).length) (by omega) hG hF2 hB2 (by rw [k2 21 24 (by omega)]; exact s124) (Nat.le_refl _) ?_⟩
    rw [List.take_length, jO_ge (fun j hj => by have := (bfd_in hj).2.1; omega)]
    refine ⟨fun q2 => no (by rw [decide_eq_false q2, Bool.and_false]), fun q2 => b132 c1 true σ2 e1 ?_ hF2 hf2 k2⟩
    rw [decide_eq_true (Int32.not_le.mp q), decide_eq_true (Decidable.not_not.mp q2)]; rfl
  refine v_Rules_enter _ _ (by omega) ⟨hin, hin, hin, hin, ?_⟩
  rw [nI_clamp (by omega), T.1, hf.none_iff, hB.1]
  have g1 : ¬ gK g k < 1 := by rcases hq with e | e | e <;> rw [e] <;> decide
  have g3 : ¬ 3 < gK g k := by rcases hq with e | e | e <;> rw [e] <;> decide
  refine ⟨fun q => absurd rfl q, fun _ => ⟨fun q => absurd q g1, fun _ => ⟨fun q => absurd q g3, fun _ => ?_⟩⟩⟩
  rw [eσ]
  have z : nI (jB s).length = 0 ↔ jB s = [] := by rw [← nI_0, nI_eq (by omega) (by decide)]; exact List.length_eq_zero_iff
  rw [z]
  refine ⟨fun q => v_Rules_enter_87 _ _ _ (b92 true (by rw [decide_eq_true q]; rfl)), fun q => ?_⟩
  have hlt := cb_lt q
  have Bl := hB.2.2 _ hlt
  have esub : nI (jB s).length - 1 = nI ((jB s).length - 1) := by rw [show (jB s).length = (jB s).length - 1 + 1 by omega, nI_pred]; rfl
  rw [esub, nI_clamp (by omega), Bl.1, nI_clamp (by omega), (JW0.tb hG hF0 Bl.2.2.1).1, Bl.2.2.2.2.1]
  refine ⟨vp_in_nI (by omega) (by omega), vp_in_nI (by omega) (by omega), fun q3 => b92 false ?_, fun q3 => v_Rules_enter_87 _ _ _ (b92 true ?_)⟩
  · have q3 : bK (cb s) = 3 := q3
    rw [decide_eq_false q, q3]; rfl
  · have q3 : ¬ bK (cb s) = 3 := q3
    rw [decide_eq_true (p := bK (cb s) ≠ 3) q3, Bool.or_true]
end
