/-! 145: the component judges: a block is left -/
def JP0 (g : Nat → NI) (N : List (List Int32)) (M : Nat) (σ0 σ : Sg) (r : JR) (E : Nat) (tk : Nat → Bool) : Prop := match r with
  | .ok s => JW0 g N M σ0 σ s E tk ∧ FT σ none
  | .error e => Fr jcF σ0 σ ∧ FT σ (some e)
section
variable {w : Wd} {d : Nat} {g : Nat → NI} {N : List (List Int32)} {M : Nat} {σ0 σ : Sg} {s : JS} {E : Nat} {tk : Nat → Bool} {ft : Option JE}
theorem JP0.of {f : Option JE} (hS : JW0 g N M σ0 σ s E tk) (hf : FT σ f) : JP0 g N M σ0 σ (toR f s) E tk := by
  cases f with
  | none => exact ⟨hS, hf⟩
  | some e => exact ⟨hS.1, hf⟩
/-- a block's cells are told -/
theorem JW.to0 {n : Nat} (h : JW g N M σ0 σ s E tk) (hb : jB s ≠ []) (hC : bC (cb s) + n ≤ 20000) : JW0 g N M σ0 (wI σ 38 ((jB s).length - 1) (nI (bC (cb s) + n))) (addC s n) E tk := by
  obtain ⟨h1, h2, h3, h4, h5, h6, h7, h8⟩ := h
  have hlt := cb_lt hb
  have O : ∀ a j, ¬ (a = 38 ∧ j = (jB s).length - 1) → (wI σ 38 ((jB s).length - 1) (nI (bC (cb s) + n))).1 a j = σ.1 a j := fun a j q => by rw [wI_1, if_neg q]
  have eg : ∀ b, (jB (addC s n)).getD b bl0 = gB (addC s n) b := fun b => rfl
  have eN : ∀ b, bN (gB (addC s n) b) = bN (gB s b) ∧ bA (gB (addC s n) b) = bA (gB s b) := fun b => by
    rw [addC_gB hb]; split
    · rename_i e; rw [e]; exact ⟨rfl, rfl⟩
    · exact ⟨rfl, rfl⟩
  refine ⟨h1.trans (Fr.rfl'.wI rfl), ⟨?_, ?_, fun b hq => ?_⟩, fun b hq => ?_, ⟨?_, h3.2.1, fun v hv => ?_⟩, fun k hk => ?_, fun j hj => ?_, fun p hp => ?_, h8⟩
  · rw [O 21 22 (by omega), addC_len]; exact h2.1
  · rw [addC_len]; exact h2.2.1
  · rw [addC_len] at hq
    obtain ⟨a1, a2, a3, a4, a5, a6, a7, a8⟩ := h2.2.2 b hq
    rw [O 36 b (by omega), O 37 b (by omega), eg, eg, (eN b).1, (eN b).2, addC_K hb, addC_F hb, addC_F hb, addC_C hb, addC_len]
    refine ⟨a1, a2, a3, a4, a5, a6, fun q => ?_, ?_⟩
    · rw [if_neg (by omega), O 38 b (by omega)]; exact a7 q
    · split
      · rename_i e
        have : bC (gB s b) = bC (cb s) := by rw [e]; rfl
        omega
      · exact a8
  · rw [addC_len] at hq
    rw [addC_C hb]
    by_cases e : b = (jB s).length - 1
    · rw [if_pos e, e, wI_1, if_pos ⟨rfl, rfl⟩]; rfl
    · rw [if_neg e, O 38 b (by omega)]
      exact ((h2.2.2 b hq).2.2.2.2.2.2.1 (by omega)).1
  · rw [O 21 17 (by omega)]; exact h3.1
  · rw [O 28 v (by omega), O 29 v (by omega), O 30 v (by omega), O 31 v (by omega), O 32 v (by omega), O 33 v (by omega), O 34 v (by omega), O 35 v (by omega)]
    have := h3.2.2 v hv
    refine ⟨this.1, this.2.1, this.2.2.1, this.2.2.2.1, fun q => ?_⟩
    have z := this.2.2.2.2 q
    refine ⟨z.1, z.2.1, z.2.2.elim (fun ⟨b, q1, q2, q3⟩ => Or.inl ⟨b, by rw [addC_len]; exact q1, ?_, ?_⟩) Or.inr⟩
    · rw [eg, addC_K hb]; exact q2
    · rw [eg, addC_F hb]; exact q3
  · rw [O 25 k (by omega), O 26 k (by omega), O 27 k (by omega)]; exact h5 k hk
  · rw [O 23 j (by omega), O 24 j (by omega)]; exact h6 j hj
  · rw [O 22 p (by omega)]; exact h7 p hp
theorem jr_block2 {Q : Sg → Prop} {e : Nat} {la : Bool} (hG : StG g N M σ0) (heM : e ≤ M) : ∀ (f i : Nat) (s : JS) (σ : Sg), i + f = e → JW g N M σ0 σ s E tk → FT σ ft → jB s ≠ [] → bC (cb s) + f ≤ 19800 →
    (∀ σ', JP0 g N M σ0 σ' (toR ft (addC ((rngL i e).foldl (gv2 g) s) (if la = true then 156 else 0))) E tk → Q σ') → Bk w d 0 0 m_Rules_leaveBlock 0 0 (qv Q) 207 [oR 21, none, none, oI (nI e), oI (b2 la), oI (nI i)] [] σ := by
  have hM := hG.2.2.1
  intro f
  induction f with
  | zero =>
    intro i s σ hi hS hf hb hC hQ
    have hl := hS.2.1.2.1
    have hlt := cb_lt hb
    rw [rngL_nil (by omega), List.foldl_nil] at hQ
    refine v_Rules_leaveBlock_207 _ _ _ _ ?_
    rw [(hS.2.2.2.1 hb).1, (hS.2.2.2.1 hb).2, nI_leI (by omega) (by omega), nI_clamp (by omega)]
    have bin : vp_in (nI ((jB s).length - 1)) 800 := vp_in_nI (by omega) (by omega)
    refine ⟨fun _ => ⟨fun q => ⟨bin, ?_⟩, fun q => ⟨bin, ?_⟩⟩, fun q => absurd (by omega) q⟩
    · rw [b2_0.mp q, if_neg (by decide)] at hQ
      rw [show (0 : Int32) = nI 0 from rfl, nI_add]
      exact hQ _ (JP0.of (hS.to0 hb (by omega)) (hf.wr (by omega)))
    · rw [b2_n0.mp q, if_pos rfl] at hQ
      rw [show (156 : Int32) = nI 156 from rfl, nI_add]
      exact hQ _ (JP0.of (hS.to0 hb (by omega)) (hf.wr (by omega)))
  | succ f ih =>
    intro i s σ hi hS hf hb hC hQ
    have iin : vp_in (nI i) 33500 := vp_in_nI (by omega) (by omega)
    rw [rngL_cons (by omega), List.foldl_cons] at hQ
    refine v_Rules_leaveBlock_207 _ _ _ _ ?_
    rw [nI_leI (by omega) (by omega), nI_clamp (by omega), nI_1, (hS.tb hG (by omega)).1, (hS.tb hG (by omega)).2.2.1, (hS.2.2.2.1 hb).2, nI_1]
    have skip : ¬ (gK g i = 25 ∧ 1 < gV g i) → Bk w d 0 0 m_Rules_leaveBlock 0 0 (qv Q) 207 [oR 21, none, none, oI (nI e), oI (b2 la), oI (nI (i + 1))] [] σ := by
      intro q
      have eg : gv2 g s i = s := if_neg q
      rw [eg] at hQ
      exact ih (i + 1) s σ (by omega) hS hf hb (by omega) hQ
    refine ⟨fun q => absurd q (by omega), fun _ => ⟨iin, fun q => skip (fun r => q r.1), fun q => ⟨iin, fun q2 => skip (fun r => absurd r.2 (Int32.not_lt.mpr q2)), fun q2 => ⟨iin, ?_⟩⟩⟩⟩
    have eg : gv2 g s i = addC (setC s i (nI (bC (cb s)))) 1 := if_pos ⟨q, Int32.not_le.mp q2⟩
    rw [eg] at hQ
    have hS2 : JW g N M σ0 (wI (wI σ 26 i (nI (bC (cb s)))) 21 25 (nI (bC (cb s) + 1))) (addC (setC s i (nI (bC (cb s)))) 1) E tk := (hS.wC (k := i) (v := nI (bC (cb s)))).gr hb (by show bC (cb s) + 1 ≤ _; omega)
    refine ih (i + 1) _ _ (by omega) hS2 ((hf.wr (by omega)).wr (by omega)) (addC_ne (s := setC s i _) hb) ?_ hQ
    rw [addC_cbC (s := setC s i _) hb]; show bC (cb s) + 1 + f ≤ _; omega
theorem jr_block1 {Q : Sg → Prop} {k e : Nat} (hG : StG g N M σ0) (hke : k ≤ e) (heM : e ≤ M) : ∀ (f i : Nat) (s : JS) (σ : Sg) (la : Bool), i + f = e → k ≤ i → JW g N M σ0 σ s E tk → FT σ ft → jB s ≠ [] → bC (cb s) + f ≤ 12000 →
    (∀ σ', JP0 g N M σ0 σ' (toR ft (addC ((rngL k e).foldl (gv2 g) ((rngL i e).foldl (gv1 g) s)) (if (la || (rngL i e).any (fun i => decide (gK g i = 22))) = true then 156 else 0))) E tk → Q σ') → Bk w d 0 0 m_Rules_leaveBlock 0 0 (qv Q) 87 [oR 21, oI (nI k), none, oI (nI e), oI (b2 la), oI (nI i)] [] σ := by
  have hM := hG.2.2.1
  intro f
  induction f with
  | zero =>
    intro i s σ la hi hki hS hf hb hC hQ
    rw [rngL_nil (k := i) (by omega), List.foldl_nil, List.any_nil, Bool.or_false] at hQ
    refine v_Rules_leaveBlock_87 _ _ _ _ _ ?_
    rw [nI_leI (by omega) (by omega)]
    exact ⟨fun _ => jr_block2 hG heM (e - k) k s σ (by omega) hS hf hb (by omega) hQ, fun q => absurd (by omega) q⟩
  | succ f ih =>
    intro i s σ la hi hki hS hf hb hC hQ
    have iin : vp_in (nI i) 33500 := vp_in_nI (by omega) (by omega)
    rw [rngL_cons (k := i) (by omega), List.foldl_cons, List.any_cons, ← Bool.or_assoc] at hQ
    have T := hS.tb hG (show i < M by omega)
    have z0 : b2 la ||| 0 = b2 (la || false) := b2_or la false
    have z1 : b2 la ||| 1 = b2 (la || true) := b2_or la true
    refine v_Rules_leaveBlock_87 _ _ _ _ _ ?_
    rw [nI_leI (by omega) (by omega), nI_clamp (by omega), nI_1, T.1]
    -- CASE and FOR
    have b123 : ∀ (s' : JS) (a : Nat), (a = 26 ∧ gK g i = 16 ∧ s' = setC s i (nI (bC (cb s)))) ∨ (a = 27 ∧ gK g i ≠ 16 ∧ gK g i = 19 ∧ s' = setM s i (nI (bC (cb s)))) → Bk w d 0 0 m_Rules_leaveBlock 0 0 (qv Q) 123 [oR 21, oI (nI k), none, oI (nI e), oI (b2 la), oI (nI i)] [] σ := by
      intro s' a ha
      have go : ∀ y : Int32, gK g i ≠ 22 → gv1 g s i = addC s' 1 → JW g N M σ0 (wI σ a i (nI (bC (cb s)))) s' E tk → cb s' = cb s → jB s' = jB s → a ≠ 21 → Bk w d 0 0 m_Rules_leaveBlock 0 0 (qv Q) 87 [oR 21, oI (nI k), none, oI (nI e), oI (b2 la ||| 0), oI (nI (i + 1))] [] (wI (wI σ a i (nI (bC (cb s)))) 21 25 (nI (bC (cb s) + 1))) := by
        intro _ n22 eg hS1 ecb ejb hna
        rw [eg, decide_eq_false n22] at hQ
        rw [z0]
        have hb1 : jB s' ≠ [] := by rw [ejb]; exact hb
        have hS2 := hS1.gr (n := 1) hb1 (by rw [ecb]; omega)
        rw [ecb] at hS2
        refine ih (i + 1) _ _ _ (by omega) (by omega) hS2 ((hf.wr (by omega)).wr (by omega)) (addC_ne hb1) ?_ hQ
        rw [addC_cbC hb1, ecb]; omega
      refine v_Rules_leaveBlock_123 _ _ _ _ _ ⟨iin, ?_⟩
      rw [nI_clamp (by omega), T.1, (hS.2.2.2.1 hb).2, nI_1, nI_1]
      rcases ha with ⟨ea, k16, es⟩ | ⟨ea, n16, k19, es⟩
      · subst ea es
        have n22 : gK g i ≠ 22 := by rw [k16]; decide
        refine ⟨fun q => absurd k16 q, fun _ => ⟨iin, iin, fun _ => go 0 n22 (if_pos k16) hS.wC rfl rfl (by omega), fun q => absurd q n22⟩⟩
      · subst ea es
        have n22 : gK g i ≠ 22 := by rw [k19]; decide
        have eg : gv1 g s i = addC (setM s i (nI (bC (cb s)))) 1 := by unfold gv1; rw [if_neg n16, if_pos k19]
        refine ⟨fun _ => ⟨iin, iin, fun _ => go 0 n22 eg hS.wM rfl rfl (by omega), fun q => absurd q n22⟩, fun q => absurd q n16⟩
    refine ⟨fun q => absurd q (by omega), fun _ => ⟨iin, fun k16 => b123 _ 26 (Or.inl ⟨rfl, k16, rfl⟩), fun n16 => ⟨iin, fun n19 => ⟨iin, fun n22 => ?_, fun k22 => ?_⟩, fun k19 => b123 _ 27 (Or.inr ⟨rfl, n16, k19, rfl⟩)⟩⟩⟩
    · have eg : gv1 g s i = s := by unfold gv1; rw [if_neg n16, if_neg n19]
      rw [eg, decide_eq_false n22] at hQ
      rw [z0]
      exact ih (i + 1) s σ _ (by omega) (by omega) hS hf hb (by omega) hQ
    · have eg : gv1 g s i = s := by unfold gv1; rw [if_neg n16, if_neg n19]
      rw [eg, decide_eq_true k22] at hQ
      rw [z1]
      exact ih (i + 1) s σ _ (by omega) (by omega) hS hf hb (by omega) hQ
theorem jr_leaveBlock {Q : Sg → Prop} {k e : Nat} {x1 : Int32} (hd : 3 ≤ d) (hG : StG g N M σ0) (hS : JW g N M σ0 σ s E tk) (hI : JI s 0) (hb : jB s ≠ []) (hf : FT σ none) (hk : k < e) (heM : e ≤ M) (hin : ∀ i, k < i → i < e → ∃ p, gU g i = some p ∧ k ≤ p) (hout : e < M → ∃ p, gU g e = some p ∧ p < k) (hC : bC (cb s) ≤ 4096) (h1 : x1 = nI k) (h : ∀ σ', JP0 g N M σ0 σ' (lvBlock g k e s) E tk → Q σ') : OkV w d m_Rules_leaveBlock [vR 21, vI x1] σ Q := by
  subst h1
  have hM := hG.2.2.1
  have hl := hS.2.1.2.1
  have hvl := hS.2.2.1.2.1
  have hlt := cb_lt hb
  have kin : vp_in (nI k) 33500 := vp_in_nI (by omega) (by omega)
  have B := hS.2.1.2.2 _ hlt
  have h24 := (hS.2.2.2.1 hb).1
  have eE : vEnd s ((jB s).length - 1) = (jV s).length := vEnd_last (by omega)
  have h : ∀ σ', JP0 g N M σ0 σ' (toR (rlF g (decide (gK g k ≠ 1) || decide ((inR s ((jV s).length - bF (cb s)) (bF (cb s))).length ≤ 8)) 44 k) (addC ((rngL k e).foldl (gv2 g) ((rngL k e).foldl (gv1 g) s)) (if (rngL k e).any (fun i => decide (gK g i = 22)) = true then 156 else 0))) E tk → Q σ' := by
    intro σ' hJ
    refine h σ' ?_
    unfold lvBlock
    rw [inpL_eq, eE, rl_eq]
    rw [cb_gB] at hJ
    generalize rlF g (decide (gK g k ≠ 1) || decide ((inR s ((jV s).length - bF (gB s ((jB s).length - 1))) (bF (gB s ((jB s).length - 1)))).length ≤ 8)) 44 k = ff at hJ ⊢
    cases ff with
    | none => exact hJ
    | some e => exact hJ
  have V : ∀ v, bF (cb s) ≤ v → v < (jV s).length → σ.1 31 v = vE (gR s v) := by
    intro v q1 q2
    have X := hS.2.2.1.2.2 v q2
    have O := (hI.last hb q1 (by omega)).1
    exact (X.2.2.2.2 O.nT).1
  have loop : ∀ (f v n : Nat), v + f = (jV s).length → bF (cb s) ≤ v → n + f ≤ 8000 → (n + (inR s f v).length = (inR s ((jV s).length - bF (cb s)) (bF (cb s))).length) → Bk w d 0 0 m_Rules_leaveBlock 0 0 (qv Q) 12 [oR 21, oI (nI k), oI (nI n), oI (nI v), none, none] [] σ := by
    intro f
    induction f with
    | zero =>
      intro v n hv hv2 hn hc
      have hc : n = (inR s ((jV s).length - bF (cb s)) (bF (cb s))).length := hc
      refine v_Rules_leaveBlock_12 _ _ _ _ ?_
      rw [hS.2.2.1.1, nI_leI (by omega) (by omega), nI_clamp (by omega), (hS.tb hG (by omega)).1, show (8 : Int32) = nI 8 from rfl, nI_ltI (by decide) (by omega)]
      have fin : ∀ c : Bool, (decide (gK g k ≠ 1) || decide ((inR s ((jV s).length - bF (cb s)) (bF (cb s))).length ≤ 8)) = c → OkV w (d - 1) m_Rules_rule [vR 21, vI (b2 c), vI 44, vI (nI k)] σ (fun s1 => OkI w (d - 1) m_Rules_end [vR 21, vI (nI k)] s1 (fun r2 s2 => Bk w d 0 0 m_Rules_leaveBlock 0 0 (qv Q) 87 [oR 21, oI (nI k), none, oI (r2), oI (0), oI (nI k)] [] s2)) := by
        intro c hc2
        rw [hc2] at h
        refine jr_rule (by omega) hG hS hf (by omega) rfl rfl (by decide) (fun σ2 hS2 hf2 _ => jr_end (by omega) hG hS2 hk heM hin hout rfl ?_)
        exact jr_block1 (la := false) hG (by omega) heM (e - k) k s σ2 (by omega) (Nat.le_refl _) hS2 hf2 hb (by omega) h
      exact ⟨fun _ => ⟨kin, fun q => fin true (by rw [decide_eq_true q]; rfl), fun q => ⟨fun q2 => fin false (by rw [decide_eq_false (fun r => r q), decide_eq_false (by omega)]; rfl), fun q2 => fin true (by rw [decide_eq_true (p := _ ≤ 8) (by omega), Bool.or_true])⟩⟩, fun q => absurd (by omega) q⟩
    | succ f ih =>
      intro v n hv hv2 hn hc
      refine v_Rules_leaveBlock_12 _ _ _ _ ?_
      rw [hS.2.2.1.1, nI_leI (by omega) (by omega), nI_clamp (n := v) (by omega), V v hv2 (by omega), nI_1, nI_1, Int32.add_zero]
      rw [inR] at hc
      refine ⟨fun q => absurd q (by omega), fun _ => ⟨vp_in_nI (by omega) (by omega), fun q => ih (v + 1) n (by omega) (by omega) (by omega) ?_, fun q => ih (v + 1) (n + 1) (by omega) (by omega) (by omega) ?_⟩⟩
      · rw [if_neg q] at hc; exact hc
      · rw [if_pos q, List.length_cons] at hc; omega
  refine v_Rules_leaveBlock _ _ (by omega) ?_
  rw [h24, nI_clamp (by omega), B.2.1]
  have hF : bF (cb s) ≤ (jV s).length := B.2.2.2.2.2.1
  exact ⟨vp_in_nI (by omega) (by omega), loop ((jV s).length - bF (cb s)) (bF (cb s)) 0 (by omega) (Nat.le_refl _) (by omega) (Nat.zero_add _)⟩
end
