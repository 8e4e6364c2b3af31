/-! 132: the component judges: names, FOR -/
section
variable {w : Wd} {d : Nat} {g : Nat → NI} {N : List (List Int32)} {M : Nat} {σ0 σ : Sg} {s : JS} {E : Nat} {tk : Nat → Bool} {ft : Option JE}
/-- what a node names -/
theorem StG.nm (hG : StG g N M σ0) {k : Nat} (hk : k < M) (h : gK g k ∈ [(1 : Int32), 2, 3, 6, 10, 13, 14, 19, 32, 33, 34]) : ∃ j, j < N.length ∧ gV g k = nI j := (hG.2.2.2.1 k hk).1 h
theorem jr_addVariable {Q : Int32 → Sg → Prop} {a t : Int32} {x : VR} (hd : 1 ≤ d) (hS : JW g N M σ0 σ s E tk) (hf : FT σ ft) (hx : vN x = a ∧ vS x = 0 ∧ vT x = t ∧ vP x = -1) (ht : t = -1) (hV : (jV s).length < 6900)
    (h : ∀ σ' r, r = nI (jV s).length → JW g N M σ0 σ' (jB s, jV s ++ [x], s.2.2) E tk → FT σ' ft → (∀ k j, ¬ ((28 ≤ k ∧ k ≤ 35) ∨ (k = 21 ∧ j = 17)) → σ'.1 k j = σ.1 k j) → Q r σ') : OkI w d m_Rules_addVariable [vR 21, vI a, vI t] σ Q := by
  obtain ⟨h1, h2, h3, h4, h5, h6, h7, h8⟩ := hS
  have vin : vp_in (nI (jV s).length) 16384 := vp_in_nI (by omega) (by omega)
  refine v_Rules_addVariable _ _ _ hd ?_
  rw [h3.1, nI_1, nI_pred, nI_clamp (by omega)]
  refine ⟨vin, vin, vin, vin, vin, h _ _ rfl ?_ ?_ ?_⟩
  · have keep : ∀ k j, ¬ ((28 ≤ k ∧ k ≤ 35) ∨ (k = 21 ∧ j = 17)) → (wI (wI (wI (wI (wI (wI σ 28 (jV s).length a) 29 (jV s).length 0) 30 (jV s).length t) 31 (jV s).length 0) 35 (jV s).length (-1)) 21 17 (nI ((jV s).length + 1))).1 k j = σ.1 k j := by
      intro k j q
      simp only [wI_1]
      repeat rw [if_neg (by omega)]
    have old : ∀ k v, v < (jV s).length → k ≠ 21 → (wI (wI (wI (wI (wI (wI σ 28 (jV s).length a) 29 (jV s).length 0) 30 (jV s).length t) 31 (jV s).length 0) 35 (jV s).length (-1)) 21 17 (nI ((jV s).length + 1))).1 k v = σ.1 k v := by
      intro k v q1 q2
      simp only [wI_1]
      repeat rw [if_neg (by omega)]
    refine ⟨h1.trans ((((((Fr.rfl'.wI rfl).wI rfl).wI rfl).wI rfl).wI rfl).wI rfl), ⟨?_, h2.2.1, fun b hb => ?_⟩, ⟨?_, ?_, fun v hv => ?_⟩, fun hb => ?_, fun k hk => ?_, fun j hj => ?_, fun p hp => ?_, h8⟩
    · rw [keep 21 22 (by omega)]; exact h2.1
    · rw [keep 36 b (by omega), keep 37 b (by omega), keep 38 b (by omega)]
      have := h2.2.2 b hb
      refine ⟨this.1, this.2.1, this.2.2.1, this.2.2.2.1, this.2.2.2.2.1, ?_, this.2.2.2.2.2.2⟩
      show bF ((jB s).getD b bl0) ≤ (jV s ++ [x]).length
      have := this.2.2.2.2.2.1
      simp only [List.length_append, List.length_cons, List.length_nil]; omega
    · show _ = nI (jV s ++ [x]).length
      rw [wI_1, if_pos ⟨rfl, rfl⟩, List.length_append]; rfl
    · show (jV s ++ [x]).length ≤ 7000
      simp only [List.length_append, List.length_cons, List.length_nil]; omega
    · have hv : v < (jV s ++ [x]).length := hv
      simp only [List.length_append, List.length_cons, List.length_nil] at hv
      show _ = vN ((jV s ++ [x]).getD v vr0) ∧ _ = vS ((jV s ++ [x]).getD v vr0) ∧ _ = vT ((jV s ++ [x]).getD v vr0) ∧ _ = imgI (vP ((jV s ++ [x]).getD v vr0)) ∧ (vT ((jV s ++ [x]).getD v vr0) ≠ -1 → _)
      by_cases e : v = (jV s).length
      · subst e
        rw [gD_last, hx.1, hx.2.1, hx.2.2.1, hx.2.2.2]
        refine ⟨by simp [wI_1], by simp [wI_1], by simp [wI_1], by simp [wI_1, imgI], fun q => absurd ht q⟩
      · rw [gD_app (by omega), old 28 v (by omega) (by omega), old 29 v (by omega) (by omega), old 30 v (by omega) (by omega), old 31 v (by omega) (by omega), old 32 v (by omega) (by omega), old 33 v (by omega) (by omega), old 34 v (by omega) (by omega), old 35 v (by omega) (by omega)]
        have z := h3.2.2 v (by omega)
        refine ⟨z.1, z.2.1, z.2.2.1, z.2.2.2.1, fun q => ?_⟩
        have y := z.2.2.2.2 q
        have ev : (jV (jB s, jV s ++ [x], s.2.2)).getD v vr0 = (jV s).getD v vr0 := gD_app (by omega)
        rw [ev]
        exact ⟨y.1, y.2.1, y.2.2.imp (fun r => r) id⟩
    · rw [keep 21 24 (by omega), keep 21 25 (by omega)]; exact h4 hb
    · rw [keep 25 k (by omega), keep 26 k (by omega), keep 27 k (by omega)]; exact h5 k hk
    · rw [keep 23 j (by omega), keep 24 j (by omega)]; exact h6 j hj
    · rw [keep 22 p (by omega)]; exact h7 p hp
  · exact (((((hf.wr (by omega)).wr (by omega)).wr (by omega)).wr (by omega)).wr (by omega)).wr (by omega)
  · intro k j q
    simp only [wI_1]
    repeat rw [if_neg (by omega)]
theorem lvS_6 {k : Nat} (h : gK g k = 6) : lvS g N M k s = lvName g N k s := by
  unfold lvS; rw [h]; rfl
/-- a variable of the block at hand, by what the memory says -/
theorem JW.var (hS : JW g N M σ0 σ s E tk) (hI : JI s 0) (hb : jB s ≠ []) {name : Int32} {v : Nat} (hv : vlk s name = some v) : v < 7000 ∧ σ.1 28 v = name ∧ σ.1 29 v = vS (gR s v) ∧ σ.1 30 v = vT (gR s v) ∧ σ.1 31 v = vE (gR s v) ∧ σ.1 32 v = nI (vC (gR s v)) ∧ VO s ((jB s).length - 1) (gR s v) := by
  have l := vlk_lt hv
  have V := hS.2.2.1.2.2 v l.1
  have O := (hI.last hb l.2.1 (by omega)).1
  have := hS.2.2.1.2.1
  exact ⟨by omega, V.1.trans l.2.2, V.2.1, V.2.2.1, (V.2.2.2.2 O.nT).1, (V.2.2.2.2 O.nT).2.1, O⟩
theorem nmd_toR {k : Nat} {sh : Int32} {G : Nat → JR} : nmdS g k sh s G = match nmdF g k sh s with | some e => .error e | none => match vlk s (gV g k) with | none => .error (20, gP g k) | some v => G v := by
  unfold nmdS nmdF
  cases vlk s (gV g k) with
  | none => rfl
  | some v =>
    dsimp only
    split <;> rfl
theorem nmd_v {k : Nat} {sh : Int32} (h : nmdF g k sh s = none) : ∃ v, vlk s (gV g k) = some v ∧ vS (gR s v) = sh := by
  unfold nmdF at h
  cases hv : vlk s (gV g k) with
  | none => rw [hv] at h; cases h
  | some v =>
    rw [hv] at h
    dsimp only at h
    split at h
    · rename_i q; exact ⟨v, rfl, q⟩
    · cases h
theorem jr_leaveName {Q : Sg → Prop} {k f : Nat} {x1 : Int32} (hd : 4 ≤ d) (hG : StG g N M σ0) (hS : JW g N M σ0 σ s E tk) (hI : JI s f) (hb : jB s ≠ []) (hf : FT σ none) (hk : k < M) (h6 : gK g k = 6) (hU : ∃ p, gU g k = some p) (hI0 : gK g ((gU g k).getD 0) ≠ 5 → f = 0) (hV : (jV s).length < 6900) (h1 : x1 = nI k) (h : ∀ σ', JP g N M σ0 σ' (lvS g N M k s) E tk → Q σ') : OkV w d m_Rules_leaveName [vR 21, vI x1] σ Q := by
  subst h1
  have hM := hG.2.2.1
  obtain ⟨p, hp⟩ := hU
  rw [lvS_6 h6] at h
  have hin : vp_in (nI k) 33500 := vp_in_nI (by omega) (by omega)
  obtain ⟨nj, hnj, en⟩ := hG.nm hk (by rw [h6]; decide)
  have hNl := hG.2.2.2.2.1
  refine v_Rules_leaveName _ _ (by omega) (jr_parentKind (by omega) hG hS hk rfl ⟨hin, ?_⟩)
  rw [hp, nI_clamp (by omega), (hS.tb hG hk).2.2.1]
  rw [hp] at hI0
  show (¬ gK g p = 5 → _) ∧ (gK g p = 5 → _)
  unfold lvName at h
  have gp : (some p : Option Nat).getD 0 = p := rfl
  rw [hp, gp] at h
  refine ⟨fun q5 => ?_, fun q5 => ?_⟩
  · rw [if_neg q5] at h
    have f0 := hI0 q5
    subst f0
    refine ⟨fun q33 => ?_, fun q33 => jr_named (by omega) hG hS hb hf hk rfl (fun σ1 r hS1 hf1 r0 r1 k1 => ?_)⟩
    · rw [if_pos (show gK g p = 33 from q33)] at h; exact h σ ⟨hS, hf⟩
    · rw [if_neg (show ¬ gK g p = 33 from q33), nmd_toR] at h
      cases e : nmdF g k 0 s with
      | some x =>
        rw [e] at h hf1 r1
        rw [r1 (by simp [orF])]
        exact ⟨fun _ => h σ1 ⟨hS1.1, hf1⟩, fun q => absurd (by decide) q⟩
      | none =>
        rw [e] at h hf1 r0
        obtain ⟨v, hv, hs0⟩ := nmd_v e
        rw [hv] at h r0
        rw [r0 rfl]
        have W := hS1.var hI hb hv
        refine ⟨fun q => absurd q (nI_pos (by omega)), fun _ => ⟨vp_in_nI (by omega) (by omega), hin, vp_in_nI (by omega) (by omega), hin, ?_⟩⟩
        rw [show jO (some v) = nI v from rfl, nI_clamp (by omega), W.2.2.2.1, W.2.2.2.2.2.1]
        exact h _ ⟨hS1.wT.wC, (hf1.wr (by omega)).wr (by omega)⟩
  · rw [if_pos q5, rl_eq] at h
    refine jr_variable (by omega) hS hb ?_
    have last : ∀ c : Bool, (decide (vlk s (gV g k) = none) && decide (sdI N (gV g k) < 0) && decide (bA (cb s) ≠ gV g k) && decide (bfd (gV g k) (-1) (bpre s) 0 = none)) = c → OkV w (d - 1) m_Rules_rule [vR 21, vI (b2 c), vI 12, vI (nI k)] σ (fun s4 => OkI w (d - 1) m_Rules_addVariable [vR 21, vI (gV g k), vI (-1)] s4 (fun r5 s5 => Q s5)) := by
      intro c hc
      rw [hc] at h
      refine jr_rule (by omega) hG hS hf hk rfl rfl (by decide) (fun σ1 hS1 hf1 _ => jr_addVariable (by omega) hS1 hf1 ⟨rfl, rfl, rfl, rfl⟩ rfl hV (fun σ2 r _ hS2 hf2 _ => h σ2 (JP.of hS2 hf2)))
    have hlt : ∀ j, vlk s (gV g k) = some j → j < 2 ^ 31 := fun j hj => by have := (vlk_lt hj).1; omega
    rw [jO_ge hlt]
    refine ⟨fun q => last false (by rw [decide_eq_false q]; rfl), fun q => ⟨by rw [en]; exact vp_in_nI (by omega) (by omega), ?_⟩⟩
    have q := Decidable.not_not.mp q
    rw [en, nI_clamp (by omega), (hS.2.2.2.2.2.1 nj hnj).1, ← en]
    have h24 := (hS.2.2.2.1 hb).1
    have hl := hS.2.1.2.1
    have hcb := cb_lt hb
    have B := hS.2.1.2.2 _ hcb
    refine ⟨fun q2 => last false (by rw [decide_eq_false (p := sdI N (gV g k) < 0) (Int32.not_lt.mpr q2)]; simp), fun q2 => ?_⟩
    rw [h24, nI_clamp (by omega), B.1, nI_clamp (by omega), (hS.tb hG B.2.2.1).2.2.1, B.2.2.2.1]
    refine ⟨vp_in_nI (by omega) (by omega), vp_in_nI (by omega) (by omega), fun q3 => last false (by rw [decide_eq_false (p := bA (cb s) ≠ gV g k) (fun r => r q3)]; simp), fun q3 => ?_⟩
    refine jr_blockNamed (by omega) hG hS.1 hS.2.1 h24 (by omega) ?_
    have hlt2 : ∀ j, bfd (gV g k) (-1) (bpre s) 0 = some j → j < 2 ^ 31 := by
      intro j hj
      have aux : ∀ (l : List BL) (i j : Nat), bfd (gV g k) (-1) l i = some j → j < i + l.length := by
        intro l
        induction l with
        | nil => intro i j hj; cases hj
        | cons a l ih =>
          intro i j hj
          rw [bfd] at hj
          split at hj
          · cases hj; simp
          · have := ih _ _ hj; simp only [List.length_cons]; omega
      have := aux _ _ _ hj
      have : (bpre s).length ≤ (jB s).length := by unfold bpre; rw [List.length_take]; omega
      omega
    show (0 ≤ jO (bfd (gV g k) (-1) (bpre s) 0) → _) ∧ (¬ 0 ≤ jO (bfd (gV g k) (-1) (bpre s) 0) → _)
    rw [jO_ge hlt2]
    refine ⟨fun q4 => last false (by rw [decide_eq_false q4]; simp), fun q4 => last true ?_⟩
    rw [decide_eq_true q, decide_eq_true (Int32.not_le.mp q2), decide_eq_true (p := bA (cb s) ≠ gV g k) q3, decide_eq_true (Decidable.not_not.mp q4)]; rfl
end
