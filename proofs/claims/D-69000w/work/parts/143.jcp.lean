/-! 143: the component judges: any node is left -/
def tkN (g : Nat → NI) (k : Nat) (tk : Nat → Bool) : Nat → Bool := if gK g k = 7 then fun p => tk p || (decide (p < 1536) && decide (gV g k = nI p)) else tk
theorem tkN_no {g : Nat → NI} {k : Nat} {tk : Nat → Bool} (h : gK g k ≠ 7) : tkN g k tk = tk := if_neg h
/-- nodes that stand in no declaration -/
def nD (g : Nat → NI) (k : Nat) : Bool := (decide (gK g k = 6) && decide (gK g ((gU g k).getD 0) ≠ 5)) || (decide (11 ≤ gK g k) && decide (gK g k ≤ 29)) || decide (32 ≤ gK g k)
/-- what must hold when a node is left -/
def PrK (g : Nat → NI) (N : List (List Int32)) (M : Nat) (s : JS) (tk : Nat → Bool) (k : Nat) : Prop :=
  jB s ≠ [] ∧ JN N s ∧ (jV s).length < 6900 ∧ bC (cb s) ≤ 4096 ∧ (∀ b, b < (jB s).length → bC (gB s b) ≤ 10400) ∧
  (∃ f, JI s f ∧ (nD g k = true → f = 0) ∧ (gK g k = 5 → f = (declN g M k).length)) ∧
  (gK g k = 5 → DcT g N M s k) ∧
  (gK g k = 7 → ∀ p, p < 1536 → gV g k = nI p → (tk p = true ↔ ∃ v, bF (cb s) ≤ v ∧ v < (jV s).length ∧ vP (gR s v) = nI p))
theorem nD_st {g : Nat → NI} {k : Nat} {q : Int32} (h : gK g k = q) (hq : q ∈ [(11 : Int32), 12, 13, 14, 15, 16, 17, 18, 19, 20, 21, 22, 23, 24, 25, 26, 27, 28, 29, 32, 33, 34, 35, 36]) : nD g k = true := by
  unfold nD
  rw [h]
  simp only [List.mem_cons, List.not_mem_nil, or_false] at hq
  rcases hq with e | e | e | e | e | e | e | e | e | e | e | e | e | e | e | e | e | e | e | e | e | e | e | e <;> subst e <;> simp
theorem vp_nar_bool1 : vp_nar .boolean 1 = 1 := by decide
theorem vp_nar_bool0 : vp_nar .boolean 0 = 0 := by decide
section
variable {w : Wd} {d : Nat} {g : Nat → NI} {N : List (List Int32)} {M : Nat} {σ0 σ : Sg} {s : JS} {E : Nat} {tk : Nat → Bool} {ft : Option JE}
theorem JW.tkw {p : Nat} (h : JW g N M σ0 σ s E tk) : JW g N M σ0 (wI σ 22 p 1) s E (fun q => tk q || decide (p = q)) := by
  obtain ⟨h1, h2, h3, h4, h5, h6, h7, h8⟩ := h
  have O : ∀ a j, a ≠ 22 → (wI σ 22 p 1).1 a j = σ.1 a j := fun a j q => by rw [wI_1, if_neg (by omega)]
  refine ⟨h1.trans (Fr.rfl'.wI rfl), ⟨by rw [O 21 22 (by omega)]; exact h2.1, h2.2.1, fun b hb => ?_⟩, ⟨by rw [O 21 17 (by omega)]; exact h3.1, h3.2.1, fun v hv => ?_⟩, fun hb => ?_, fun k hk => ?_, fun j hj => ?_, fun q hq => ?_, h8⟩
  · rw [O 36 b (by omega), O 37 b (by omega), O 38 b (by omega)]; exact h2.2.2 b hb
  · rw [O 28 v (by omega), O 29 v (by omega), O 30 v (by omega), O 31 v (by omega), O 32 v (by omega), O 33 v (by omega), O 34 v (by omega), O 35 v (by omega)]; exact h3.2.2 v hv
  · rw [O 21 24 (by omega), O 21 25 (by omega)]; exact h4 hb
  · rw [O 25 k (by omega), O 26 k (by omega), O 27 k (by omega)]; exact h5 k hk
  · rw [O 23 j (by omega), O 24 j (by omega)]; exact h6 j hj
  · rw [wI_1]
    show _ = b2 (tk q || decide (p = q))
    by_cases e : p = q
    · subst e; rw [if_pos ⟨rfl, rfl⟩, decide_eq_true (p := p = p) rfl, Bool.or_true]; rfl
    · rw [if_neg (fun r => e r.2.symm), decide_eq_false e, Bool.or_false]; exact h7 q hq
theorem jr_leaveConst {Q : Sg → Prop} {k : Nat} {q : Int32} {x1 : Int32} (hd : 3 ≤ d) (hG : StG g N M σ0) (hR : GrT g M) (hS : JW g N M σ0 σ s E tk) (hf : FT σ none) (hk : k < M) (hq : gK g k = q) (hqs : q = 30 ∨ q = 31) (h1 : x1 = nI k) (h : ∀ σ', JP g N M σ0 σ' (lvS g N M k s) E tk → Q σ') : OkV w d m_Rules_leaveStatement [vR 21, vI x1] σ Q := by
  subst h1
  have hM := hG.2.2.1
  have hin : vp_in (nI k) 33500 := vp_in_nI (by omega) (by omega)
  have T := hS.tb hG hk
  obtain ⟨L, f, hc, hr, hff, hL⟩ := hR k hk
  have hs0 : stO (gK g k) = 0 := by rw [hq]; rcases hqs with e | e <;> subst e <;> rfl
  rw [hs0] at hr
  have eF : gF g k = none := by rw [hr.z.1] at hc; exact hc
  have n : ∀ c : Int32, c < 30 → ¬ q = c := by
    intro c hc e
    rw [e] at hqs
    rcases hqs with r | r <;> rw [r] at hc <;> exact absurd hc (by decide)
  have go : OkV w (d - 1) m_Rules_leaveExpression [vR 21, vI (nI k)] σ Q := by
    refine v_Rules_leaveExpression _ _ (by omega) ⟨hin, ?_⟩
    rw [nI_clamp (by omega), T.2.2.2.2.1, eF]
    refine ⟨fun r => absurd rfl r, fun _ => v_Rules_leaveExpression_28 _ _ _ _ ⟨hin, ?_⟩⟩
    rw [nI_clamp (by omega), T.1, T.2.2.1, hq]
    rcases hqs with e | e <;> subst e
    · rw [lvS_ex hq (by decide)] at h
      unfold lvExpr at h
      rw [hq, if_pos rfl] at h
      refine ⟨fun _ => ⟨hin, fun r => ⟨hin, h _ ?_⟩, fun r => ⟨hin, h _ ?_⟩⟩, fun r => absurd rfl r⟩
      · rw [if_neg (Int32.not_le.mpr r)]; exact ⟨hS.wT, hf.wr (by omega)⟩
      · rw [if_pos (Int32.not_lt.mp r)]; exact ⟨hS.wT, hf.wr (by omega)⟩
    · rw [lvS_ex hq (by decide)] at h
      unfold lvExpr at h
      rw [hq, if_neg (by decide), if_pos rfl] at h
      exact ⟨fun r => absurd r (by decide), fun _ => ⟨fun _ => ⟨hin, h _ ⟨hS.wT, hf.wr (by omega)⟩⟩, fun r => absurd rfl r⟩⟩
  refine v_Rules_leaveStatement _ _ (by omega) ⟨hin, ?_⟩
  rw [nI_clamp (by omega), T.1, hq]
  exact ⟨fun e => absurd e (n 12 (by decide)), fun _ => ⟨fun e => absurd e (n 13 (by decide)), fun _ => ⟨fun e => absurd e (n 14 (by decide)), fun _ => ⟨fun e => absurd e (n 15 (by decide)), fun _ => ⟨fun e => absurd e (n 16 (by decide)), fun _ => ⟨fun e => absurd e (n 17 (by decide)), fun _ => ⟨fun e => absurd e (n 18 (by decide)), fun _ => ⟨fun e => absurd e (n 19 (by decide)), fun _ => ⟨fun e => absurd e (n 20 (by decide)), fun _ => go⟩⟩⟩⟩⟩⟩⟩⟩⟩
theorem jr_leave {Q : Sg → Prop} {k : Nat} {q : Int32} {x1 : Int32} (hd : 7 ≤ d) (hG : StG g N M σ0) (hR : GrT g M) (hK : KdG g M) (hS : JW g N M σ0 σ s E tk) (hf : FT σ none) (hk : k < M) (hE : ∀ c, c < M → gU g c = some k → c < E) (hU : ∃ p, gU g k = some p) (hPr : PrK g N M s tk k) (hfr : gK g k = 5 → σ0.1 21 26 = nI ((jV s).length - (declN g M k).length)) (hp7 : gK g k = 7 → gK g ((gU g k).getD 0) = 5) (hq : gK g k = q) (hqs : q ∈ [(4 : Int32), 5, 6, 7, 8, 9, 10, 11, 12, 13, 14, 15, 16, 17, 18, 19, 20, 21, 22, 23, 24, 25, 26, 27, 28, 29, 30, 31, 32, 33, 34, 35, 36]) (h1 : x1 = nI k) (h : ∀ σ', JP g N M σ0 σ' (lvS g N M k s) E (tkN g k tk) → Q σ') : OkV w d m_Rules_leave [vR 21, vI x1] σ Q := by
  subst h1
  have hM := hG.2.2.1
  have hin : vp_in (nI k) 33500 := vp_in_nI (by omega) (by omega)
  have T := hS.tb hG hk
  obtain ⟨hb, hN, hV, hC, hC2, ⟨f, hI, hf0, hf5⟩, hD, h7t⟩ := hPr
  have hNl := hG.2.2.2.2.1
  have hl := hS.2.1.2.1
  have h24 := (hS.2.2.2.1 hb).1
  have n : ∀ c : Int32, c < 4 → ¬ q = c := by
    intro c hc e
    rw [e] at hqs
    have : ∀ c ∈ [(4 : Int32), 5, 6, 7, 8, 9, 10, 11, 12, 13, 14, 15, 16, 17, 18, 19, 20, 21, 22, 23, 24, 25, 26, 27, 28, 29, 30, 31, 32, 33, 34, 35, 36], ¬ c < 4 := by decide
    exact this c hqs hc
  refine v_Rules_leave _ _ (by omega) ⟨hin, ?_⟩
  rw [nI_clamp (by omega), T.1, T.2.2.1, hq]
  refine ⟨fun e => absurd e (n 0 (by decide)), fun _ => ⟨fun e => absurd e (n 1 (by decide)), fun _ => ⟨fun e => absurd e (n 2 (by decide)), fun _ => ⟨fun e => absurd e (n 3 (by decide)), fun _ => ⟨fun e => ⟨hin, ?_⟩, fun n4 => ⟨fun e => ?_, fun n5 => ⟨fun e => ?_, fun n6 => ⟨fun e => ⟨hin, ?_⟩, fun n7 => ⟨fun e => ⟨hin, hin, ?_⟩, fun n8 => ⟨fun e => ?_, fun n9 => ⟨fun e => ⟨hin, ?_⟩, fun n10 => ?_⟩⟩⟩⟩⟩⟩⟩⟩⟩⟩⟩
  · -- a section
    subst e
    rw [tkN_no (by rw [hq]; decide)] at h
    have e4 : lvS g N M k s = toR (rlF g (decide (gV g k = 0) || (decide (bK (cb s) ≠ 3) && (decide (gV g k = 1) || decide (bK (cb s) ≠ 1)))) 13 k) s := by
      unfold lvS; rw [hq]; exact rl_eq
    rw [e4] at h
    have fin : ∀ c : Bool, (decide (gV g k = 0) || (decide (bK (cb s) ≠ 3) && (decide (gV g k = 1) || decide (bK (cb s) ≠ 1)))) = c → OkV w (d - 1) m_Rules_rule [vR 21, vI (b2 c), vI 13, vI (nI k)] σ (fun s2 => Q s2) := by
      intro c hc2
      rw [hc2] at h
      exact jr_rule (by omega) hG hS hf hk rfl rfl (by decide) (fun σ2 hS2 hf2 _ => h σ2 (JP.of hS2 hf2))
    refine ⟨fun r => fin true (by rw [decide_eq_true r]; rfl), fun r => jr_blockKind (by omega) hG hS hb ⟨fun r2 => fin false ?_, fun r2 => ⟨hin, ?_⟩⟩⟩
    · rw [decide_eq_false r, decide_eq_false (fun z => z r2)]; rfl
    · rw [T.2.2.1]
      refine ⟨fun r3 => fin true ?_, fun r3 => jr_blockKind (by omega) hG hS hb ⟨fun r4 => fin false ?_, fun r4 => fin true ?_⟩⟩
      · rw [decide_eq_true r2, decide_eq_true r3]; simp
      · rw [decide_eq_false r, decide_eq_true r2, decide_eq_false r3, decide_eq_false (fun z => z r4)]; rfl
      · rw [decide_eq_true r2, decide_eq_true r4]; simp
  · subst e
    rw [tkN_no (by rw [hq]; decide)] at h
    have hP : declP g M k = -1 ∨ ∃ p, p < 1536 ∧ declP g M k = nI p := by
      obtain ⟨n0, ns, pl, t, cn, hc, hns, eN, hNl, eT, htM, hUt, kt, hcn, hplc⟩ := decl_of hG.2.1 hR hk hq
      rcases hplc with ⟨_, e⟩ | ⟨p, _, kp, hpM, _, e⟩
      · exact Or.inl e
      · obtain ⟨a, i, ha, hi, ev⟩ := (hG.2.2.2.1 p hpM).2.2.2.2.2 kp
        refine Or.inr ⟨256 * a + i, by split at hi <;> omega, by rw [e, ev]⟩
    refine jr_leaveDeclaration (by omega) hG hR hS hb hf hk hq hU (hD hq) (hfr hq) ?_ hC hC2 hP rfl h
    have := hI.2.2.1 hb
    rw [← hf5 hq]; omega
  · subst e
    rw [tkN_no (by rw [hq]; decide)] at h
    refine jr_leaveName (by omega) hG hS hI hb hf hk hq hU (fun r => hf0 ?_) hV rfl h
    unfold nD; rw [hq, decide_eq_true r]; rfl
  · -- a place
    subst e
    obtain ⟨p, hp⟩ := hU
    have hpk := (hG.2.1 k hk).1 p hp
    have hp5 := hp7 hq
    rw [hp] at hp5
    obtain ⟨n0, ns, pl, t, cn, hc, hns, eN, hNl', eT, htM, hUt, kt, hcn, hplc⟩ := decl_of hG.2.1 hR (show p < M by omega) hp5
    obtain ⟨a, i, ha, hi, ev⟩ := (hG.2.2.2.1 k hk).2.2.2.2.2 hq
    have hpl : 256 * a + i < 1536 := by split at hi <;> omega
    generalize 256 * a + i = pv at ev hpl
    have tks := h7t hq pv hpl ev
    have htkN : tkN g k tk = fun q => tk q || decide (pv = q) := by
      unfold tkN; rw [if_pos hq]
      funext q
      rw [ev]
      by_cases e : pv = q
      · rw [← e, decide_eq_true hpl]; simp
      · rw [decide_eq_false e]
        by_cases hq2 : q < 1536
        · rw [decide_eq_false (p := nI pv = nI q) (fun r => e ((nI_eq (by omega) (by omega)).mp r)), Bool.and_false]
        · rw [decide_eq_false hq2, Bool.false_and]
    have n0M := (hns n0 List.mem_cons_self).2
    have eF : gF g p = some n0 := hc.1
    -- the second node of the row
    have snd : ∃ x, gX g n0 = some x ∧ x < M ∧ kd g M p 1 = x ∧ (gK g x = 7 ↔ x = k) := by
      have hkid := kid_of hG.2.1 (show p < M by omega) hc
      obtain ⟨hpM, L, hc', hkL⟩ := (hK k hk).1 p hp
      have eL := (kid_of hG.2.1 hpM hc').symm.trans hkid
      rw [eL] at hkL
      cases ns with
      | cons x ns =>
        have hx := hns x (by simp)
        refine ⟨x, hc.2.1, hx.2, by unfold kd; rw [hkid]; rfl, ?_⟩
        rw [hx.1]
        exact ⟨fun r => absurd r (by decide), fun r => by rw [r, hq] at hx; exact absurd hx.1 (by decide)⟩
      | nil =>
        have hk0 : k ≠ n0 := fun r => by have := (hns n0 (by simp)).1; rw [← r, hq] at this; exact absurd this (by decide)
        have hkt : k ≠ t := fun r => by rw [← r, hq] at kt; rcases kt with z | z | z <;> exact absurd z (by decide)
        have hkc : k ∉ cn := by
          intro r
          rcases hcn with ⟨z, _⟩ | ⟨c, z, _, _, kc⟩
          · rw [z] at r; cases r
          · rw [z, List.mem_singleton] at r; rw [← r, hq] at kc; rcases kc with y | y <;> exact absurd y (by decide)
        rcases hplc with ⟨z, _⟩ | ⟨pp, z, kp, hpM, _, _⟩
        · subst z
          simp only [List.cons_append, List.nil_append, List.mem_cons] at hkL
          exfalso
          rcases hkL with y | y | y
          · exact hk0 y
          · exact hkt y
          · exact hkc y
        · subst z
          simp only [List.cons_append, List.nil_append, List.mem_cons] at hkL
          have ek : k = pp := by
            rcases hkL with y | y | y | y
            · exact absurd y hk0
            · exact y
            · exact absurd y hkt
            · exact absurd y hkc
          refine ⟨pp, hc.2.1, hpM, by unfold kd; rw [hkid]; rfl, ?_⟩
          rw [ek]; exact ⟨fun _ => rfl, fun _ => kp⟩
    obtain ⟨x, eX, hxM, k1, hx7⟩ := snd
    have e7 : lvS g N M k s = toR (rlF g (decide (bK (cb s) = 3) && decide (x = k) && ((jV s).drop (bF (cb s))).all (fun v => decide (vP v ≠ gV g k))) 14 k) s := by
      unfold lvS; rw [hq, hp]
      show rl g (decide (bK (cb s) = 3) && decide (kd g M p 1 = k) && _) 14 k s = _
      rw [k1]; exact rl_eq
    rw [e7, htkN] at h
    have tkv : ((jV s).drop (bF (cb s))).all (fun v => decide (vP v ≠ gV g k)) = !tk pv := by
      cases hb3 : tk pv with
      | true =>
        obtain ⟨v, v1, v2, v3⟩ := tks.mp hb3
        rw [Bool.not_true, List.all_eq_false]
        refine ⟨gR s v, ?_, ?_⟩
        · unfold gR
          rw [List.mem_iff_getElem?]
          refine ⟨v - bF (cb s), ?_⟩
          rw [List.getElem?_drop, show bF (cb s) + (v - bF (cb s)) = v by omega, List.getElem?_eq_getElem v2, List.getD_eq_getElem?_getD, List.getElem?_eq_getElem v2]; rfl
        · rw [v3, ev]; simp
      | false =>
        rw [Bool.not_false, List.all_eq_true]
        intro v hv
        rw [List.mem_iff_getElem?] at hv
        obtain ⟨j, hj⟩ := hv
        rw [List.getElem?_drop] at hj
        have hlt := (List.getElem?_eq_some_iff.mp hj).1
        refine decide_eq_true (fun r => ?_)
        have : tk pv = true := tks.mpr ⟨bF (cb s) + j, by omega, hlt, by unfold gR; rw [List.getD_eq_getElem?_getD, hj]; rw [ev] at r; exact r⟩
        rw [hb3] at this; cases this
    rw [tkv] at h
    have fin : ∀ c : Bool, (decide (bK (cb s) = 3) && decide (x = k) && !tk pv) = c → OkV w (d - 1) m_Rules_rule [vR 21, vI (b2 c), vI 14, vI (nI k)] σ (fun s2 => (vp_in (nI k) 33500 ∧ (vp_in (s2.1 10 (Int32.toNatClampNeg (nI k))) 1536 ∧ Q (wI s2 22 (Int32.toNatClampNeg (s2.1 10 (Int32.toNatClampNeg (nI k)))) (vp_nar .boolean 1))))) := by
      intro c hc2
      rw [hc2] at h
      refine jr_rule (by omega) hG hS hf hk rfl rfl (by decide) (fun σ2 hS2 hf2 _ => ⟨hin, ?_⟩)
      rw [nI_clamp (by omega), (hS2.tb hG hk).2.2.1, ev, nI_clamp (by omega), vp_nar_bool1]
      exact ⟨vp_in_nI (by omega) (by omega), h _ (JP.of hS2.tkw (hf2.wr (by omega)))⟩
    have b230 : (decide (bK (cb s) = 3) && decide (x = k) && !tk pv) = false → Bk w d 0 0 m_Rules_leave 0 0 (qv Q) 230 [oR 21, oI (nI k), none, none, none] [vR 21] σ := fun r => v_Rules_leave_230 _ _ (fin false r)
    have b195 : ∀ y : Bool, decide (x = k) = y → Bk w d 0 0 m_Rules_leave 0 0 (qv Q) 195 [oR 21, oI (nI k), none, none, none] [vI (b2 y)] σ := by
      intro y hy
      refine v_Rules_leave_195 _ _ _ (jr_blockKind (by omega) hG hS hb ⟨fun r => b230 (by rw [decide_eq_false r]; rfl), fun r => ⟨fun r2 => b230 (by rw [hy, b2_0.mp r2, Bool.and_false]; rfl), fun r2 => ⟨hin, ?_⟩⟩⟩)
      rw [nI_clamp (by omega), T.2.2.1, ev, nI_clamp (by omega), hS.2.2.2.2.2.2.1 pv hpl]
      refine ⟨vp_in_nI (by omega) (by omega), fun r3 => b230 (by rw [b2_n0.mp r3]; simp), fun r3 => ?_⟩
      have := fin true (by rw [decide_eq_true r, hy, b2_n0.mp r2, b2_0.mp r3]; rfl)
      rw [nI_clamp (by omega)] at this
      exact this
    rw [T.2.2.2.1, hp, show jO (some p) = nI p from rfl, nI_clamp (by omega), (hS.tb hG (show p < M by omega)).2.2.2.2.1, eF, show jO (some n0) = nI n0 from rfl, nI_clamp (by omega), (hS.tb hG n0M).2.2.2.2.2, eX]
    refine ⟨vp_in_nI (by omega) (by omega), vp_in_nI (by omega) (by omega), jr_kind (o := some x) (by omega) hG hS (fun j hj => by cases hj; exact hxM) rfl ?_⟩
    show (¬ gK g x = 7 → _) ∧ (gK g x = 7 → _)
    rw [hx7]
    exact ⟨fun r => b195 false (decide_eq_false r), fun r => b195 true (decide_eq_true r)⟩
  · subst e
    rw [tkN_no (by rw [hq]; decide)] at h
    have e8 : lvS g N M k s = .ok (setT s k (gV g k)) := by unfold lvS; rw [hq]; rfl
    rw [e8] at h
    exact h _ ⟨hS.wT, hf.wr (by omega)⟩
  · subst e
    rw [tkN_no (by rw [hq]; decide)] at h
    exact jr_leaveArray (by omega) hG hR hS hb hf hk hq rfl h
  · -- a block that is a type
    subst e
    rw [tkN_no (by rw [hq]; decide)] at h
    have e10 : lvS g N M k s = toR (rlF g (((decide (0 ≤ sdI N (gV g k)) && decide (sdI N (gV g k) < 9)) || decide (bfd (gV g k) 2 (bpre s) 0 ≠ none)) && decide (bK (cb s) ≠ 1)) 17 k) s := by
      unfold lvS; rw [hq]; exact rl_eq
    rw [e10] at h
    obtain ⟨nj, hnj, en⟩ := hG.nm hk (by rw [hq]; decide)
    have fin : ∀ c : Bool, (((decide (0 ≤ sdI N (gV g k)) && decide (sdI N (gV g k) < 9)) || decide (bfd (gV g k) 2 (bpre s) 0 ≠ none)) && decide (bK (cb s) ≠ 1)) = c → OkV w (d - 1) m_Rules_rule [vR 21, vI (b2 c), vI 17, vI (nI k)] σ (fun s2 => Q s2) := by
      intro c hc2
      rw [hc2] at h
      exact jr_rule (by omega) hG hS hf hk rfl rfl (by decide) (fun σ2 hS2 hf2 _ => h σ2 (JP.of hS2 hf2))
    have known : ((decide (0 ≤ sdI N (gV g k)) && decide (sdI N (gV g k) < 9)) || decide (bfd (gV g k) 2 (bpre s) 0 ≠ none)) = true → OkI w (d - 1) m_Rules_blockKind [vR 21] σ (fun r17 s17 => ((r17 = 1 → OkV w (d - 1) m_Rules_rule [vR 21, vI (0), vI (17), vI (nI k)] s17 (fun s18 => Q s18)) ∧ (¬ r17 = 1 → OkV w (d - 1) m_Rules_rule [vR 21, vI (1), vI (17), vI (nI k)] s17 (fun s19 => Q s19)))) := by
      intro hkn
      rw [hkn, Bool.true_and] at fin
      exact jr_blockKind (by omega) hG hS hb ⟨fun r => fin false (decide_eq_false (fun z => z r)), fun r => fin true (decide_eq_true r)⟩
    have b311 : (decide (0 ≤ sdI N (gV g k)) && decide (sdI N (gV g k) < 9)) = false → Bk w d 0 0 m_Rules_leave 0 0 (qv Q) 311 [oR 21, oI (nI k), none, oI (gV g k), none] [] σ := by
      intro hs
      refine v_Rules_leave_311 _ _ _ (jr_blockNamed (by omega) hG hS.1 hS.2.1 h24 (by omega) ?_)
      show (jO (bfd (gV g k) 2 (bpre s) 0) < 0 → _) ∧ (¬ jO (bfd (gV g k) 2 (bpre s) 0) < 0 → _)
      rw [jO_neg (fun j hj => by have := (bfd_pre hj).1; omega)]
      refine ⟨fun r => ⟨fun _ => fin false (by rw [hs, r]; rfl), fun r2 => absurd rfl r2⟩, fun r => ⟨fun r2 => absurd r2 (by decide), fun _ => known (by rw [decide_eq_true r, Bool.or_true])⟩⟩
    rw [en, nI_clamp (by omega), (hS.2.2.2.2.2.1 nj hnj).1, ← en]
    have nin : vp_in (gV g k) 16384 := by rw [en]; exact vp_in_nI (by omega) (by omega)
    refine ⟨nin, fun r => b311 (by rw [decide_eq_false (Int32.not_le.mpr r)]; rfl), fun r => ⟨nin, fun r2 => ⟨fun r3 => absurd r3 (by decide), fun _ => known (by rw [decide_eq_true (Int32.not_lt.mp r), decide_eq_true r2]; rfl)⟩, fun r2 => b311 (by rw [decide_eq_false r2, Bool.and_false])⟩⟩
  · -- statements, rungs, expressions
    have n7' : gK g k ≠ 7 := by rw [hq]; exact n7
    rw [tkN_no n7'] at h
    by_cases hc : q = 30 ∨ q = 31
    · exact jr_leaveConst (by omega) hG hR hS hf hk hq hc rfl h
    · have hqs' : q ∈ [(11 : Int32), 12, 13, 14, 15, 16, 17, 18, 19, 20, 21, 22, 23, 24, 25, 26, 27, 28, 29, 32, 33, 34, 35, 36] := by
        simp only [List.mem_cons, List.not_mem_nil, or_false] at hqs hc ⊢
        grind
      have f0 := hf0 (nD_st hq hqs')
      subst f0
      refine jr_leaveStatement (by omega) hG hR hK hS hI hN hb hf hk hE hU hq ?_ rfl h
      simp only [List.mem_cons, List.not_mem_nil, or_false] at hqs' ⊢
      grind
end
