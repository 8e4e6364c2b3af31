/-! 135: the component judges: rungs, expressions without calls -/
theorem lvS_ru {g : Nat → NI} {N : List (List Int32)} {M k : Nat} {s : JS} {q : Int32} (h : gK g k = q) (hq : q ∈ [(22 : Int32), 23, 24, 25, 26, 27, 28, 29]) : lvS g N M k s = lvRung g M k s := by
  unfold lvS
  rw [h]
  simp only [List.mem_cons, List.not_mem_nil, or_false] at hq
  rcases hq with e | e | e | e | e | e | e | e <;> subst e <;> rfl
theorem lvS_ex {g : Nat → NI} {N : List (List Int32)} {M k : Nat} {s : JS} {q : Int32} (h : gK g k = q) (hq : q ∈ [(30 : Int32), 31, 32, 33, 34, 35, 36]) : lvS g N M k s = lvExpr g N M k s := by
  unfold lvS
  rw [h]
  simp only [List.mem_cons, List.not_mem_nil, or_false] at hq
  rcases hq with e | e | e | e | e | e | e <;> subst e <;> rfl
theorem lvS_no {g : Nat → NI} {N : List (List Int32)} {M k : Nat} {s : JS} {q : Int32} (h : gK g k = q) (hq : q ∈ [(11 : Int32), 17, 21, 22, 24, 26, 27]) : lvS g N M k s = .ok s := by
  simp only [List.mem_cons, List.not_mem_nil, or_false] at hq
  rcases hq with e | e | e | e | e | e | e <;> subst e
  · rw [lvS_st h (by decide)]; unfold lvStat; rw [h]; rfl
  · rw [lvS_st h (by decide)]; unfold lvStat; rw [h]; rfl
  · rw [lvS_st h (by decide)]; unfold lvStat; rw [h]; rfl
  · rw [lvS_ru h (by decide)]; unfold lvRung; rw [h]; rfl
  · rw [lvS_ru h (by decide)]; unfold lvRung; rw [h]; rfl
  · rw [lvS_ru h (by decide)]; unfold lvRung; rw [h]; rfl
  · rw [lvS_ru h (by decide)]; unfold lvRung; rw [h]; rfl
section
variable {w : Wd} {d : Nat} {g : Nat → NI} {N : List (List Int32)} {M : Nat} {σ0 σ : Sg} {s : JS} {E : Nat} {tk : Nat → Bool} {ft : Option JE}
theorem jr_leaveRung {Q : Sg → Prop} {k : Nat} {q : Int32} {x1 x2 : Int32} (hd : 4 ≤ d) (hG : StG g N M σ0) (hR : GrT g M) (hS : JW g N M σ0 σ s E tk) (hI : JI s 0) (hb : jB s ≠ []) (hf : FT σ none) (hk : k < M) (hE : ∀ c, c < M → gU g c = some k → c < E) (hU : ∃ p, gU g k = some p) (hq : gK g k = q) (hqs : q ∈ [(11 : Int32), 17, 21, 22, 23, 24, 25, 26, 27, 28, 29]) (h1 : x1 = nI k) (h2 : x2 = jO (gF g k)) (h : ∀ σ', JP g N M σ0 σ' (lvS g N M k s) E tk → Q σ') : OkV w d m_Rules_leaveRung [vR 21, vI x1, vI x2] σ Q := by
  subst h1 h2
  have hM := hG.2.2.1
  have hin : vp_in (nI k) 33500 := vp_in_nI (by omega) (by omega)
  obtain ⟨L, f, hc, hr, hff, hL⟩ := hR k hk
  have hkid := kid_of hG.2.1 hk hc
  obtain ⟨p, hp⟩ := hU
  have hpk := (hG.2.1 k hk).1 p hp
  refine v_Rules_leaveRung _ _ _ (by omega) ⟨hin, ?_⟩
  rw [nI_clamp (by omega), (hS.tb hG hk).1, (hS.tb hG hk).2.2.2.2.2, (hS.tb hG hk).2.2.2.1, hq]
  have none_ : q ∈ [(11 : Int32), 17, 21, 22, 24, 26, 27] → Q σ := fun r => h σ (by rw [lvS_no hq r]; exact ⟨hS, hf⟩)
  refine ⟨fun e => ?_, fun n23 => ⟨fun e => none_ (by rw [e]; decide), fun n24 => ⟨fun e => ?_, fun n25 => ⟨fun e => none_ (by rw [e]; decide), fun n26 => ⟨fun e => none_ (by rw [e]; decide), fun n27 => ⟨fun e => ?_, fun n28 => ⟨fun e => ?_, fun n29 => none_ ?_⟩⟩⟩⟩⟩⟩⟩
  · -- a rung
    subst e
    rw [lvS_ru hq (by decide)] at h
    rw [hq] at hr
    obtain ⟨a, R, eL⟩ := RowG.nfin (g := g) (a := 33) (L := L) hr hff (by decide)
    have eF : gF g k = some a := by rw [eL] at hc; exact hc.1
    have k0 : kd g M k 0 = a := by unfold kd; rw [hkid, eL]; rfl
    have ha := (hL a (by rw [eL]; simp)).2.1
    have h : ∀ σ', JP g N M σ0 σ' (toR (orF (rlF g (L.all (fun r => decide (wdt g M r ≤ 12) && decide (wdt g M r = wdt g M a))) 38 k) (rlF g (decide (L.length ≤ 12)) 38 k)) s) E tk → Q σ' := by
      unfold lvRung at h
      rw [hq, if_pos rfl, rl_eq, orF_rl, hkid, k0] at h
      exact h
    have wl : ∀ r, wdt g M r ≤ M := fun r => by
      unfold wdt kid
      have aux : ∀ (f : Nat) (o : Option Nat), (chs g f o).length ≤ f := by
        intro f
        induction f with
        | zero => intro o; exact Nat.le_refl _
        | succ f ih =>
          intro o
          cases o with
          | none => exact Nat.zero_le _
          | some c => rw [chs]; have := ih (gX g c); simp only [List.length_cons]; omega
      have := aux M (gF g r)
      have := List.length_filter_le (fun c => decide (gK g c ≠ 29)) (chs g M (gF g r))
      omega
    have loop : ∀ (R : List Nat) (o : Option Nat) (σ1 : Sg) (ft1 : Option JE), Chn g o R → (∀ c, o = some c → c < M) → JW g N M σ0 σ1 s E tk → FT σ1 ft1 → (∀ σ2, JP g N M σ0 σ2 (toR (orF ft1 (orF (rlF g (R.all (fun r => decide (wdt g M r ≤ 12) && decide (wdt g M r = wdt g M a))) 38 k) (rlF g (decide (L.length ≤ 12)) 38 k))) s) E tk → Q σ2) → Bk w d 0 0 m_Rules_leaveRung 0 0 (qv Q) 54 [oR 21, oI (nI k), oI (nI a), oI (jO o)] [] σ1 := by
      intro R
      induction R with
      | nil =>
        intro o σ1 ft1 hco ho hS1 hf1 hQ
        have eo : o = none := hco
        subst eo
        refine v_Rules_leaveRung_54 _ _ _ _ ⟨fun _ => jr_children (by omega) hG hS1 hk rfl ?_, fun q => absurd rfl q⟩
        have hlen : L.length ≤ M := by have := Chn.len hG.2.1 (k := k + 1) hc (fun c q => by have := (hG.2.1 k hk).2.1 c q; omega) (by omega); omega
        rw [hkid, show (12 : Int32) = nI 12 from rfl, nI_ltI (by decide) (by omega)]
        have hQ : ∀ σ2, JP g N M σ0 σ2 (toR (orF ft1 (rlF g (decide (L.length ≤ 12)) 38 k)) s) E tk → Q σ2 := hQ
        have fin : ∀ c : Bool, decide (L.length ≤ 12) = c → OkV w (d - 1) m_Rules_rule [vR 21, vI (b2 c), vI 38, vI (nI k)] σ1 (fun s2 => Q s2) := by
          intro c hc2
          rw [hc2] at hQ
          exact jr_rule (by omega) hG hS1 hf1 hk rfl rfl (by decide) (fun σ2 hS2 hf2 _ => hQ σ2 (JP.of hS2 hf2))
        exact ⟨fun q => fin false (decide_eq_false (by omega)), fun q => fin true (decide_eq_true (by omega))⟩
      | cons x R ih =>
        intro o σ1 ft1 hco ho hS1 hf1 hQ
        have eo : o = some x := hco.1
        have hx := ho x eo
        subst eo
        have xin : vp_in (nI x) 33500 := vp_in_nI (by omega) (by omega)
        have w1 := wl x
        have w2 := wl a
        have step : ∀ c : Bool, (decide (wdt g M x ≤ 12) && decide (wdt g M x = wdt g M a)) = c → OkV w (d - 1) m_Rules_rule [vR 21, vI (b2 c), vI 38, vI (nI k)] σ1 (fun s5 => (vp_in (nI x) 33500 ∧ Bk w d 0 0 m_Rules_leaveRung 0 0 (qv Q) 54 [oR 21, oI (nI k), oI (nI a), oI (s5.1 14 (Int32.toNatClampNeg (nI x)))] [] s5)) := by
          intro c hcx
          refine jr_rule (by omega) hG hS1 hf1 hk rfl rfl (by decide) (fun σ2 hS2 hf2 k2 => ⟨xin, ?_⟩)
          rw [nI_clamp (by omega), (hS2.tb hG hx).2.2.2.2.2]
          refine ih _ σ2 _ hco.2 (fun e he => ((hG.2.1 x hx).2.2.1 e he).2.1) hS2 hf2 (fun σ3 h3 => hQ σ3 ?_)
          rw [List.all_cons, orF_rl, hcx]
          rw [orF_as] at h3
          rw [orF_as]
          exact h3
        refine v_Rules_leaveRung_54 _ _ _ _ ⟨fun q => absurd q (nI_nm1 (by omega)), fun _ => jr_width (by omega) hG hS1 hx rfl ?_⟩
        rw [show (12 : Int32) = nI 12 from rfl, nI_ltI (by decide) (by omega)]
        refine ⟨fun q => step false (by rw [decide_eq_false (p := wdt g M x ≤ 12) (by omega)]; rfl), fun q => jr_width (by omega) hG hS1 hx rfl (jr_width (by omega) hG hS1 ha rfl ?_)⟩
        rw [nI_eq (by omega) (by omega)]
        exact ⟨fun q2 => step false (by rw [decide_eq_false q2, Bool.and_false]), fun q2 => step true (by rw [decide_eq_true q2, decide_eq_true (p := wdt g M x ≤ 12) (by omega)]; rfl)⟩
    rw [eF]
    exact loop L (some a) σ none (by rw [eF] at hc; exact hc) (fun c q => by cases q; exact ha) hS hf h
  · -- a contact
    subst e
    rw [lvS_ru hq (by decide)] at h
    rw [hq] at hr
    obtain ⟨a, eL, _⟩ := row38 (L := L) (f := f) hr hff
    have eF : gF g k = some a := by rw [eL] at hc; exact hc.1
    have k0 : kd g M k 0 = a := by unfold kd; rw [hkid, eL]; rfl
    have ha := hL a (by rw [eL]; simp)
    have h : ∀ σ', JP g N M σ0 σ' (toR (rlF g (decide (jT s a = 0)) 41 k) s) E tk → Q σ' := by
      unfold lvRung at h
      rw [hq, if_neg (by decide), if_pos rfl, rl_eq, k0] at h
      exact h
    rw [eF, show jO (some a) = nI a from rfl, nI_clamp (by omega), (hS.an (hE a ha.2.1 ha.2.2)).1]
    have fin : ∀ c : Bool, decide (jT s a = 0) = c → OkV w (d - 1) m_Rules_rule [vR 21, vI (b2 c), vI 41, vI (nI k)] σ (fun s2 => Q s2) := by
      intro c hc2
      rw [hc2] at h
      exact jr_rule (by omega) hG hS hf hk rfl rfl (by decide) (fun σ2 hS2 hf2 _ => h σ2 (JP.of hS2 hf2))
    exact ⟨vp_in_nI (by omega) (by omega), fun q => fin false (decide_eq_false q), fun q => fin true (decide_eq_true q)⟩
  · -- a coil
    subst e
    rw [lvS_ru hq (by decide)] at h
    rw [hq] at hr
    obtain ⟨a, eL, ka⟩ := row27 (L := L) (f := f) hr hff
    have eF : gF g k = some a := by rw [eL] at hc; exact hc.1
    have k0 : kd g M k 0 = a := by unfold kd; rw [hkid, eL]; rfl
    have ha := hL a (by rw [eL]; simp)
    have ain : vp_in (nI a) 33500 := vp_in_nI (by omega) (by omega)
    obtain ⟨nj, hnj, en⟩ := hG.nm ha.2.1 (by rw [ka]; decide)
    have hNl := hG.2.2.2.2.1
    have h : ∀ σ', JP g N M σ0 σ' (toR (orF (rlF g (decide (gX g k = none)) 39 k) (orF (rlF g (decide (jT s a = 0)) 41 k) (asgE g M k (gV g a) s))) s) E tk → Q σ' := by
      unfold lvRung at h
      rw [hq, if_neg (by decide), if_neg (by decide), if_pos rfl, rl_eq, k0] at h
      rw [toR_bind (h := orF (rlF g (decide (jT s a = 0)) 41 k) (asgE g M k (gV g a) s)) (s' := s)] at h
      · exact h
      · rw [rl_eq, toR_bind asgS_eq]
    rw [eF, show jO (some a) = nI a from rfl]
    have fin : ∀ c1 : Bool, decide (gX g k = none) = c1 → OkV w (d - 1) m_Rules_rule [vR 21, vI (b2 c1), vI 39, vI (nI k)] σ (fun s3 => (vp_in (nI a) 33500 ∧ ((¬ (s3.1 25 (Int32.toNatClampNeg (nI a))) = 0 → OkV w (d - 1) m_Rules_rule [vR 21, vI (0), vI (41), vI (nI k)] s3 (fun s4 => OkV w (d - 1) m_Rules_assigned [vR 21, vI (nI k), vI (nI a)] s4 (fun s5 => Q s5))) ∧ ((s3.1 25 (Int32.toNatClampNeg (nI a))) = 0 → OkV w (d - 1) m_Rules_rule [vR 21, vI (1), vI (41), vI (nI k)] s3 (fun s6 => OkV w (d - 1) m_Rules_assigned [vR 21, vI (nI k), vI (nI a)] s6 (fun s7 => Q s7)))))) := by
      intro c1 hc1
      rw [hc1] at h
      refine jr_rule (by omega) hG hS hf hk rfl rfl (by decide) (fun σ1 hS1 hf1 _ => ⟨ain, ?_⟩)
      rw [nI_clamp (by omega), (hS1.an (hE a ha.2.1 ha.2.2)).1]
      have fin2 : ∀ c : Bool, decide (jT s a = 0) = c → OkV w (d - 1) m_Rules_rule [vR 21, vI (b2 c), vI 41, vI (nI k)] σ1 (fun s4 => OkV w (d - 1) m_Rules_assigned [vR 21, vI (nI k), vI (nI a)] s4 (fun s5 => Q s5)) := by
        intro c hc2
        rw [hc2] at h
        refine jr_rule (by omega) hG hS1 hf1 hk rfl rfl (by decide) (fun σ2 hS2 hf2 _ => jr_assigned (by omega) hG hS2 hb (hI.laid hb) hf2 hk ha.2.1 rfl rfl (by rw [en]; exact nI_nm1 (by omega)) (fun σ3 hS3 hf3 _ => h σ3 ?_))
        rw [orF_as] at hf3
        exact JP.of hS3 hf3
      exact ⟨fun r => fin2 false (decide_eq_false r), fun r => fin2 true (decide_eq_true r)⟩
    have hX : ∀ j, gX g k = some j → j < 2 ^ 31 := fun j hj => by have := ((hG.2.1 k hk).2.2.1 j hj).2.1; omega
    rw [jO_m1 hX]
    refine ⟨hin, fun r => ?_, fun r => ?_⟩
    · exact fin false (decide_eq_false r)
    · exact fin true (decide_eq_true r)
  · -- a link
    subst e
    rw [lvS_ru hq (by decide)] at h
    have h : ∀ σ', JP g N M σ0 σ' (toR (rlF g (decide (gX g p ≠ none)) 40 k) s) E tk → Q σ' := by
      unfold lvRung at h
      rw [hq, if_neg (by decide), if_neg (by decide), if_neg (by decide), if_pos rfl, rl_eq, hp] at h
      exact h
    rw [hp, show jO (some p) = nI p from rfl, nI_clamp (by omega), (hS.tb hG (by omega)).2.2.2.2.2]
    have hX : ∀ j, gX g p = some j → j < 2 ^ 31 := fun j hj => by have := ((hG.2.1 p (by omega)).2.2.1 j hj).2.1; omega
    rw [jO_m1 hX]
    have fin : ∀ c : Bool, decide (gX g p ≠ none) = c → OkV w (d - 1) m_Rules_rule [vR 21, vI (b2 c), vI 40, vI (nI k)] σ (fun s2 => Q s2) := by
      intro c hc2
      rw [hc2] at h
      exact jr_rule (by omega) hG hS hf hk rfl rfl (by decide) (fun σ2 hS2 hf2 _ => h σ2 (JP.of hS2 hf2))
    exact ⟨hin, vp_in_nI (by omega) (by omega), fun r => fin false (decide_eq_false (fun z => z r)), fun r => fin true (decide_eq_true r)⟩
  · simp only [List.mem_cons, List.not_mem_nil, or_false] at hqs ⊢
    grind
end
