/-! 133: the component judges: FOR, parameters -/
theorem i64_dv {x y : Int64} (h1 : -(2 ^ 40) < x.toInt) (h2 : x.toInt < 2 ^ 40) : (x / y + 1).toInt = x.toInt.tdiv y.toInt + 1 := by
  have hq : (x.toInt.tdiv y.toInt).natAbs ≤ x.toInt.natAbs := by rw [Int.natAbs_tdiv]; exact Nat.div_le_self _ _
  have e : (x / y).toInt = x.toInt.tdiv y.toInt := by
    rw [Int64.toInt_div]
    exact Int.bmod_eq_of_le (by omega) (by omega)
  rw [Int64.toInt_add, e]
  exact Int.bmod_eq_of_le (by simp; omega) (by simp; omega)
section
variable {w : Wd} {d : Nat} {g : Nat → NI} {N : List (List Int32)} {M : Nat} {σ0 σ : Sg} {s : JS} {E : Nat} {tk : Nat → Bool} {ft : Option JE}
/-- the constants of a FOR are right for a type -/
def forC (g : Nat → NI) (M k : Nat) (t : Int32) : Bool := wthn g (kd g M k 0) t && wthn g (kd g M k 1) t && (decide (gK g (kd g M k 2) = 11) || wthn g (kd g M k 2) t) && decide (byOf g M k ≠ 0)
theorem forOK_C {k : Nat} {t : Int32} : forOK g M k t = (forC g M k t && decide (tmsI g M k ≤ 1000000)) := rfl
theorem jr_times_tail {Q : Int64 → Sg → Prop} {k a b : Nat} {t : Int32} {y : Int64} (hy : y.toInt = if forC g M k t = true then byOf g M k else y.toInt) (hy0 : y = 0 → forC g M k t = false) (hC : wthn g a t = true → wthn g b t = true → y ≠ 0 → forC g M k t = true) (hD : forC g M k t = true → wthn g a t = true ∧ wthn g b t = true) (ka : kd g M k 0 = a) (kb : kd g M k 1 = b) (hG : StG g N M σ0) (hS : JW g N M σ0 σ s E tk) (ha : a < M) (hb : b < M) (hd : 1 ≤ d)
    (h : ∀ r, (forC g M k t = true → r.toInt = tmsI g M k) → (forC g M k t = false → r = 9223372036854775807) → Q r σ) :
    OkI w d m_Rules_isWithin [vR 21, vI (nI a), vI t] σ (fun r1 s1 => ((r1 = 0 → Q 9223372036854775807 s1) ∧ (¬ r1 = 0 → OkI w d m_Rules_isWithin [vR 21, vI (nI b), vI t] s1 (fun r2 s2 => ((r2 = 0 → Q 9223372036854775807 s2) ∧ (¬ r2 = 0 → ((¬ (lg_cmp y 0) = 0 → (vp_in (nI b) 33500 ∧ (vp_in (nI a) 33500 ∧ (((lg_cmp y 0) ≤ 0 → (((lg_cmp ((Int32.toInt64 (s2.1 10 (Int32.toNatClampNeg (nI b)))) - (Int32.toInt64 (s2.1 10 (Int32.toNatClampNeg (nI a))))) 0) ≤ 0 → (¬ (y : Int64) = 0 ∧ Q ((((Int32.toInt64 (s2.1 10 (Int32.toNatClampNeg (nI b)))) - (Int32.toInt64 (s2.1 10 (Int32.toNatClampNeg (nI a))))) / y) + 1) s2)) ∧ (¬ (lg_cmp ((Int32.toInt64 (s2.1 10 (Int32.toNatClampNeg (nI b)))) - (Int32.toInt64 (s2.1 10 (Int32.toNatClampNeg (nI a))))) 0) ≤ 0 → Q 0 s2))) ∧ (¬ (lg_cmp y 0) ≤ 0 → ((0 ≤ (lg_cmp ((Int32.toInt64 (s2.1 10 (Int32.toNatClampNeg (nI b)))) - (Int32.toInt64 (s2.1 10 (Int32.toNatClampNeg (nI a))))) 0) → (¬ (y : Int64) = 0 ∧ Q ((((Int32.toInt64 (s2.1 10 (Int32.toNatClampNeg (nI b)))) - (Int32.toInt64 (s2.1 10 (Int32.toNatClampNeg (nI a))))) / y) + 1) s2)) ∧ (¬ 0 ≤ (lg_cmp ((Int32.toInt64 (s2.1 10 (Int32.toNatClampNeg (nI b)))) - (Int32.toInt64 (s2.1 10 (Int32.toNatClampNeg (nI a))))) 0) → Q 0 s2))))))) ∧ ((lg_cmp y 0) = 0 → Q 9223372036854775807 s2)))))))) := by
  have hM := hG.2.2.1
  have no : (forC g M k t = true → False) → Q 9223372036854775807 σ := fun q => h _ (fun r => (q r).elim) (fun _ => rfl)
  refine jr_isWithin (by omega) hG hS ha rfl ⟨fun q => no (fun r => ?_), fun q => jr_isWithin (by omega) hG hS hb rfl ⟨fun q2 => no (fun r => ?_), fun q2 => ?_⟩⟩
  · rw [(hD r).1] at q; exact absurd q (by decide)
  · rw [(hD r).2] at q2; exact absurd q2 (by decide)
  · rw [nI_clamp (by omega), nI_clamp (by omega), (hS.tb hG ha).2.2.1, (hS.tb hG hb).2.2.1, lg_eq, lg_le, lg_le, ← Int32.not_lt, lg_lt]
    refine ⟨fun q3 => ⟨vp_in_nI (by omega) (by omega), vp_in_nI (by omega) (by omega), ?_⟩, fun q3 => no (fun r => by rw [hy0 q3] at r; cases r)⟩
    have hc := hC (b2_n0.mp q) (b2_n0.mp q2) q3
    rw [if_pos hc] at hy
    have no : ∀ r : Int64, r.toInt = tmsI g M k → Q r σ := fun r hr => h r (fun _ => hr) (fun q => by rw [hc] at q; cases q)
    have w := i64_sub (gV g b) (gV g a)
    have l1 := (gV g b).toInt_lt
    have l2 := (gV g b).le_toInt
    have l3 := (gV g a).toInt_lt
    have l4 := (gV g a).le_toInt
    have y0 : y.toInt ≠ 0 := fun q => q3 (Int64.toInt_inj.mp (by rw [q]; rfl))
    have ew : tmsI g M k = (if ((gV g b).toInt - (gV g a).toInt) ≠ 0 ∧ (decide (0 < ((gV g b).toInt - (gV g a).toInt)) != decide (0 < y.toInt)) = true then 0 else ((gV g b).toInt - (gV g a).toInt).tdiv y.toInt + 1) := by
      unfold tmsI; rw [ka, kb, hy]
    have dv : ∀ (x : Int64), x.toInt = (gV g b).toInt - (gV g a).toInt → (x / y + 1).toInt = ((gV g b).toInt - (gV g a).toInt).tdiv y.toInt + 1 := fun x hx => by rw [← hx]; exact i64_dv (by omega) (by omega)
    rw [Int64.le_iff_toInt_le, Int64.le_iff_toInt_le, Int64.lt_iff_toInt_lt, w]
    have z : (0 : Int64).toInt = 0 := rfl
    rw [z]
    refine ⟨fun q4 => ⟨fun q5 => ⟨q3, no _ ?_⟩, fun q5 => no _ ?_⟩, fun q4 => ⟨fun q5 => ⟨q3, no _ ?_⟩, fun q5 => no _ ?_⟩⟩
    · rw [dv _ w, ew, if_neg ?_]
      intro ⟨r1, r2⟩
      rw [decide_eq_false (by omega), decide_eq_false (by omega)] at r2; cases r2
    · rw [ew, if_pos ?_]; · rfl
      refine ⟨by omega, ?_⟩
      rw [decide_eq_true (by omega), decide_eq_false (by omega)]; rfl
    · rw [dv _ w, ew, if_neg ?_]
      intro ⟨r1, r2⟩
      rw [decide_eq_true (by omega), decide_eq_true (by omega)] at r2; cases r2
    · rw [ew, if_pos ?_]; · rfl
      refine ⟨by omega, ?_⟩
      rw [decide_eq_false (by omega), decide_eq_true (by omega)]; rfl
theorem i64_i32 (x : Int32) : (Int32.toInt64 x).toInt = x.toInt := Int32.toInt_toInt64 x
theorem jr_times {Q : Int64 → Sg → Prop} {k : Nat} {x1 t : Int32} (hd : 2 ≤ d) (hG : StG g N M σ0) (hR : GrT g M) (hS : JW g N M σ0 σ s E tk) (hk : k < M) (h19 : gK g k = 19) (h1 : x1 = nI k) (h : ∀ r, (forC g M k t = true → r.toInt = tmsI g M k) → (forC g M k t = false → r = 9223372036854775807) → Q r σ) : OkL w d m_Rules_times [vR 21, vI x1, vI t] σ Q := by
  subst h1
  have hM := hG.2.2.1
  obtain ⟨L, f, hc, hr, hff, hL⟩ := hR k hk
  rw [h19] at hr
  obtain ⟨a, b, c, ka, kb, kc⟩ := row24 (L := L) (f := f) hr hff
  have hkid := kid_of hG.2.1 hk hc
  have fact : gF g k = some a ∧ gX g a = some b ∧ gX g b = some c ∧ a < M ∧ b < M ∧ c < M ∧ kd g M k 0 = a ∧ kd g M k 1 = b ∧ kd g M k 2 = c := by
    rcases kc with ⟨e, _⟩ | ⟨x, e, _⟩
    · subst e; exact ⟨hc.1, hc.2.1, hc.2.2.1, (hL a (by simp)).2.1, (hL b (by simp)).2.1, (hL c (by simp)).2.1, by unfold kd; rw [hkid]; rfl, by unfold kd; rw [hkid]; rfl, by unfold kd; rw [hkid]; rfl⟩
    · subst e; exact ⟨hc.1, hc.2.1, hc.2.2.1, (hL a (by simp)).2.1, (hL b (by simp)).2.1, (hL c (by simp)).2.1, by unfold kd; rw [hkid]; rfl, by unfold kd; rw [hkid]; rfl, by unfold kd; rw [hkid]; rfl⟩
  obtain ⟨eF, eX, eX2, ha, hb, hcM, k0, k1, k2⟩ := fact
  have hD : forC g M k t = true → wthn g a t = true ∧ wthn g b t = true := by
    intro q; unfold forC at q; rw [k0, k1] at q
    simp only [Bool.and_eq_true] at q
    exact q.1.1
  refine v_Rules_times _ _ _ (by omega) ⟨vp_in_nI (by omega) (by omega), ?_⟩
  rw [nI_clamp (by omega), (hS.tb hG hk).2.2.2.2.1, eF, show jO (some a) = nI a from rfl, nI_clamp (by omega), (hS.tb hG ha).2.2.2.2.2, eX, show jO (some b) = nI b from rfl, nI_clamp (by omega), (hS.tb hG hb).2.2.2.2.2, eX2, show jO (some c) = nI c from rfl, nI_clamp (by omega), (hS.tb hG hcM).1]
  refine ⟨vp_in_nI (by omega) (by omega), vp_in_nI (by omega) (by omega), vp_in_nI (by omega) (by omega), fun q => ?_, fun q => jr_isWithin (by omega) hG hS hcM rfl ?_⟩
  · have by1 : byOf g M k = 1 := by unfold byOf; rw [k2, if_pos q]
    have := jr_times_tail (w := w) (Q := Q) (y := 1) (t := t) (k := k) (a := a) (b := b) (g := g) (M := M) (N := N) (σ0 := σ0) (σ := σ) (s := s) (E := E) (tk := tk) (d := d - 1) (by split <;> simp [by1]) (fun r => absurd r (by decide)) (fun r1 r2 _ => by unfold forC; rw [k0, k1, k2, r1, r2, decide_eq_true q, by1]; rfl) hD k0 k1 hG hS ha hb (by omega) h
    rw [nI_clamp (by omega), nI_clamp (by omega)] at this
    exact this
  · have tail : ∀ (y : Int64), (y.toInt = if forC g M k t = true then byOf g M k else y.toInt) → (y = 0 → forC g M k t = false) → (wthn g a t = true → wthn g b t = true → y ≠ 0 → forC g M k t = true) → Bk w d 0 0 m_Rules_times 0 0 (ql Q) 76 [oR 21, none, oI t, oI (nI a), oI (nI b), none, none, none, none, none] [vL y] σ := by
      intro y hy hy0 hC
      exact v_Rules_times_76 _ _ _ _ _ (jr_times_tail hy hy0 hC hD k0 k1 hG hS ha hb (by omega) h)
    have eby : byOf g M k = (gV g c).toInt := by unfold byOf; rw [k2, if_neg q]
    refine ⟨fun q2 => tail 0 ?_ (fun _ => ?_) (fun _ _ r => absurd rfl r), fun q2 => ⟨vp_in_nI (by omega) (by omega), ?_⟩⟩
    · have : forC g M k t = false := by
        rw [Bool.eq_false_iff]; intro r; unfold forC at r; rw [k2, decide_eq_false q, b2_0.mp q2] at r; simp at r
      rw [this]; simp
    · rw [Bool.eq_false_iff]; intro r; unfold forC at r; rw [k2, decide_eq_false q, b2_0.mp q2] at r; simp at r
    · rw [(hS.tb hG hcM).2.2.1]
      refine tail _ ?_ (fun r => ?_) (fun r1 r2 r3 => ?_)
      · rw [i64_i32, eby]; split <;> rfl
      · rw [Bool.eq_false_iff]; intro r4
        unfold forC at r4
        simp only [Bool.and_eq_true, decide_eq_true_eq] at r4
        apply r4.2
        rw [eby, ← i64_i32, r]; rfl
      · unfold forC
        rw [k0, k1, k2, r1, r2, b2_n0.mp q2, decide_eq_true (p := byOf g M k ≠ 0) ?_]
        · simp
        · intro r4
          apply r3
          apply Int64.toInt_inj.mp
          rw [i64_i32, ← eby, r4]; rfl
theorem lvS_st {k : Nat} {q : Int32} (h : gK g k = q) (hq : q ∈ [(11 : Int32), 12, 13, 14, 15, 16, 17, 18, 19, 20, 21]) : lvS g N M k s = lvStat g N M k s := by
  unfold lvS
  rw [h]
  simp only [List.mem_cons, List.not_mem_nil, or_false] at hq
  rcases hq with e | e | e | e | e | e | e | e | e | e | e <;> subst e <;> rfl
theorem lvS_19 {k : Nat} (h : gK g k = 19) : lvS g N M k s = lvFor g M k s := by
  rw [lvS_st h (by decide)]; unfold lvStat; rw [h]; rfl
/-- a FOR is left -/
theorem jr_leaveFor {Q : Sg → Prop} {k : Nat} {x1 : Int32} (hd : 5 ≤ d) (hG : StG g N M σ0) (hR : GrT g M) (hS : JW g N M σ0 σ s E tk) (hI : JI s 0) (hb : jB s ≠ []) (hf : FT σ none) (hk : k < M) (h19 : gK g k = 19) (h1 : x1 = nI k) (h : ∀ σ', JP g N M σ0 σ' (lvS g N M k s) E tk → Q σ') : OkV w d m_Rules_leaveFor [vR 21, vI x1] σ Q := by
  subst h1
  have hM := hG.2.2.1
  rw [lvS_19 h19] at h
  unfold lvFor at h
  rw [nmd_toR] at h
  have hin : vp_in (nI k) 33500 := vp_in_nI (by omega) (by omega)
  obtain ⟨nj, hnj, en⟩ := hG.nm hk (by rw [h19]; decide)
  have hNl := hG.2.2.2.2.1
  refine v_Rules_leaveFor _ _ (by omega) (jr_named (by omega) hG hS hb hf hk rfl (fun σ1 r hS1 hf1 r0 r1 k1 => ?_))
  cases e : nmdF g k 0 s with
  | some x =>
    rw [e] at h hf1 r1
    rw [r1 (by simp [orF])]
    refine ⟨fun _ => v_Rules_leaveFor_24 _ _ _ (jr_rule (c := true) (by omega) hG hS1 hf1 hk rfl rfl (by decide) (fun σ2 hS2 hf2 _ => ⟨fun _ => h σ2 ⟨hS2.1, hf2⟩, fun q => absurd (by decide) q⟩)), fun q => absurd (by decide) q⟩
  | none =>
    rw [e] at h hf1 r0
    obtain ⟨v, hv, hs0⟩ := nmd_v e
    rw [hv] at h r0
    rw [r0 rfl]
    have W := hS1.var hI hb hv
    have ng : ¬ jO (some v) < 0 := nI_pos (by omega)
    have rest : ∀ (c : Bool) (σ2 : Sg), isN (vT (gR s v)) = c → JW g N M σ0 σ2 s E tk → FT σ2 (rlF g c 22 k) → ((jO (some v) < 0 → Q σ2) ∧ (¬ jO (some v) < 0 → (((σ2.1 21 2) = 0 → OkV w (d - 1) m_Rules_assigned [vR 21, vI (nI k), vI (nI k)] σ2 (fun s4 => (vp_in (jO (some v)) 16384 ∧ (vp_in (nI k) 33500 ∧ (vp_in (jO (some v)) 16384 ∧ OkL w (d - 1) m_Rules_times [vR 21, vI (nI k), vI (s4.1 30 (Int32.toNatClampNeg (jO (some v))))] (wI s4 26 (Int32.toNatClampNeg (nI k)) (s4.1 32 (Int32.toNatClampNeg (jO (some v))))) (fun r5 s5 => ((0 < (lg_cmp r5 1000000) → OkV w (d - 1) m_Rules_rule [vR 21, vI (0), vI (36), vI (nI k)] s5 (fun s6 => Q s6)) ∧ (¬ 0 < (lg_cmp r5 1000000) → OkV w (d - 1) m_Rules_rule [vR 21, vI (1), vI (36), vI (nI k)] s5 (fun s7 => Q s7))))))))) ∧ (¬ (σ2.1 21 2) = 0 → Q σ2)))) := by
      intro c σ2 hc hS2 hf2
      refine ⟨fun q => absurd q ng, fun _ => ?_⟩
      rw [hf2.none_iff]
      have h : ∀ σ', JP g N M σ0 σ' ((rl g c 22 k s).bind fun s => (asgS g M k (gV g k) s).bind fun s => rl g (forOK g M k (vT ((jV s).getD v vr0))) 36 k (setC s k (nI (vC ((jV s).getD v vr0))))) E tk → Q σ' := by
        rw [← hc]; exact h
      rw [rl_eq] at h
      cases hrl : rlF g c 22 k with
      | some x =>
        rw [hrl] at h hf2
        exact ⟨fun q => (by cases q), fun _ => h σ2 ⟨hS2.1, hf2⟩⟩
      | none =>
        rw [hrl] at h hf2
        refine ⟨fun _ => ?_, fun q => absurd rfl q⟩
        have h : ∀ σ', JP g N M σ0 σ' ((asgS g M k (gV g k) s).bind fun s => rl g (forOK g M k (vT ((jV s).getD v vr0))) 36 k (setC s k (nI (vC ((jV s).getD v vr0))))) E tk → Q σ' := h
        refine jr_assigned (by omega) hG hS2 hb (hI.laid hb) hf2 hk hk rfl rfl (by rw [en]; exact nI_nm1 (by omega)) (fun σ3 hS3 hf3 _ => ?_)
        have W3 := hS3.var hI hb hv
        have vin : vp_in (jO (some v)) 16384 := vp_in_nI (by omega) (by omega)
        refine ⟨vin, hin, vin, ?_⟩
        rw [show jO (some v) = nI v from rfl, nI_clamp (by omega), nI_clamp (by omega), W3.2.2.2.1, W3.2.2.2.2.2.1]
        have hS4 : JW g N M σ0 (wI σ3 26 k (nI (vC (gR s v)))) (setC s k (nI (vC (gR s v)))) E tk := hS3.wC
        have hf4 := hf3.wr (k := 26) (j := k) (v := nI (vC (gR s v))) (by omega)
        refine jr_times (by omega) hG hR hS4 hk h19 rfl (fun r5 c1 c0 => ?_)
        rw [asgS_eq] at h
        have fin : ∀ c : Bool, forOK g M k (vT (gR s v)) = c → OkV w (d - 1) m_Rules_rule [vR 21, vI (b2 c), vI 36, vI (nI k)] (wI σ3 26 k (nI (vC (gR s v)))) (fun s6 => Q s6) := by
          intro c hc
          refine jr_rule (by omega) hG hS4 hf4 hk rfl rfl (by decide) (fun σ5 hS5 hf5 _ => h σ5 ?_)
          rw [toR_bind (h := rlF g c 36 k) (s' := setC s k (nI (vC (gR s v)))) (by rw [← hc]; exact rl_eq)]
          exact JP.of hS5 hf5
        rw [lg_gt, Int64.lt_iff_toInt_lt]
        have ml : (1000000 : Int64).toInt = 1000000 := rfl
        rw [ml]
        rw [forOK_C] at fin
        cases hfc : forC g M k (vT (gR s v)) with
        | false =>
          rw [hfc] at fin
          rw [c0 hfc]
          exact ⟨fun _ => fin false rfl, fun q => absurd (by decide) q⟩
        | true =>
          rw [hfc, Bool.true_and] at fin
          rw [c1 hfc]
          exact ⟨fun q => fin false (decide_eq_false (by omega)), fun q => fin true (decide_eq_true (by omega))⟩
    refine ⟨fun q => absurd q ng, fun _ => ⟨vp_in_nI (by omega) (by omega), ?_⟩⟩
    rw [show Int32.toNatClampNeg (jO (some v)) = v from nI_clamp (by omega), W.2.2.2.1]
    refine jr_isNumber (by omega) ⟨fun q => ?_, fun q => ?_⟩
    · refine jr_rule (c := false) (by omega) hG hS1 hf1 hk rfl rfl (by decide) (fun σ2 hS2 hf2 _ => ?_)
      have := rest false σ2 (b2_0.mp q) hS2 hf2
      rw [show Int32.toNatClampNeg (jO (some v)) = v from nI_clamp (by omega)] at this
      exact this
    · refine v_Rules_leaveFor_24 _ _ _ (jr_rule (c := true) (by omega) hG hS1 hf1 hk rfl rfl (by decide) (fun σ2 hS2 hf2 _ => ?_))
      exact rest true σ2 (b2_n0.mp q) hS2 hf2
end
