/-! 137: the component judges: calls, expressions, statements -/
section
variable {w : Wd} {d : Nat} {g : Nat → NI} {N : List (List Int32)} {M : Nat} {σ0 σ : Sg} {s : JS} {E : Nat} {tk : Nat → Bool} {ft : Option JE}
theorem lvS_34 {k : Nat} (h : gK g k = 34) : lvS g N M k s = lvCall g N M k s := by
  rw [lvS_ex h (by decide)]; unfold lvExpr; rw [h]; rfl
theorem jr_leaveCall {Q : Sg → Prop} {k : Nat} {x1 : Int32} (hd : 4 ≤ d) (hG : StG g N M σ0) (hR : GrT g M) (hS : JW g N M σ0 σ s E tk) (hI : JI s 0) (hN : JN N s) (hb : jB s ≠ []) (hf : FT σ none) (hk : k < M) (hE : ∀ c, c < M → gU g c = some k → c < E) (h34 : gK g k = 34) (h1 : x1 = nI k) (h : ∀ σ', JP g N M σ0 σ' (lvS g N M k s) E tk → Q σ') : OkV w d m_Rules_leaveCall [vR 21, vI x1] σ Q := by
  subst h1
  have hM := hG.2.2.1
  have hin : vp_in (nI k) 33500 := vp_in_nI (by omega) (by omega)
  rw [lvS_34 h34] at h
  obtain ⟨L, f, hc, hr, hff, hL⟩ := hR k hk
  have hkid := kid_of hG.2.1 hk hc
  have hlen : L.length ≤ M := by have := Chn.len hG.2.1 (k := k + 1) hc (fun c q => by have := (hG.2.1 k hk).2.1 c q; omega) (by omega); omega
  obtain ⟨nj, hnj, en⟩ := hG.nm hk (by rw [h34]; decide)
  have hNl := hG.2.2.2.2.1
  have h24 := (hS.2.2.2.1 hb).1
  have hl := hS.2.1.2.1
  refine v_Rules_leaveCall _ _ (by omega) ⟨hin, ?_⟩
  rw [nI_clamp (by omega), (hS.tb hG hk).2.2.1, en, nI_clamp (by omega), (hS.2.2.2.2.2.1 nj hnj).1, ← en]
  refine ⟨by rw [en]; exact vp_in_nI (by omega) (by omega), jr_blockNamed (by omega) hG hS.1 hS.2.1 h24 (by omega) ?_⟩
  have ebp : (jB s).take ((jB s).length - 1) = bpre s := rfl
  rw [ebp]
  unfold lvCall at h
  dsimp only at h
  -- from 43 on, with the answer of the rule known
  have nb : ∀ r : Option Nat, (∀ j, r = some j → j < 2 ^ 31) → (jO r < 0 ↔ r = none) := fun r hr => jO_neg hr
  cases hbf : bfd (gV g k) 1 (bpre s) 0 with
  | some b =>
    rw [hbf] at h
    dsimp only at h
    obtain ⟨hb1, hb2, hb3⟩ := bfd_pre hbf
    have hbk : bK (gB s b) = 1 := hb3.resolve_left (by decide)
    have hsd := hN.2.1 b (by omega)
    rw [hb2] at hsd
    have hneg : ¬ 0 ≤ sdI N (gV g k) - 9 := by
      rcases sdI_f (N := N) (v := gV g k) with q | ⟨j, hj, e1, e2⟩
      · exact Int32.not_le.mpr q.1
      · rw [e2] at hsd; exact absurd hsd (nI_pos (by omega))
    refine ⟨fun q => absurd q hneg, fun _ => ⟨fun q => absurd q (nI_pos (by omega)), fun _ => v_Rules_leaveCall_38 _ _ _ _ (v_Rules_leaveCall_43 _ _ _ _ _ (jr_rule (c := true) (by omega) hG hS hf hk rfl rfl (by decide) (fun σ1 hS1 hf1 _ => ⟨fun _ => jr_children (by omega) hG hS1 hk rfl ⟨fun q => absurd q hneg, fun _ => ⟨hin, ?_⟩⟩, fun q => absurd (hf1 : σ1.1 21 2 = 0) q⟩)))⟩⟩
    rw [nI_clamp (by omega)]
    have hS2 : JW g N M σ0 (wI σ1 27 k (nI b)) (setM s k (nI b)) E tk := hS1.wM
    refine jr_leaveOwnCall (by omega) hG hR hS2 hI ((hf1 : FT σ1 none).wr (by omega)) hk hE hb1 hbk rfl rfl rfl (fun σ3 h3 => h σ3 ?_)
    rw [rl_eq, toR_bind (h := rlF g (((kid g M k).zip (inpL s b)).all (fun p => fitT (jT s p.1) (vT ((jV s).getD p.2 vr0)))) 26 k) (s' := setT (setM s k (nI b)) k (vT ((jV s).getD (bF ((jB s).getD b bl0)) vr0))) (by exact rl_eq)]
    have e : (fun p : Nat × Nat => fitT (jT (setM s k (nI b)) p.1) (vT (gR (setM s k (nI b)) p.2))) = fun p => fitT (jT s p.1) (vT ((jV s).getD p.2 vr0)) := by
      funext p; rw [jT_setM]; rfl
    rw [e] at h3
    exact h3
  | none =>
    rw [hbf] at h
    dsimp only at h
    rcases sdI_f (N := N) (v := gV g k) with q | ⟨j, hj, e1, e2⟩
    · rw [if_pos q.1] at h
      refine ⟨fun r => absurd r (Int32.not_le.mpr q.1), fun _ => ⟨fun _ => v_Rules_leaveCall_43 _ _ _ _ _ (jr_rule (c := false) (by omega) hG hS hf hk rfl rfl (by decide) (fun σ1 hS1 hf1 _ => ⟨fun r => ?_, fun _ => h σ1 ⟨hS1.1, hf1⟩⟩)), fun r => absurd (by decide) r⟩⟩
      have := hf1.none_iff.mp r
      cases this
    · rw [e1] at h ⊢
      rw [if_neg (nI_pos (by omega))] at h
      have nn : 0 ≤ nI j := nI_pos' (by omega)
      refine ⟨fun _ => v_Rules_leaveCall_38 _ _ _ _ (v_Rules_leaveCall_43 _ _ _ _ _ (jr_rule (c := true) (by omega) hG hS hf hk rfl rfl (by decide) (fun σ1 hS1 hf1 _ => ⟨fun _ => jr_children (by omega) hG hS1 hk rfl ⟨fun _ => ⟨hin, ?_⟩, fun q => absurd nn q⟩, fun q => absurd (hf1 : σ1.1 21 2 = 0) q⟩))), fun q => absurd nn q⟩
      rw [nI_clamp (by omega), hkid]
      rw [hkid] at h
      have hS2 : JW g N M σ0 (wI σ1 27 k (100 + nI j)) (setM s k (100 + nI j)) E tk := hS1.wM
      have hf2 : FT (wI σ1 27 k (100 + nI j)) none := (hf1 : FT σ1 none).wr (by omega)
      generalize wI σ1 27 k (100 + nI j) = σ2 at hS2 hf2 ⊢
      have b131 : ∀ W : Nat, W < 10 → (if nI j = 3 ∨ nI j = 4 then 3 else if nI j = 0 ∨ 7 ≤ nI j then 1 else 2 : Nat) = W → 0 < W → Bk w d 0 0 m_Rules_leaveCall 0 0 (qv Q) 131 [oR 21, oI (nI k), none, oI (nI j), none, none] [vI (nI W), vI (nI L.length), vR 21] σ2 := by
        intro W hW eW hW0
        rw [eW] at h
        have tail : ∀ c : Bool, decide (L.length = W) = c → OkV w (d - 1) m_Rules_rule [vR 21, vI (b2 c), vI 25, vI (nI k)] σ2 (fun s1 => ((¬ (s1.1 21 2) = 0 → Q s1) ∧ ((s1.1 21 2) = 0 → (vp_in (nI k) 33500 ∧ OkI w (d - 1) m_Rules_standardType [vR 21, vI (nI j), vI (s1.1 12 (Int32.toNatClampNeg (nI k)))] s1 (fun r2 s2 => (vp_in (nI k) 33500 ∧ (vp_in (nI k) 33500 ∧ ((((wI s2 25 (Int32.toNatClampNeg (nI k)) r2).1 25 (Int32.toNatClampNeg (nI k))) = ((-1)) → OkV w (d - 1) m_Rules_rule [vR 21, vI (0), vI (26), vI (nI k)] (wI s2 25 (Int32.toNatClampNeg (nI k)) r2) (fun s3 => Q s3)) ∧ (¬ ((wI s2 25 (Int32.toNatClampNeg (nI k)) r2).1 25 (Int32.toNatClampNeg (nI k))) = ((-1)) → OkV w (d - 1) m_Rules_rule [vR 21, vI (1), vI (26), vI (nI k)] (wI s2 25 (Int32.toNatClampNeg (nI k)) r2) (fun s4 => Q s4)))))))))) := by
          intro c hc2
          rw [hc2] at h
          refine jr_rule (by omega) hG hS2 hf2 hk rfl rfl (by decide) (fun σ3 hS3 hf3 _ => ?_)
          rw [hf3.none_iff]
          cases c with
          | false =>
            rw [if_neg (by decide)] at hf3 ⊢
            exact ⟨fun _ => h σ3 ⟨hS3.1, hf3⟩, fun q => by cases q⟩
          | true =>
            rw [if_pos rfl] at hf3 ⊢
            refine ⟨fun q => absurd rfl q, fun _ => ⟨hin, ?_⟩⟩
            have hLW := of_decide_eq_true hc2
            cases L with
            | nil => simp at hLW; omega
            | cons a L =>
              have eF : gF g k = some a := hc.1
              rw [nI_clamp (by omega), (hS3.tb hG hk).2.2.2.2.1, eF]
              refine jr_standardType (L := a :: L) (by omega) hG hS3 hj ⟨rfl, hc.2⟩ (fun c q => ⟨(hL c q).2.1, hE c (hL c q).2.1 (hL c q).2.2⟩) rfl rfl ⟨hin, hin, ?_⟩
              have est : stdT (setM s k (100 + nI j)) (nI j) (a :: L) = stdT s (nI j) (a :: L) := by
                unfold stdT; simp only [jT_setM]
              rw [est, wI_1, if_pos ⟨rfl, rfl⟩]
              have hS4 : JW g N M σ0 (wI σ3 25 k (stdT s (nI j) (a :: L))) (setT (setM s k (100 + nI j)) k (stdT s (nI j) (a :: L))) E tk := hS3.wT
              have hf4 : FT (wI σ3 25 k (stdT s (nI j) (a :: L))) none := (hf3 : FT σ3 none).wr (by omega)
              have h : ∀ σ', JP g N M σ0 σ' (toR (rlF g (decide (stdT s (nI j) (a :: L) ≠ -1)) 26 k) (setT (setM s k (100 + nI j)) k (stdT s (nI j) (a :: L)))) E tk → Q σ' := by
                intro σ' hJ
                refine h σ' ?_
                show JP g N M σ0 σ' (rl g _ 26 k _) E tk
                rw [rl_eq]; exact hJ
              have fin : ∀ c : Bool, decide (stdT s (nI j) (a :: L) ≠ -1) = c → OkV w (d - 1) m_Rules_rule [vR 21, vI (b2 c), vI 26, vI (nI k)] (wI σ3 25 k (stdT s (nI j) (a :: L))) (fun s3 => Q s3) := by
                intro c hc3
                rw [hc3] at h
                exact jr_rule (by omega) hG hS4 hf4 hk rfl rfl (by decide) (fun σ5 hS5 hf5 _ => h σ5 (JP.of hS5 hf5))
              exact ⟨fun q => fin false (decide_eq_false (fun r => r q)), fun q => fin true (decide_eq_true q)⟩
        refine v_Rules_leaveCall_131 _ _ _ _ _ ?_
        rw [nI_eq (by omega) (by omega)]
        exact ⟨fun q => tail false (decide_eq_false q), fun q => tail true (decide_eq_true q)⟩
      have cs : j = 0 ∨ j = 1 ∨ j = 2 ∨ j = 3 ∨ j = 4 ∨ j = 5 ∨ j = 6 ∨ j = 7 ∨ j = 8 ∨ j = 9 := by omega
      have w3 := b131 3 (by decide)
      have w2 := b131 2 (by decide)
      have w1 := b131 1 (by decide)
      rcases cs with e | e | e | e | e | e | e | e | e | e <;> subst e
      · exact ⟨fun q => absurd q (by decide), fun _ => ⟨fun _ => ⟨fun _ => w1 (by decide) (by decide), fun q => absurd (by decide) q⟩, fun q => absurd q (by decide)⟩⟩
      · exact ⟨fun q => absurd q (by decide), fun _ => ⟨fun _ => ⟨fun q => absurd q (by decide), fun _ => ⟨fun _ => w2 (by decide) (by decide), fun q => absurd (by decide) q⟩⟩, fun q => absurd q (by decide)⟩⟩
      · exact ⟨fun q => absurd q (by decide), fun _ => ⟨fun _ => ⟨fun q => absurd q (by decide), fun _ => ⟨fun _ => w2 (by decide) (by decide), fun q => absurd (by decide) q⟩⟩, fun q => absurd q (by decide)⟩⟩
      · exact ⟨fun _ => w3 (by decide) (by decide), fun q => absurd (by decide) q⟩
      · exact ⟨fun q => absurd q (by decide), fun _ => ⟨fun q => absurd (by decide) q, fun _ => w3 (by decide) (by decide)⟩⟩
      · exact ⟨fun q => absurd q (by decide), fun _ => ⟨fun _ => ⟨fun q => absurd q (by decide), fun _ => ⟨fun _ => w2 (by decide) (by decide), fun q => absurd (by decide) q⟩⟩, fun q => absurd q (by decide)⟩⟩
      · exact ⟨fun q => absurd q (by decide), fun _ => ⟨fun _ => ⟨fun q => absurd q (by decide), fun _ => ⟨fun _ => w2 (by decide) (by decide), fun q => absurd (by decide) q⟩⟩, fun q => absurd q (by decide)⟩⟩
      · exact ⟨fun q => absurd q (by decide), fun _ => ⟨fun _ => ⟨fun q => absurd q (by decide), fun _ => ⟨fun q => absurd q (by decide), fun _ => w1 (by decide) (by decide)⟩⟩, fun q => absurd q (by decide)⟩⟩
      · exact ⟨fun q => absurd q (by decide), fun _ => ⟨fun _ => ⟨fun q => absurd q (by decide), fun _ => ⟨fun q => absurd q (by decide), fun _ => w1 (by decide) (by decide)⟩⟩, fun q => absurd q (by decide)⟩⟩
      · exact ⟨fun q => absurd q (by decide), fun _ => ⟨fun _ => ⟨fun q => absurd q (by decide), fun _ => ⟨fun q => absurd q (by decide), fun _ => w1 (by decide) (by decide)⟩⟩, fun q => absurd q (by decide)⟩⟩
/-- kinds that are left as expressions or rungs -/
theorem jr_leaveExpression {Q : Sg → Prop} {k : Nat} {q : Int32} {x1 : Int32} (hd : 5 ≤ d) (hG : StG g N M σ0) (hR : GrT g M) (hS : JW g N M σ0 σ s E tk) (hI : JI s 0) (hN : JN N s) (hb : jB s ≠ []) (hf : FT σ none) (hk : k < M) (hE : ∀ c, c < M → gU g c = some k → c < E) (hU : ∃ p, gU g k = some p) (hq : gK g k = q) (hqs : q ∈ [(11 : Int32), 17, 21, 22, 23, 24, 25, 26, 27, 28, 29, 30, 31, 32, 33, 34, 35, 36]) (h1 : x1 = nI k) (h : ∀ σ', JP g N M σ0 σ' (lvS g N M k s) E tk → Q σ') : OkV w d m_Rules_leaveExpression [vR 21, vI x1] σ Q := by
  subst h1
  have hM := hG.2.2.1
  have hin : vp_in (nI k) 33500 := vp_in_nI (by omega) (by omega)
  obtain ⟨L, f, hc, hr, hff, hL⟩ := hR k hk
  have hkid := kid_of hG.2.1 hk hc
  have T := hS.tb hG hk
  have b28 : ∀ y0, (∀ a b, L = [a, b] → y0 = nI b) → Bk w d 0 0 m_Rules_leaveExpression 0 0 (qv Q) 28 [oR 21, oI (nI k), oI (jO (gF g k)), none, none, none, none] [vI y0] σ := by
    intro y0 hy
    refine v_Rules_leaveExpression_28 _ _ _ _ ⟨hin, ?_⟩
    rw [nI_clamp (by omega), T.1, T.2.2.1, hq]
    refine ⟨fun e => ⟨hin, ?_⟩, fun n30 => ⟨fun e => ⟨hin, ?_⟩, fun n31 => ⟨fun e => ?_, fun n32 => ⟨fun e => ?_, fun n33 => ⟨fun e => jr_leaveCall (by omega) hG hR hS hI hN hb hf hk hE (hq.trans e) rfl h, fun n34 => ⟨fun e => ?_, fun n35 => ⟨fun e => ?_, fun n36 => jr_leaveRung (by omega) hG hR hS hI hb hf hk hE hU hq ?_ rfl rfl h⟩⟩⟩⟩⟩⟩⟩
    · subst e
      rw [lvS_ex hq (by decide)] at h
      unfold lvExpr at h
      rw [hq, if_pos rfl] at h
      refine ⟨fun r => ⟨hin, h _ ?_⟩, fun r => ⟨hin, h _ ?_⟩⟩
      · rw [if_neg (Int32.not_le.mpr r)]; exact ⟨hS.wT, hf.wr (by omega)⟩
      · rw [if_pos (Int32.not_lt.mp r)]; exact ⟨hS.wT, hf.wr (by omega)⟩
    · subst e
      rw [lvS_ex hq (by decide)] at h
      unfold lvExpr at h
      rw [hq, if_neg (by decide), if_pos rfl] at h
      exact h _ ⟨hS.wT, hf.wr (by omega)⟩
    · -- an element of a row
      subst e
      rw [lvS_ex hq (by decide)] at h
      unfold lvExpr at h
      rw [hq] at hr
      obtain ⟨a, eL, _⟩ := row14 (L := L) (f := f) hr hff
      have eF : gF g k = some a := by rw [eL] at hc; exact hc.1
      have k0 : kd g M k 0 = a := by unfold kd; rw [hkid, eL]; rfl
      have ha := hL a (by rw [eL]; simp)
      rw [hq, if_neg (by decide), if_neg (by decide), if_pos rfl, nmd_toR, k0] at h
      rw [eF, show jO (some a) = nI a from rfl]
      refine jr_named (by omega) hG hS hb hf hk rfl (fun σ1 r hS1 hf1 r0 r1 k1 => ⟨vp_in_nI (by omega) (by omega), ?_⟩)
      rw [nI_clamp (by omega), (hS1.an (hE a ha.2.1 ha.2.2)).1]
      refine jr_isNumber (by omega) (jr_rule (by omega) hG hS1 hf1 hk rfl rfl (by decide) (fun σ2 hS2 hf2 _ => ?_))
      cases e : nmdF g k 1 s with
      | some x =>
        rw [e] at h hf2 r1
        rw [r1 (by simp [orF])]
        exact ⟨fun _ => h σ2 ⟨hS2.1, hf2⟩, fun r => absurd (by decide) r⟩
      | none =>
        rw [e] at h hf2 r0
        obtain ⟨v, hv, hs0⟩ := nmd_v e
        rw [hv] at h r0
        rw [r0 rfl]
        have W := hS2.var hI hb hv
        refine ⟨fun r => absurd r (nI_pos (by omega)), fun _ => ⟨vp_in_nI (by omega) (by omega), hin, vp_in_nI (by omega) (by omega), hin, ?_⟩⟩
        rw [show jO (some v) = nI v from rfl, nI_clamp (by omega), W.2.2.2.1, W.2.2.2.2.2.1]
        refine h _ ?_
        dsimp only
        rw [rl_eq]
        exact JP.of hS2.wT.wC ((hf2.wr (by omega)).wr (by omega))
    · -- an output
      subst e
      rw [lvS_ex hq (by decide)] at h
      unfold lvExpr at h
      rw [hq] at hr
      obtain ⟨a, eL, ka⟩ := row27 (L := L) (f := f) hr hff
      have eF : gF g k = some a := by rw [eL] at hc; exact hc.1
      have k0 : kd g M k 0 = a := by unfold kd; rw [hkid, eL]; rfl
      have ha := hL a (by rw [eL]; simp)
      rw [hq, if_neg (by decide), if_neg (by decide), if_neg (by decide), if_pos rfl, nmd_toR, k0] at h
      rw [eF, show jO (some a) = nI a from rfl]
      refine jr_named (by omega) hG hS hb hf hk rfl (fun σ1 r hS1 hf1 r0 r1 k1 => ?_)
      cases e : nmdF g k 2 s with
      | some x =>
        rw [e] at h hf1 r1
        rw [r1 (by simp [orF])]
        exact ⟨fun _ => h σ1 ⟨hS1.1, hf1⟩, fun r => absurd (by decide) r⟩
      | none =>
        rw [e] at h hf1 r0
        obtain ⟨v, hv, hs0⟩ := nmd_v e
        rw [hv] at h r0
        rw [r0 rfl]
        have W := hS1.var hI hb hv
        have vin : vp_in (jO (some v)) 16384 := vp_in_nI (by omega) (by omega)
        refine ⟨fun r => absurd r (nI_pos (by omega)), fun _ => ⟨vin, vp_in_nI (by omega) (by omega), ?_⟩⟩
        rw [show jO (some v) = nI v from rfl, nI_clamp (n := v) (by omega), nI_clamp (n := a) (by omega), W.2.2.2.1, (hS1.tb hG ha.2.1).2.2.1]
        obtain ⟨j, hj0, ej, hj⟩ := W.2.2.2.2.2.2.inst hs0 (cb_lt hb)
        have h : ∀ σ', JP g N M σ0 σ' (match pinS N s (nI j) (gV g a) false with | none => .error (23, gP g k) | some p => .ok (setC (setT s k p.1) k (nI (vC (gR s v) + p.2)))) E tk → Q σ' := by
          rw [← ej]; exact h
        rw [ej]
        refine jr_part (i := false) (by omega) hS1 hf1 hI hN hj (hG.nm ha.2.1 (by rw [ka]; decide)) hG.2.2.2.2.1 rfl rfl (fun σ2 r2 hS2 hf2 pn ps k2 => ?_)
        have fin : ∀ (σ3 : Sg) (ft3 : Option JE) (s3 : JS) (pt pc : Int32), JW g N M σ0 σ3 s E tk → FT σ3 ft3 → σ3.1 21 29 = pt → (∀ σ4, JP g N M σ0 σ4 (toR ft3 (setC (setT s k pt) k (nI (vC (gR s v)) + pc))) E tk → Q σ4) → (vp_in (nI k) 33500 ∧ (vp_in (nI v) 16384 ∧ (vp_in (nI k) 33500 ∧ Q (wI (wI σ3 25 k (σ3.1 21 29)) 26 k ((σ3.1 32 v) + pc))))) := by
          intro σ3 ft3 _ pt pc hS3 hf3 hpt hQ
          have W3 := hS3.var hI hb hv
          refine ⟨hin, vp_in_nI (by omega) (by omega), hin, ?_⟩
          rw [hpt, W3.2.2.2.2.2.1]
          exact hQ _ (JP.of hS3.wT.wC ((hf3.wr (by omega)).wr (by omega)))
        cases hpin : pinS N s (nI j) (gV g a) false with
        | none =>
          rw [hpin] at h pn
          rw [pn rfl]
          refine ⟨fun _ => jr_rule (c := false) (by omega) hG hS2 hf2 hk rfl rfl (by decide) (fun σ3 hS3 hf3 _ => fin σ3 _ s _ _ hS3 hf3 rfl (fun σ4 h4 => h σ4 h4)), fun r => absurd (by decide) r⟩
        | some pp =>
          rw [hpin] at h ps
          obtain ⟨e1, e2⟩ := ps pp rfl
          have hpp := pin_lt hI (fun b q => (hS.2.1.2.2 b q).2.2.2.2.2.2.2) hj0 hj hpin
          rw [e1]
          refine ⟨fun r => absurd r (nI_pos (by omega)), fun _ => jr_rule (c := true) (by omega) hG hS2 hf2 hk rfl rfl (by decide) (fun σ3 hS3 hf3 k3 => fin σ3 _ s pp.1 _ hS3 hf3 (by rw [k3 21 29 (by omega)]; exact e2) (fun σ4 h4 => h σ4 ?_))⟩
          rw [nI_add] at h4
          exact h4
    · -- a sign between two
      subst e
      rw [lvS_ex hq (by decide)] at h
      unfold lvExpr at h
      rw [hq] at hr
      obtain ⟨a, b, eL, _, _⟩ := row28 (L := L) (f := f) hr hff
      have eF : gF g k = some a := by rw [eL] at hc; exact hc.1
      have k0 : kd g M k 0 = a := by unfold kd; rw [hkid, eL]; rfl
      have kb : kd g M k 1 = b := by unfold kd; rw [hkid, eL]; rfl
      have ha := hL a (by rw [eL]; simp)
      have hbb := hL b (by rw [eL]; simp)
      rw [hq, if_neg (by decide), if_neg (by decide), if_neg (by decide), if_neg (by decide), if_neg (by decide), if_pos rfl, k0, kb, rl_eq] at h
      rw [eF, show jO (some a) = nI a from rfl, hy a b eL, nI_clamp (by omega), nI_clamp (by omega), (hS.an (hE a ha.2.1 ha.2.2)).1, (hS.an (hE b hbb.2.1 hbb.2.2)).1]
      refine ⟨hin, vp_in_nI (by omega) (by omega), vp_in_nI (by omega) (by omega), jr_two (by omega) ⟨hin, hin, ?_⟩⟩
      rw [wI_1, if_pos ⟨rfl, rfl⟩]
      have fin : ∀ c : Bool, decide (twoT (gV g k) (jT s a) (jT s b) ≠ -1) = c → OkV w (d - 1) m_Rules_rule [vR 21, vI (b2 c), vI 27, vI (nI k)] (wI σ 25 k (twoT (gV g k) (jT s a) (jT s b))) (fun s3 => Q s3) := by
        intro c hc3
        rw [hc3] at h
        exact jr_rule (by omega) hG hS.wT (hf.wr (by omega)) hk rfl rfl (by decide) (fun σ5 hS5 hf5 _ => h σ5 (JP.of hS5 hf5))
      exact ⟨fun r => fin false (decide_eq_false (fun z => z r)), fun r => fin true (decide_eq_true r)⟩
    · -- a sign before one
      subst e
      rw [lvS_ex hq (by decide)] at h
      unfold lvExpr at h
      rw [hq] at hr
      obtain ⟨a, eL, _⟩ := row14 (L := L) (f := f) hr hff
      have eF : gF g k = some a := by rw [eL] at hc; exact hc.1
      have k0 : kd g M k 0 = a := by unfold kd; rw [hkid, eL]; rfl
      have ha := hL a (by rw [eL]; simp)
      rw [hq, if_neg (by decide), if_neg (by decide), if_neg (by decide), if_neg (by decide), if_neg (by decide), if_neg (by decide), k0, rl_eq] at h
      rw [eF, show jO (some a) = nI a from rfl, nI_clamp (by omega), (hS.an (hE a ha.2.1 ha.2.2)).1]
      have ain : vp_in (nI a) 33500 := vp_in_nI (by omega) (by omega)
      have fin : ∀ c : Bool, (decide (gV g k = 1) || isN (jT s a)) = c → OkV w (d - 1) m_Rules_rule [vR 21, vI (b2 c), vI 28, vI (nI k)] (wI σ 25 k (jT s a)) (fun s3 => Q s3) := by
        intro c hc3
        rw [hc3] at h
        exact jr_rule (by omega) hG hS.wT (hf.wr (by omega)) hk rfl rfl (by decide) (fun σ5 hS5 hf5 _ => h σ5 (JP.of hS5 hf5))
      refine ⟨ain, hin, hin, fun r => fin true (by rw [decide_eq_true r]; rfl), fun r => ⟨ain, ?_⟩⟩
      rw [wI_1, if_neg (by omega), (hS.an (hE a ha.2.1 ha.2.2)).1]
      exact jr_isNumber (by omega) ⟨fun r2 => fin false (by rw [decide_eq_false r, b2_0.mp r2]; rfl), fun r2 => fin true (by rw [b2_n0.mp r2, Bool.or_true])⟩
    · simp only [List.mem_cons, List.not_mem_nil, or_false] at hqs ⊢
      grind
  refine v_Rules_leaveExpression _ _ (by omega) ⟨hin, ?_⟩
  rw [nI_clamp (by omega), T.2.2.2.2.1]
  cases L with
  | nil =>
    have eF : gF g k = none := hc
    refine ⟨fun r => absurd ?_ r, fun _ => b28 _ (fun a b e => by cases e)⟩
    rw [eF]; rfl
  | cons a L =>
    have eF : gF g k = some a := hc.1
    have ha := hL a List.mem_cons_self
    refine ⟨fun _ => ⟨?_, b28 _ (fun a' b e => ?_)⟩, fun r => absurd r ?_⟩
    · rw [eF]; exact vp_in_nI (by omega) (by omega)
    · have e1 : a = a' := (List.cons.inj e).1
      have e2 : L = [b] := (List.cons.inj e).2
      subst e1
      rw [eF, show jO (some a) = nI a from rfl, nI_clamp (by omega), (hS.tb hG ha.2.1).2.2.2.2.2]
      rw [e2] at hc
      have : gX g a = some b := hc.2.1
      rw [this]; rfl
    · rw [eF]; exact nI_nm1 (by omega)
end
