/-! 136: the component judges: calls -/
theorem bfd_in {name kind : Int32} : ∀ {l : List BL} {i j : Nat}, bfd name kind l i = some j → i ≤ j ∧ j < i + l.length ∧ bA (l.getD (j - i) bl0) = name ∧ (kind = -1 ∨ bK (l.getD (j - i) bl0) = kind) := by
  intro l
  induction l with
  | nil => intro i j h; cases h
  | cons b l ih =>
    intro i j h
    rw [bfd] at h
    split at h
    · rename_i q; cases h
      rw [Nat.sub_self]
      exact ⟨Nat.le_refl _, by simp, q.1, q.2⟩
    · obtain ⟨h1, h2, h3, h4⟩ := ih h
      refine ⟨by omega, by simp only [List.length_cons]; omega, ?_, ?_⟩
      · rw [show j - i = (j - (i + 1)) + 1 by omega, List.getD_cons_succ]; exact h3
      · rw [show j - i = (j - (i + 1)) + 1 by omega, List.getD_cons_succ]; exact h4
theorem bfd_pre {s : JS} {name kind : Int32} {j : Nat} (h : bfd name kind (bpre s) 0 = some j) : j + 1 < (jB s).length ∧ bA (gB s j) = name ∧ (kind = -1 ∨ bK (gB s j) = kind) := by
  obtain ⟨_, h2, h3, h4⟩ := bfd_in h
  unfold bpre at h2 h3 h4
  rw [List.length_take] at h2
  have e : ((jB s).take ((jB s).length - 1)).getD (j - 0) bl0 = gB s j := by
    unfold gB
    rw [Nat.sub_zero, List.getD_eq_getElem?_getD, List.getD_eq_getElem?_getD, List.getElem?_take, if_pos (by omega)]
  rw [e] at h3 h4
  exact ⟨by omega, h3, h4⟩
theorem sdI_in {N : List (List Int32)} {v : Int32} : ∃ j, j < 20 ∧ sdI N v = nI j - 1 := by
  unfold sdI
  rcases idxW_in (r := N.getD (Int32.toNatClampNeg v) []) (N := stdW) (k := 0) with h | ⟨j, _, h2, h3, _⟩
  · exact ⟨0, by decide, by rw [h]; decide⟩
  · have : stdW.length = 19 := by decide +kernel
    exact ⟨j + 1, by omega, by rw [h3, nI_pred]⟩
/-- a standard function's number -/
theorem sdI_f {N : List (List Int32)} {v : Int32} : (sdI N v - 9 < 0 ∧ sdI N v < 9) ∨ ∃ j, j < 10 ∧ sdI N v - 9 = nI j ∧ sdI N v = nI (9 + j) := by
  obtain ⟨j, hj, e⟩ := sdI_in (N := N) (v := v)
  rw [e]
  by_cases h : j < 10
  · left
    have : (List.range 10).all (fun j => decide (nI j - 1 - 9 < 0 ∧ nI j - 1 < 9)) = true := by decide +kernel
    exact of_decide_eq_true (List.all_eq_true.mp this j (List.mem_range.mpr h))
  · right
    refine ⟨j - 10, by omega, ?_, ?_⟩
    · rw [show j = (j - 10) + 10 by omega, ← nI_add, show j - 10 + 10 - 10 = j - 10 by omega, Int32.sub_sub]
      exact Int32.add_sub_cancel _ _
    · rw [show nI j - 1 = nI (j - 1) by rw [show j = (j - 1) + 1 by omega, nI_pred]; rfl]
      congr 1; omega
def inR (s : JS) : Nat → Nat → List Nat
  | 0, _ => []
  | f + 1, v => if vE (gR s v) = 1 then v :: inR s f (v + 1) else inR s f (v + 1)
theorem inR_eq {s : JS} : ∀ (f v : Nat), ((List.range f).map (fun i => v + i)).filter (fun v => decide (vE (gR s v) = 1)) = inR s f v := by
  intro f
  induction f with
  | zero => intro v; rfl
  | succ f ih =>
    intro v
    rw [List.range_succ_eq_map, List.map_cons, List.map_map, Nat.add_zero, List.filter_cons, inR, ← ih (v + 1)]
    have e : (fun i => v + i) ∘ Nat.succ = fun i => v + 1 + i := by funext i; simp only [Function.comp]; omega
    rw [e]
    by_cases q : vE (gR s v) = 1
    · rw [if_pos (decide_eq_true q), if_pos q]
    · rw [if_neg (by rw [decide_eq_false q]; decide), if_neg q]
theorem inpL_eq {s : JS} {b : Nat} : inpL s b = inR s (vEnd s b - bF (gB s b)) (bF (gB s b)) := inR_eq _ _
theorem inR_len {s : JS} : ∀ (f v : Nat), (inR s f v).length ≤ f := by
  intro f
  induction f with
  | zero => intro v; exact Nat.le_refl _
  | succ f ih =>
    intro v
    rw [inR]
    have := ih (v + 1)
    split
    · rw [List.length_cons]; omega
    · omega
section
variable {w : Wd} {d : Nat} {g : Nat → NI} {N : List (List Int32)} {M : Nat} {σ0 σ : Sg} {s : JS} {E : Nat} {tk : Nat → Bool} {ft : Option JE}
theorem b2_and (a b : Bool) : b2 a &&& b2 b = b2 (a && b) := by cases a <;> cases b <;> decide
theorem jr_leaveOwnCall {Q : Sg → Prop} {k b : Nat} {x1 x2 x3 : Int32} (hd : 3 ≤ d) (hG : StG g N M σ0) (hR : GrT g M) (hS : JW g N M σ0 σ s E tk) (hI : JI s 0) (hf : FT σ none) (hk : k < M) (hE : ∀ c, c < M → gU g c = some k → c < E) (hbl : b + 1 < (jB s).length) (hbk : bK (gB s b) = 1) (h1 : x1 = nI k) (h2 : x2 = nI b) (h3 : x3 = nI (kid g M k).length)
    (h : ∀ σ', JP g N M σ0 σ' (toR (orF (rlF g (decide ((kid g M k).length = (inpL s b).length)) 25 k) (rlF g (((kid g M k).zip (inpL s b)).all (fun p => fitT (jT s p.1) (vT (gR s p.2)))) 26 k)) (setT s k (vT (gR s (bF (gB s b)))))) E tk → Q σ') : OkV w d m_Rules_leaveOwnCall [vR 21, vI x1, vI x2, vI x3] σ Q := by
  subst h1 h2 h3
  have hM := hG.2.2.1
  have hin : vp_in (nI k) 33500 := vp_in_nI (by omega) (by omega)
  obtain ⟨L, f, hc, hr, hff, hL⟩ := hR k hk
  have hkid := kid_of hG.2.1 hk hc
  have hlen : L.length ≤ M := by have := Chn.len hG.2.1 (k := k + 1) hc (fun c q => by have := (hG.2.1 k hk).2.1 c q; omega) (by omega); omega
  rw [hkid] at h ⊢
  rw [inpL_eq] at h
  have hl := hS.2.1.2.1
  have hvl := hS.2.2.1.2.1
  have B0 := hS.2.1.2.2 b (by omega)
  have B1 := hS.2.1.2.2 (b + 1) hbl
  have I2 := hI.2.1 b (by omega)
  have eE : vEnd s b = bF (gB s (b + 1)) := vEnd_in hbl
  have hEf := (I2.2.2.2.2.1 hbl).2
  have hres := (I2.2.2.2.2.2 hbk).1
  have V : ∀ v, bF (gB s b) ≤ v → v < vEnd s b → σ.1 30 v = vT (gR s v) ∧ σ.1 31 v = vE (gR s v) := by
    intro v q1 q2
    have X := hS.2.2.1.2.2 v (by omega)
    have O := hI.2.2.2.1 b v (by omega) q1 q2 (by omega)
    exact ⟨X.2.2.1, (X.2.2.2.2 O.nT).1⟩
  have loop : ∀ (f v cnt : Nat) (o : Option Nat) (K : List Nat) (fit : Bool), v + f = vEnd s b → bF (gB s b) ≤ v → Chn g o K → (∀ c, c ∈ K → c < M ∧ gU g c = some k) → cnt + f ≤ 8000 →
      (∀ σ', JP g N M σ0 σ' (toR (orF (rlF g (decide (L.length = cnt + (inR s f v).length)) 25 k) (rlF g (fit && (K.zip (inR s f v)).all (fun p => fitT (jT s p.1) (vT (gR s p.2)))) 26 k)) (setT s k (vT (gR s (bF (gB s b)))))) E tk → Q σ') →
      Bk w d 0 0 m_Rules_leaveOwnCall 0 0 (qv Q) 25 [oR 21, oI (nI k), oI (nI b), oI (nI L.length), oI (nI cnt), oI (jO o), oI (b2 fit), oI (nI v)] [] σ := by
    intro f
    induction f with
    | zero =>
      intro v cnt o K fit hv hv2 hco hK hcnt hQ
      refine v_Rules_leaveOwnCall_25 _ _ _ _ _ _ _ _ ?_
      rw [nI_1, nI_clamp (by omega), B1.2.1]
      refine ⟨vp_in_nI (by omega) (by omega), fun _ => ?_, fun q => absurd ?_ q⟩
      · have hQ : ∀ σ', JP g N M σ0 σ' (toR (orF (rlF g (decide (L.length = cnt)) 25 k) (rlF g fit 26 k)) (setT s k (vT (gR s (bF (gB s b)))))) E tk → Q σ' := by
          intro σ' hJ
          refine hQ σ' ?_
          rw [inR, List.zip_nil_right, List.all_nil, Bool.and_true]; exact hJ
        have fin : ∀ c : Bool, decide (L.length = cnt) = c → OkV w (d - 1) m_Rules_rule [vR 21, vI (b2 c), vI 25, vI (nI k)] σ (fun s1 => OkV w (d - 1) m_Rules_rule [vR 21, vI (b2 fit), vI (26), vI (nI k)] s1 (fun s2 => (vp_in (nI b) 801 ∧ (vp_in (s2.1 37 (Int32.toNatClampNeg (nI b))) 16384 ∧ (vp_in (nI k) 33500 ∧ Q (wI s2 25 (Int32.toNatClampNeg (nI k)) (s2.1 30 (Int32.toNatClampNeg (s2.1 37 (Int32.toNatClampNeg (nI b)))))))))))  := by
          intro c hc2
          rw [hc2] at hQ
          refine jr_rule (by omega) hG hS hf hk rfl rfl (by decide) (fun σ1 hS1 hf1 _ => jr_rule (by omega) hG hS1 hf1 hk rfl rfl (by decide) (fun σ2 hS2 hf2 _ => ?_))
          rw [nI_clamp (by omega), (hS2.2.1.2.2 b (by omega)).2.1]
          have hF : bF ((jB s).getD b bl0) < 7000 := (show bF (gB s b) < 7000 by omega)
          have hF2 : bF ((jB s).getD b bl0) < (jV s).length := (show bF (gB s b) < (jV s).length by omega)
          rw [nI_clamp (by omega), nI_clamp (by omega), (hS2.2.2.1.2.2 (bF ((jB s).getD b bl0)) hF2).2.2.1]
          exact ⟨vp_in_nI (by omega) (by omega), vp_in_nI (by omega) (by omega), hin, hQ _ (JP.of hS2.wT (hf2.wr (by omega)))⟩
        rw [nI_eq (by omega) (by omega)]
        exact ⟨fun q => fin false (decide_eq_false q), fun q => fin true (decide_eq_true q)⟩
      · show nI (bF (gB s (b + 1))) ≤ nI v
        rw [nI_leI (by omega) (by omega)]; omega
    | succ f ih =>
      intro v cnt o K fit hv hv2 hco hK hcnt hQ
      have X := V v hv2 (by omega)
      have vin : vp_in (nI v) 16384 := vp_in_nI (by omega) (by omega)
      refine v_Rules_leaveOwnCall_25 _ _ _ _ _ _ _ _ ?_
      rw [nI_1, nI_clamp (n := b + 1) (by omega), B1.2.1, nI_clamp (n := v) (by omega), nI_1, nI_1, X.1, X.2]
      refine ⟨vp_in_nI (by omega) (by omega), fun q => absurd q ?_, fun _ => ⟨vin, fun q => ih (v + 1) cnt o K fit (by omega) (by omega) hco hK (by omega) ?_, fun q => ?_⟩⟩
      · show ¬ nI (bF (gB s (b + 1))) ≤ nI v
        rw [nI_leI (by omega) (by omega)]; omega
      · rw [inR, if_neg q] at hQ; exact hQ
      · rw [inR, if_pos q] at hQ
        cases K with
        | nil =>
          have eo : o = none := hco
          subst eo
          refine ⟨fun _ => ⟨fun r => absurd rfl r, fun _ => ?_⟩, fun r => absurd rfl r⟩
          rw [show (1 : Int32) = b2 true from rfl, b2_and, Bool.and_true]
          refine ih (v + 1) (cnt + 1) none [] fit (by omega) (by omega) rfl (fun c hc => absurd hc (by simp)) (by omega) (fun σ' hJ => hQ σ' ?_)
          rw [List.length_cons, show cnt + ((inR s f (v + 1)).length + 1) = cnt + 1 + (inR s f (v + 1)).length by omega]
          exact hJ
        | cons c K =>
          have eo : o = some c := hco.1
          have hcK := hK c List.mem_cons_self
          subst eo
          have cin : vp_in (nI c) 33500 := vp_in_nI (by omega) (by omega)
          refine ⟨fun r => absurd r (nI_nm1 (by omega)), fun _ => ⟨cin, vin, ?_⟩⟩
          rw [show jO (some c) = nI c from rfl, nI_clamp (by omega), (hS.an (hE c hcK.1 hcK.2)).1]
          refine jr_fits (by omega) ?_
          rw [(hS.tb hG hcK.1).2.2.2.2.2]
          have go : ∀ ff : Bool, fitT (jT s c) (vT (gR s v)) = ff → Bk w d 0 0 m_Rules_leaveOwnCall 0 0 (qv Q) 25 [oR 21, oI (nI k), oI (nI b), oI (nI L.length), oI (nI (cnt + 1)), oI (jO (gX g c)), oI (b2 fit &&& b2 ff), oI (nI (v + 1))] [] σ := by
            intro ff hff
            rw [b2_and]
            refine ih (v + 1) (cnt + 1) _ K (fit && ff) (by omega) (by omega) hco.2 (fun e he => hK e (List.mem_cons_of_mem _ he)) (by omega) (fun σ' hJ => hQ σ' ?_)
            rw [List.length_cons, show cnt + ((inR s f (v + 1)).length + 1) = cnt + 1 + (inR s f (v + 1)).length by omega, List.zip_cons_cons, List.all_cons, hff, ← Bool.and_assoc]
            exact hJ
          have nm : ¬ nI c = -1 := nI_nm1 (by omega)
          exact ⟨fun r => ⟨fun _ => ⟨cin, go false (b2_0.mp r)⟩, fun r2 => absurd r2 nm⟩, fun r => ⟨fun _ => ⟨cin, go true (b2_n0.mp r)⟩, fun r2 => absurd r2 nm⟩⟩
  refine v_Rules_leaveOwnCall _ _ _ _ (by omega) ⟨hin, ?_⟩
  rw [nI_clamp (by omega), nI_clamp (by omega), (hS.tb hG hk).2.2.2.2.1, B0.2.1]
  refine ⟨vp_in_nI (by omega) (by omega), loop (vEnd s b - bF (gB s b)) (bF (gB s b)) 0 _ L true (by have := I2.2.2.1; omega) (Nat.le_refl _) hc (fun c q => (hL c q).2) (by have := I2.2.2.2.1; omega) (fun σ' hJ => h σ' ?_)⟩
  rw [Nat.zero_add, Bool.true_and] at hJ
  exact hJ
theorem jr_standardType {Q : Int32 → Sg → Prop} {a j : Nat} {L : List Nat} {x1 x2 : Int32} (hd : 3 ≤ d) (hG : StG g N M σ0) (hS : JW g N M σ0 σ s E tk) (hj : j < 10) (hc : Chn g (some a) L) (hL : ∀ c, c ∈ L → c < M ∧ c < E) (h1 : x1 = nI j) (h2 : x2 = nI a) (h : Q (stdT s (nI j) L) σ) : OkI w d m_Rules_standardType [vR 21, vI x1, vI x2] σ Q := by
  subst h1 h2
  have hM := hG.2.2.1
  cases L with
  | nil => cases hc
  | cons a' L =>
    have ea : a = a' := Option.some.inj hc.1
    subst ea
    have ha := hL a List.mem_cons_self
    have ain : vp_in (nI a) 33500 := vp_in_nI (by omega) (by omega)
    -- the end
    have b106 : ∀ ta tb tc : Int32, jT s a = ta → (if (a :: L).length < 2 then 1 else jT s ((a :: L).getD 1 0)) = tb → (if (a :: L).length < 3 then 1 else jT s ((a :: L).getD 2 0)) = tc → Bk w d 0 0 m_Rules_standardType 0 0 (qi Q) 106 [none, oI (nI j), none, oI ta, none, oI tb, oI tc, none] [vI (b2 (isN ta && isN tb && isN tc))] σ := by
      intro ta tb tc e1 e2 e3
      have h : Q (if nI j < 4 then (if (isN ta && isN tb && isN tc) = true then (if nI j = 0 then ta else widT (widT ta tb) (if nI j = 3 then tc else 1)) else -1) else if nI j = 4 then (if ta = 0 then botT tb tc else -1) else if nI j < 7 then (if (isN ta && isN tb && isN tc) = true then ta else -1) else if nI j = 9 then (if isN ta = true then 0 else -1) else if nI j = 7 then 1 else 2) σ := by
        unfold stdT at h
        dsimp only at h
        rw [e2, e3] at h
        have e0 : jT s ((a :: L).getD 0 0) = ta := e1
        rw [e0] at h
        exact h
      generalize hnu : (isN ta && isN tb && isN tc) = nu at h ⊢
      have b164 : (nI j < 4) → Bk w d 0 0 m_Rules_standardType 0 0 (qi Q) 164 [none, oI (nI j), none, oI ta, none, oI tb, oI tc, oI (b2 nu)] [] σ := by
        intro q4
        rw [if_pos q4] at h
        refine v_Rules_standardType_164 _ _ _ _ _ _ ⟨fun q => ?_, fun q => ⟨fun q2 => jr_wider (by omega) ⟨fun q3 => jr_wider (by omega) ?_, fun q3 => jr_wider (by omega) ?_⟩, fun q2 => ?_⟩⟩
        · rw [b2_0.mp q, if_neg (by decide)] at h; exact h
        · rw [b2_n0.mp q, if_pos rfl, if_neg q2, if_neg q3] at h; exact h
        · rw [b2_n0.mp q, if_pos rfl, if_neg q2, if_pos q3] at h; exact h
        · rw [b2_n0.mp q, if_pos rfl, if_pos q2] at h; exact h
      refine v_Rules_standardType_106 _ _ _ _ _ _ ?_
      have cs : j = 0 ∨ j = 1 ∨ j = 2 ∨ j = 3 ∨ j = 4 ∨ j = 5 ∨ j = 6 ∨ j = 7 ∨ j = 8 ∨ j = 9 := by omega
      rcases cs with e | e | e | e | e | e | e | e | e | e <;> subst e
      · exact ⟨fun _ => b164 (by decide), fun q => absurd (by decide) q⟩
      · exact ⟨fun q => absurd q (by decide), fun _ => ⟨fun _ => b164 (by decide), fun q => absurd (by decide) q⟩⟩
      · exact ⟨fun q => absurd q (by decide), fun _ => ⟨fun q => absurd q (by decide), fun _ => ⟨fun _ => b164 (by decide), fun q => absurd (by decide) q⟩⟩⟩
      · exact ⟨fun q => absurd q (by decide), fun _ => ⟨fun q => absurd q (by decide), fun _ => ⟨fun q => absurd q (by decide), fun _ => ⟨fun _ => b164 (by decide), fun q => absurd (by decide) q⟩⟩⟩⟩
      · refine ⟨fun q => absurd q (by decide), fun _ => ⟨fun q => absurd q (by decide), fun _ => ⟨fun q => absurd q (by decide), fun _ => ⟨fun q => absurd q (by decide), fun _ => ⟨fun _ => ⟨fun q => ?_, fun q => jr_both (by omega) ?_⟩, fun q => absurd (by decide) q⟩⟩⟩⟩⟩
        · rw [if_neg (by decide), if_pos (by decide), if_neg q] at h; exact h
        · rw [if_neg (by decide), if_pos (by decide), if_pos q] at h; exact h
      · refine ⟨fun q => absurd q (by decide), fun _ => ⟨fun q => absurd q (by decide), fun _ => ⟨fun q => absurd q (by decide), fun _ => ⟨fun q => absurd q (by decide), fun _ => ⟨fun q => absurd q (by decide), fun _ => ⟨fun _ => ⟨fun q => ?_, fun q => ?_⟩, fun q => absurd (by decide) q⟩⟩⟩⟩⟩⟩
        · rw [if_neg (by decide), if_neg (by decide), if_pos (by decide), b2_0.mp q, if_neg (by decide)] at h; exact h
        · rw [if_neg (by decide), if_neg (by decide), if_pos (by decide), b2_n0.mp q, if_pos rfl] at h; exact h
      · refine ⟨fun q => absurd q (by decide), fun _ => ⟨fun q => absurd q (by decide), fun _ => ⟨fun q => absurd q (by decide), fun _ => ⟨fun q => absurd q (by decide), fun _ => ⟨fun q => absurd q (by decide), fun _ => ⟨fun q => absurd q (by decide), fun _ => ⟨fun _ => ⟨fun q => ?_, fun q => ?_⟩, fun q => absurd (by decide) q⟩⟩⟩⟩⟩⟩⟩
        · rw [if_neg (by decide), if_neg (by decide), if_pos (by decide), b2_0.mp q, if_neg (by decide)] at h; exact h
        · rw [if_neg (by decide), if_neg (by decide), if_pos (by decide), b2_n0.mp q, if_pos rfl] at h; exact h
      · refine ⟨fun q => absurd q (by decide), fun _ => ⟨fun q => absurd q (by decide), fun _ => ⟨fun q => absurd q (by decide), fun _ => ⟨fun q => absurd q (by decide), fun _ => ⟨fun q => absurd q (by decide), fun _ => ⟨fun q => absurd q (by decide), fun _ => ⟨fun q => absurd q (by decide), fun _ => ⟨fun _ => ⟨fun q => absurd (by decide) q, fun _ => h⟩, fun q => absurd (by decide) q⟩⟩⟩⟩⟩⟩⟩⟩
      · refine ⟨fun q => absurd q (by decide), fun _ => ⟨fun q => absurd q (by decide), fun _ => ⟨fun q => absurd q (by decide), fun _ => ⟨fun q => absurd q (by decide), fun _ => ⟨fun q => absurd q (by decide), fun _ => ⟨fun q => absurd q (by decide), fun _ => ⟨fun q => absurd q (by decide), fun _ => ⟨fun q => absurd q (by decide), fun _ => ⟨fun _ => ⟨fun _ => h, fun q => absurd q (by decide)⟩, fun q => absurd (by decide) q⟩⟩⟩⟩⟩⟩⟩⟩⟩
      · refine ⟨fun q => absurd q (by decide), fun _ => ⟨fun q => absurd q (by decide), fun _ => ⟨fun q => absurd q (by decide), fun _ => ⟨fun q => absurd q (by decide), fun _ => ⟨fun q => absurd q (by decide), fun _ => ⟨fun q => absurd q (by decide), fun _ => ⟨fun q => absurd q (by decide), fun _ => ⟨fun q => absurd q (by decide), fun _ => ⟨fun q => absurd q (by decide), fun _ => ⟨fun _ => jr_isNumber (by omega) ⟨fun q => ?_, fun q => ?_⟩, fun q => absurd (by decide) q⟩⟩⟩⟩⟩⟩⟩⟩⟩⟩
        · have h : Q (if isN ta = true then 0 else -1) σ := h
          rw [b2_0.mp q, if_neg (by decide)] at h; exact h
        · have h : Q (if isN ta = true then 0 else -1) σ := h
          rw [b2_n0.mp q, if_pos rfl] at h; exact h
    have b76 : ∀ ta tb tc : Int32, jT s a = ta → (if (a :: L).length < 2 then 1 else jT s ((a :: L).getD 1 0)) = tb → (if (a :: L).length < 3 then 1 else jT s ((a :: L).getD 2 0)) = tc → Bk w d 0 0 m_Rules_standardType 0 0 (qi Q) 76 [none, oI (nI j), none, oI ta, none, oI tb, none, none] [vI tc] σ := by
      intro ta tb tc e1 e2 e3
      have := b106 ta tb tc e1 e2 e3
      have no : (isN ta && isN tb && isN tc) = false → Bk w d 0 0 m_Rules_standardType 0 0 (qi Q) 105 [none, oI (nI j), none, oI ta, none, oI tb, oI tc, none] [] σ := by
        intro q
        rw [q] at this
        exact v_Rules_standardType_105 _ _ _ _ _ this
      refine v_Rules_standardType_76 _ _ _ _ _ (jr_isNumber (by omega) ⟨fun q => no (by rw [b2_0.mp q]; rfl), fun q => jr_isNumber (by omega) ⟨fun q2 => no (by rw [b2_0.mp q2, Bool.and_false]; rfl), fun q2 => jr_isNumber (by omega) ⟨fun q3 => no (by rw [b2_0.mp q3, Bool.and_false]), fun q3 => ?_⟩⟩⟩)
      rw [b2_n0.mp q, b2_n0.mp q2, b2_n0.mp q3] at this
      exact this
    refine v_Rules_standardType _ _ _ (by omega) ⟨ain, ain, ?_⟩
    rw [nI_clamp (by omega), (hS.tb hG ha.1).2.2.2.2.2, (hS.an ha.2).1]
    cases L with
    | nil =>
      have eX : gX g a = none := hc.2
      rw [eX]
      refine ⟨fun q => absurd rfl q, fun _ => ?_⟩
      exact v_Rules_standardType_35 _ _ _ _ _ ⟨fun _ => v_Rules_standardType_57 _ _ _ _ (b76 _ 1 1 rfl rfl rfl), fun q => absurd rfl q⟩
    | cons b L =>
      have eX : gX g a = some b := hc.2.1
      have hbb := hL b (by simp)
      have bin : vp_in (nI b) 33500 := vp_in_nI (by omega) (by omega)
      rw [eX, show jO (some b) = nI b from rfl, nI_clamp (by omega), (hS.an hbb.2).1]
      refine ⟨fun _ => ⟨bin, v_Rules_standardType_35 _ _ _ _ _ ⟨fun q => absurd q (nI_nm1 (by omega)), fun _ => ⟨bin, ?_⟩⟩⟩, fun q => absurd q (nI_nm1 (by omega))⟩
      rw [nI_clamp (by omega), (hS.tb hG hbb.1).2.2.2.2.2]
      cases L with
      | nil =>
        have eX2 : gX g b = none := hc.2.2
        rw [eX2]
        exact ⟨fun q => absurd rfl q, fun _ => v_Rules_standardType_57 _ _ _ _ (b76 _ _ 1 rfl rfl rfl)⟩
      | cons c L =>
        have eX2 : gX g b = some c := hc.2.2.1
        have hcc := hL c (by simp)
        rw [eX2, show jO (some c) = nI c from rfl, nI_clamp (by omega), (hS.an hcc.2).1]
        refine ⟨fun _ => ⟨bin, vp_in_nI (by omega) (by omega), b76 _ _ _ rfl rfl ?_⟩, fun q => absurd q (nI_nm1 (by omega))⟩
        rw [if_neg (by simp only [List.length_cons]; omega)]; rfl
end
