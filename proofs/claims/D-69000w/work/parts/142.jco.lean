/-! 142: the component judges: a declaration is left -/
theorem i32_dif {x y : Int32} (h1 : x.toInt ≤ y.toInt) (h2 : y.toInt - x.toInt < 256) : ∃ n : Nat, 1 ≤ n ∧ n ≤ 256 ∧ (n : Int) = y.toInt - x.toInt + 1 ∧ y - x + 1 = nI n := by
  refine ⟨(y.toInt - x.toInt + 1).toNat, by omega, by omega, by omega, ?_⟩
  apply Int32.toInt_inj.mp
  rw [nI_toInt (by omega), Int32.toInt_add, Int32.toInt_sub]
  have e : (y.toInt - x.toInt).bmod (2 ^ 32) = y.toInt - x.toInt := Int.bmod_eq_of_le (by omega) (by omega)
  rw [e]
  have e1 : (1 : Int32).toInt = 1 := rfl
  rw [e1, Int.bmod_eq_of_le (by omega) (by omega)]
  omega
section
variable {w : Wd} {d : Nat} {g : Nat → NI} {N : List (List Int32)} {M : Nat} {σ0 σ : Sg} {s : JS} {E : Nat} {tk : Nat → Bool} {ft : Option JE}
/-- a declaration's type is known -/
def DcT (g : Nat → NI) (N : List (List Int32)) (M : Nat) (s : JS) (k : Nat) : Prop :=
  (gK g (declT g M k) = 10 → (∃ j, j < 9 ∧ sdI N (gV g (declT g M k)) = nI j) ∨ (sdI N (gV g (declT g M k)) < 0 ∧ ∃ b, bfd (gV g (declT g M k)) 2 (bpre s) 0 = some b)) ∧
  (gK g (declT g M k) = 9 → (gV g (kd g M (declT g M k) 0)).toInt ≤ (gV g (kd g M (declT g M k) 1)).toInt ∧ (gV g (kd g M (declT g M k) 1)).toInt - (gV g (kd g M (declT g M k) 0)).toInt < 256)
theorem DcT.inst {k : Nat} (h : DcT g N M s k) (hk : gK g (declT g M k) = 10) (hl : (jB s).length ≤ 700) : declS g M k = 2 ∧ ∃ j, j < 2 ^ 30 ∧ declY g N M s k = nI j ∧ (j < 9 ∨ 9 ≤ j ∧ j - 9 + 1 < (jB s).length ∧ bK (gB s (j - 9)) = 2) := by
  have e2 : declS g M k = 2 := by unfold declS; rw [hk]; rfl
  refine ⟨e2, ?_⟩
  unfold declY
  rw [e2, if_neg (by decide), if_pos rfl]
  rcases h.1 hk with ⟨j, hj, e⟩ | ⟨hn, b, hb⟩
  · rw [e, if_pos (nI_pos' (by omega))]; exact ⟨j, by omega, rfl, Or.inl hj⟩
  · rw [if_neg (Int32.not_le.mpr hn), hb]
    have := bfd_pre hb
    refine ⟨9 + b, by omega, nI_add 9 b, Or.inr ⟨by omega, by omega, ?_⟩⟩
    rw [show 9 + b - 9 = b by omega]
    exact this.2.2.resolve_left (by decide)
theorem lvS_5 {k : Nat} (h : gK g k = 5) : lvS g N M k s = lvDecl g N M k s := by
  unfold lvS; rw [h]; rfl
/-- the rules of a declaration, ahead of laying out -/
def dcF (g : Nat → NI) (N : List (List Int32)) (M k : Nat) (s : JS) : Option JE := orF (rlF g (decide (declS' g k = 0) || decide (declS g M k = 0)) 43 k) (orF (rlF g (decide (declP g M k < 0) || (decide (declS g M k = 0) && decide (declY g N M s k = if declP g M k < 768 then 0 else 1))) 15 k) (rlF g (match gX g (declT g M k) with | none => true | some c => rightC g c (declS g M k) (declY g N M s k) (declP g M k)) 18 k))
def dcL (g : Nat → NI) (N : List (List Int32)) (M k : Nat) (s : JS) : JS := layS (declS g M k) (declY g N M s k) (declS' g k) (declM g N M s k) (if declS g M k = 1 then gV g (kd g M (declT g M k) 0) else 0) (declP g M k) (match gX g (declT g M k) with | none => 0 | some c => gV g c) (declN g M k) ((jV s).length - (declN g M k).length) s
theorem lvDecl_eq {k : Nat} : lvDecl g N M k s = match dcF g N M k s with | some e => .error e | none => rl g (decide (bC (cb (dcL g N M k s)) ≤ 4096)) 19 k (dcL g N M k s) := by
  unfold lvDecl dcF
  rw [rl_eq]
  cases rlF g (decide (declS' g k = 0) || decide (declS g M k = 0)) 43 k with
  | some e => rfl
  | none =>
    show (Except.bind (rl g _ 15 k s) _) = _
    rw [rl_eq]
    cases rlF g (decide (declP g M k < 0) || (decide (declS g M k = 0) && decide (declY g N M s k = if declP g M k < 768 then 0 else 1))) 15 k with
    | some e => rfl
    | none =>
      show (Except.bind (rl g _ 18 k s) _) = _
      rw [rl_eq]
      cases rlF g (match gX g (declT g M k) with | none => true | some c => rightC g c (declS g M k) (declY g N M s k) (declP g M k)) 18 k with
      | some e => rfl
      | none => rfl
theorem jr_leaveDeclaration {Q : Sg → Prop} {k : Nat} {x1 : Int32} (hd : 4 ≤ d) (hG : StG g N M σ0) (hR : GrT g M) (hS : JW g N M σ0 σ s E tk) (hb : jB s ≠ []) (hf : FT σ none) (hk : k < M) (h5 : gK g k = 5) (hU : ∃ p, gU g k = some p) (hD : DcT g N M s k) (hfr : σ0.1 21 26 = nI ((jV s).length - (declN g M k).length)) (hfl : (declN g M k).length ≤ (jV s).length) (hC : bC (cb s) ≤ 4096) (hC2 : ∀ b, b < (jB s).length → bC (gB s b) ≤ 10400) (hP : declP g M k = -1 ∨ ∃ p, p < 1536 ∧ declP g M k = nI p) (h1 : x1 = nI k) (h : ∀ σ', JP g N M σ0 σ' (lvS g N M k s) E tk → Q σ') : OkV w d m_Rules_leaveDeclaration [vR 21, vI x1] σ Q := by
  subst h1
  have hM := hG.2.2.1
  have hl := hS.2.1.2.1
  have hvl := hS.2.2.1.2.1
  have hin : vp_in (nI k) 33500 := vp_in_nI (by omega) (by omega)
  obtain ⟨n0, ns, pl, t, cn, hc, hns, eN, hNl, eT, htM, hUt, kt, hcn, hplc⟩ := decl_of hG.2.1 hR hk h5
  obtain ⟨p, hp⟩ := hU
  have hpk := (hG.2.1 k hk).1 p hp
  rw [lvS_5 h5, lvDecl_eq] at h
  have tin : vp_in (nI t) 33500 := vp_in_nI (by omega) (by omega)
  -- the kinds of the type
  have eS : declS g M k = if gK g t = 8 then 0 else if gK g t = 9 then 1 else 2 := by unfold declS; rw [eT]
  generalize esh : declS g M k = sh at eS
  generalize ety : declY g N M s k = ty
  generalize epl : declP g M k = place at hP
  generalize ese : declS' g k = se
  have ese' : gV g p = se := by rw [← ese]; unfold declS'; rw [hp]; rfl
  -- the end: the loop
  have b452 : ∀ (σ1 : Sg) (x7 x8 : Int32), JW g N M σ0 σ1 s E tk → FT σ1 (dcF g N M k s) → σ1.1 21 26 = σ.1 21 26 → (dcF g N M k s = none → x7 = nI (declM g N M s k) ∧ declM g N M s k ≤ 11000 ∧ x8 = (if declS g M k = 1 then gV g (kd g M (declT g M k) 0) else 0)) → Bk w d 0 0 m_Rules_leaveDeclaration 0 0 (qv Q) 452 [oR 21, oI (nI k), none, oI place, oI sh, oI ty, oI se, oI x7, oI x8, oI (σ1.1 12 k), oI (σ1.1 21 26)] [] σ1 := by
    intro σ1 x7 x8 hS1 hf1 k26 hx
    cases hdc : dcF g N M k s with
    | some e =>
      rw [hdc] at h hf1
      have hQ : Q σ1 := h σ1 ⟨hS1.1, hf1⟩
      refine v_Rules_leaveDeclaration_452 _ _ _ _ _ _ _ _ _ _ ⟨fun _ => hQ, fun _ => ⟨fun _ => hQ, fun q => ?_⟩⟩
      have := hf1.none_iff.mp q
      cases this
    | none =>
      rw [hdc] at h hf1
      obtain ⟨e7, hm, e8⟩ := hx hdc
      rw [(hS1.tb hG hk).2.2.2.2.1, hS1.1.1 21 26 rfl, hfr, e7, e8, ← esh, ← ety, ← epl, ← ese]
      refine jr_decl_loop (by omega) hG hk hm (by rw [epl]; exact hP) (declN g M k) _ _ s σ1 (match pl with | [] => t | q :: _ => q) (match pl with | [] => cn | _ :: r => r ++ t :: cn) ?_ (fun c q => (hns c (by rw [← eN]; exact q)).2) hS1 hb hf1 (by omega) hC h
      rw [eN]
      rcases hplc with ⟨q, _⟩ | ⟨a, q, _⟩ <;> subst q <;> exact hc
  have b366 : ∀ (σ1 : Sg) (y0 : Int32), JW g N M σ0 σ1 s E tk → FT σ1 (dcF g N M k s) → σ1.1 21 26 = σ.1 21 26 → (sh ≠ 1 → y0 = nI (declM g N M s k) ∧ declM g N M s k ≤ 11000) → Bk w d 0 0 m_Rules_leaveDeclaration 0 0 (qv Q) 366 [oR 21, oI (nI k), oI (nI t), oI place, oI sh, oI ty, oI se, none, none, none, none] [vI y0] σ1 := by
    intro σ1 y0 hS1 hf1 k26 hy
    refine v_Rules_leaveDeclaration_366 _ _ _ _ _ _ _ _ ?_
    rw [nI_clamp (by omega), hf1.none_iff]
    refine ⟨fun q => ⟨hin, b452 σ1 _ _ hS1 hf1 k26 (fun _ => ⟨(hy q).1, (hy q).2, ?_⟩)⟩, fun q => ⟨fun q2 => ⟨hin, b452 σ1 _ _ hS1 hf1 k26 (fun r => absurd r q2)⟩, fun q2 => ?_⟩⟩
    · rw [esh, if_neg q]
    · have k9 : gK g t = 9 := by
        rcases kt with r | r | r
        · rw [r, if_pos rfl] at eS; rw [eS] at q; exact absurd q (by decide)
        · exact r
        · rw [r, if_neg (by decide), if_neg (by decide)] at eS; rw [eS] at q; exact absurd q (by decide)
      obtain ⟨L2, f2, hc2, hr2, hf2, hL2⟩ := hR t htM
      rw [k9] at hr2
      obtain ⟨a, b, c, e, _, _, _⟩ := row10 (L := L2) (f := f2) hr2 hf2
      subst e
      have hkid := kid_of hG.2.1 htM hc2
      have k0 : kd g M t 0 = a := by unfold kd; rw [hkid]; rfl
      have k1 : kd g M t 1 = b := by unfold kd; rw [hkid]; rfl
      have ha := (hL2 a (by simp)).2.1
      have hbM := (hL2 b (by simp)).2.1
      have ain : vp_in (nI a) 33500 := vp_in_nI (by omega) (by omega)
      have bin : vp_in (nI b) 33500 := vp_in_nI (by omega) (by omega)
      have dd := hD.2 (by rw [eT]; exact k9)
      rw [eT, k0, k1] at dd
      obtain ⟨n, n1, n2, n3, n4⟩ := i32_dif dd.1 dd.2
      rw [nI_clamp (n := t) (by omega), (hS1.tb hG htM).2.2.2.2.1, show gF g t = some a from hc2.1, show jO (some a) = nI a from rfl, nI_clamp (by omega), (hS1.tb hG ha).2.2.2.2.2, show gX g a = some b from hc2.2.1, show jO (some b) = nI b from rfl, nI_clamp (by omega), (hS1.tb hG ha).2.2.1, (hS1.tb hG hbM).2.2.1, n4]
      have eM : declM g N M s k = n := by
        unfold declM; rw [esh, q, if_neg (by decide), if_neg (by decide), eT, k0, k1, n4, nI_clamp (by omega)]
      refine ⟨tin, ain, tin, ain, bin, hin, b452 σ1 _ _ hS1 hf1 k26 (fun _ => ⟨by rw [eM], by omega, ?_⟩)⟩
      rw [esh, if_pos q, eT, k0]
  have b335 : ∀ (σ1 : Sg) (cc : Bool), JW g N M σ0 σ1 s E tk → FT σ1 (orF (rlF g (decide (se = 0) || decide (sh = 0)) 43 k) (rlF g (decide (place < 0) || (decide (sh = 0) && decide (ty = if place < 768 then 0 else 1))) 15 k)) → σ1.1 21 26 = σ.1 21 26 → (match gX g t with | none => true | some c => rightC g c sh ty place) = cc → Bk w d 0 0 m_Rules_leaveDeclaration 0 0 (qv Q) 335 [oR 21, oI (nI k), oI (nI t), oI place, oI sh, oI ty, oI se, none, none, none, none] [vI (b2 cc), vR 21] σ1 := by
    intro σ1 cc hS1 hf1 k26 hcc
    refine v_Rules_leaveDeclaration_335 _ _ _ _ _ _ _ _ (jr_rule (by omega) hG hS1 hf1 hk rfl rfl (by decide) (fun σ2 hS2 hf2 k2 => ?_))
    have hf2 : FT σ2 (dcF g N M k s) := by
      unfold dcF
      rw [ese, esh, epl, ety, eT, hcc, ← orF_as]
      exact hf2
    have k26' : σ2.1 21 26 = σ.1 21 26 := by rw [k2 21 26 (by omega)]; exact k26
    refine ⟨fun q => ⟨fun q2 => ?_, fun q2 => ?_⟩, fun q => ?_⟩
    · refine b366 σ2 _ hS2 hf2 k26' (fun q3 => ?_)
      exfalso
      rcases kt with r | r | r
      · rw [r, if_pos rfl] at eS; exact q eS
      · rw [r, if_neg (by decide), if_pos rfl] at eS; exact q3 eS
      · rw [r, if_neg (by decide), if_neg (by decide)] at eS; exact q2 eS
    · have k10 : gK g t = 10 := by
        rcases kt with r | r | r
        · rw [r, if_pos rfl] at eS; exact absurd eS q
        · rw [r, if_neg (by decide), if_pos rfl] at eS; rw [eS] at q2; exact absurd q2 (by decide)
        · exact r
      obtain ⟨_, j, hj0, ej, hj⟩ := hD.inst (by rw [eT]; exact k10) hl
      have hj' : j < 9 ∨ 9 ≤ j ∧ j - 9 + 1 < (jB s).length := hj.imp id (fun r => ⟨r.1, r.2.1⟩)
      rw [← ety, ej]
      refine jr_cellsOf (by omega) hS2 hj' hj0 rfl ?_
      rw [← ej, ety]
      refine b366 σ2 _ hS2 hf2 k26' (fun _ => ?_)
      have eM : declM g N M s k = celT s (declY g N M s k) := by unfold declM; rw [esh, q2, if_neg (by decide), if_pos rfl]
      rw [eM, ety]
      refine ⟨rfl, ?_⟩
      rw [← ety, ej]
      unfold celT
      split
      · split <;> omega
      · rename_i q9
        rcases hj with r | r
        · exfalso; apply q9; rw [show (9 : Int32) = nI 9 from rfl, nI_ltI (by omega) (by decide)]; exact r
        · rw [nI_clamp (by omega)]
          have := hC2 (j - 9) (by omega)
          unfold gB at this; omega
    · refine b366 σ2 _ hS2 hf2 k26' (fun _ => ?_)
      have eM : declM g N M s k = 1 := by unfold declM; rw [esh, if_pos q]
      rw [eM]; exact ⟨rfl, by omega⟩
  have b289 : ∀ (σ1 : Sg) (cc : Bool), JW g N M σ0 σ1 s E tk → FT σ1 (rlF g (decide (se = 0) || decide (sh = 0)) 43 k) → σ1.1 21 26 = σ.1 21 26 → (decide (place < 0) || (decide (sh = 0) && decide (ty = if place < 768 then 0 else 1))) = cc → Bk w d 0 0 m_Rules_leaveDeclaration 0 0 (qv Q) 289 [oR 21, oI (nI k), oI (nI t), oI place, oI sh, oI ty, oI se, none, none, none, none] [vI (b2 cc), vR 21] σ1 := by
    intro σ1 cc hS1 hf1 k26 hcc
    refine v_Rules_leaveDeclaration_289 _ _ _ _ _ _ _ _ (jr_rule (by omega) hG hS1 hf1 hk rfl rfl (by decide) (fun σ2 hS2 hf2 k2 => ⟨tin, ?_⟩))
    have k26' : σ2.1 21 26 = σ.1 21 26 := by rw [k2 21 26 (by omega)]; exact k26
    have hf2' : FT σ2 (orF (rlF g (decide (se = 0) || decide (sh = 0)) 43 k) (rlF g (decide (place < 0) || (decide (sh = 0) && decide (ty = if place < 768 then 0 else 1))) 15 k)) := by rw [hcc]; exact hf2
    rw [nI_clamp (by omega), (hS2.tb hG htM).2.2.2.2.2]
    have b := fun cc => b335 σ2 cc hS2 hf2' k26'
    rcases hcn with ⟨_, eX⟩ | ⟨c, _, eX, hcM, _⟩
    · rw [eX] at b ⊢
      exact ⟨fun _ => v_Rules_leaveDeclaration_330 _ _ _ _ _ _ _ (b true rfl), fun q => absurd rfl q⟩
    · rw [eX] at b ⊢
      refine ⟨fun q => absurd q (nI_nm1 (by omega)), fun _ => ⟨tin, jr_isRightConstant (by omega) hG hS2 hcM hP rfl ⟨fun q => ?_, fun q => ?_⟩⟩⟩
      · exact b false (b2_0.mp q)
      · exact v_Rules_leaveDeclaration_330 _ _ _ _ _ _ _ (b true (b2_n0.mp q))
  have b251 : ∀ cc : Bool, (decide (se = 0) || decide (sh = 0)) = cc → Bk w d 0 0 m_Rules_leaveDeclaration 0 0 (qv Q) 251 [oR 21, oI (nI k), oI (nI t), oI place, oI sh, oI ty, oI se, none, none, none, none] [vI (b2 cc), vR 21] σ := by
    intro cc hcc
    refine v_Rules_leaveDeclaration_251 _ _ _ _ _ _ _ _ (jr_rule (by omega) hG hS hf hk rfl rfl (by decide) (fun σ2 hS2 hf2 k2 => ?_))
    have k26' : σ2.1 21 26 = σ.1 21 26 := k2 21 26 (by omega)
    have hf2' : FT σ2 (rlF g (decide (se = 0) || decide (sh = 0)) 43 k) := by rw [hcc]; exact hf2
    have b := fun cc => b289 σ2 cc hS2 hf2' k26'
    have yes : (decide (place < 0) || (decide (sh = 0) && decide (ty = if place < 768 then 0 else 1))) = true → Bk w d 0 0 m_Rules_leaveDeclaration 0 0 (qv Q) 284 [oR 21, oI (nI k), oI (nI t), oI place, oI sh, oI ty, oI se, none, none, none, none] [vR 21] σ2 := fun q => v_Rules_leaveDeclaration_284 _ _ _ _ _ _ _ (b true q)
    have no : (decide (place < 0) || (decide (sh = 0) && decide (ty = if place < 768 then 0 else 1))) = false → Bk w d 0 0 m_Rules_leaveDeclaration 0 0 (qv Q) 288 [oR 21, oI (nI k), oI (nI t), oI place, oI sh, oI ty, oI se, none, none, none, none] [vR 21] σ2 := fun q => v_Rules_leaveDeclaration_288 _ _ _ _ _ _ _ (b false q)
    have b281 : ∀ y : Int32, (if place < 768 then (0 : Int32) else 1) = y → ¬ place < 0 → sh = 0 → Bk w d 0 0 m_Rules_leaveDeclaration 0 0 (qv Q) 281 [oR 21, oI (nI k), oI (nI t), oI place, oI sh, oI ty, oI se, none, none, none, none] [vI y, vI ty, vR 21] σ2 := by
      intro y hy q0 q1
      rw [hy] at yes no
      refine v_Rules_leaveDeclaration_281 _ _ _ _ _ _ _ _ _ ⟨fun q => no ?_, fun q => yes ?_⟩
      · rw [decide_eq_false q0, decide_eq_false q]; simp
      · rw [decide_eq_true q, decide_eq_true q1]; simp
    refine ⟨fun q => yes (by rw [decide_eq_true q]; rfl), fun q => ⟨fun q2 => no (by rw [decide_eq_false q, decide_eq_false q2]; rfl), fun q2 => ⟨fun q3 => b281 1 (if_neg (Int32.not_lt.mpr q3)) q q2, fun q3 => b281 0 (if_pos (Int32.not_le.mp q3)) q q2⟩⟩⟩
  have b216 : Bk w d 0 0 m_Rules_leaveDeclaration 0 0 (qv Q) 216 [oR 21, oI (nI k), oI (nI t), oI place, oI sh, oI ty, none, none, none, none, none] [] σ := by
    refine v_Rules_leaveDeclaration_216 _ _ _ _ _ _ ⟨hin, ?_⟩
    rw [nI_clamp (by omega), (hS.tb hG hk).2.2.2.1, hp, show jO (some p) = nI p from rfl, nI_clamp (by omega), (hS.tb hG (by omega)).2.2.1, ese']
    refine ⟨vp_in_nI (by omega) (by omega), fun q => v_Rules_leaveDeclaration_246 _ _ _ _ _ _ _ (b251 true (by rw [decide_eq_true q]; rfl)), fun q => ⟨fun q2 => b251 false (by rw [decide_eq_false q, decide_eq_false q2]; rfl), fun q2 => v_Rules_leaveDeclaration_246 _ _ _ _ _ _ _ (b251 true (by rw [decide_eq_true q2, Bool.or_true]))⟩⟩
  -- the type
  have b73 : Bk w d 0 0 m_Rules_leaveDeclaration 0 0 (qv Q) 73 [oR 21, oI (nI k), oI (nI t), oI place, none, none, none, none, none, none, none] [] σ := by
    refine v_Rules_leaveDeclaration_73 _ _ _ _ ⟨tin, ?_⟩
    rw [nI_clamp (by omega), (hS.tb hG htM).1]
    have b163 : ∀ y0 : Int32, (sh ≠ 2 → y0 = ty) → Bk w d 0 0 m_Rules_leaveDeclaration 0 0 (qv Q) 163 [oR 21, oI (nI k), oI (nI t), oI place, oI sh, none, none, none, none, none, none] [vI y0] σ := by
      intro y0 hy
      refine v_Rules_leaveDeclaration_163 _ _ _ _ _ _ ⟨fun q => ?_, fun q => ⟨tin, ?_⟩⟩
      · rw [hy q]; exact b216
      · have k10 : gK g t = 10 := by
          rcases kt with r | r | r
          · rw [r, if_pos rfl] at eS; rw [eS] at q; exact absurd q (by decide)
          · rw [r, if_neg (by decide), if_pos rfl] at eS; rw [eS] at q; exact absurd q (by decide)
          · exact r
        obtain ⟨nj, hnj, en⟩ := hG.nm htM (by rw [k10]; decide)
        have hNN := hG.2.2.2.2.1
        have h24 := (hS.2.2.2.1 hb).1
        rw [nI_clamp (by omega), (hS.tb hG htM).2.2.1, en, nI_clamp (by omega), (hS.2.2.2.2.2.1 nj hnj).1, ← en]
        have eY : ty = if 0 ≤ sdI N (gV g t) then sdI N (gV g t) else 9 + jO (bfd (gV g t) 2 (bpre s) 0) := by
          rw [← ety]; unfold declY; rw [esh, q, if_neg (by decide), if_pos rfl, eT]
        refine ⟨by rw [en]; exact vp_in_nI (by omega) (by omega), fun q2 => ⟨tin, jr_blockNamed (by omega) hG hS.1 hS.2.1 h24 (by omega) ?_⟩, fun q2 => ?_⟩
        · rw [if_neg (Int32.not_le.mpr q2)] at eY
          refine v_Rules_leaveDeclaration_214 _ _ _ _ _ _ ?_
          have : (9 : Int32) + jO (bfd (gV g t) 2 ((jB s).take ((jB s).length - 1)) 0) = ty := eY.symm
          rw [this]; exact b216
        · rw [if_pos (Int32.not_lt.mp q2)] at eY
          refine v_Rules_leaveDeclaration_214 _ _ _ _ _ _ ?_
          rw [← eY]; exact b216
    have tin' : gK g t ≠ 9 → Bk w d 0 0 m_Rules_leaveDeclaration 0 0 (qv Q) 110 [oR 21, oI (nI k), oI (nI t), oI place, none, none, none, none, none, none, none] [vI sh] σ := by
      intro n9
      have s1 : sh ≠ 1 := by
        rcases kt with r | r | r
        · rw [r, if_pos rfl] at eS; rw [eS]; decide
        · exact absurd r n9
        · rw [r, if_neg (by decide), if_neg (by decide)] at eS; rw [eS]; decide
      refine v_Rules_leaveDeclaration_110 _ _ _ _ _ ⟨fun _ => ⟨tin, b163 _ (fun q => ?_)⟩, fun q => absurd q s1⟩
      rw [nI_clamp (by omega), (hS.tb hG htM).2.2.1, ← ety]
      unfold declY; rw [esh, if_neg s1, if_neg q, eT]
    refine ⟨fun n8 => ⟨tin, fun n9 => ?_, fun k9 => ?_⟩, fun k8 => ?_⟩
    · have e2 : sh = 2 := by rw [if_neg n8, if_neg n9] at eS; exact eS
      have := tin' n9
      rw [e2] at this
      exact this
    · have e1 : sh = 1 := by rw [if_neg n8, if_pos k9] at eS; exact eS
      rw [e1] at b163
      obtain ⟨L2, f2, hc2, hr2, hf2, hL2⟩ := hR t htM
      rw [k9] at hr2
      obtain ⟨a, b, c, e, _, _, _⟩ := row10 (L := L2) (f := f2) hr2 hf2
      subst e
      have hkid := kid_of hG.2.1 htM hc2
      have k2 : kd g M t 2 = c := by unfold kd; rw [hkid]; rfl
      have ha := (hL2 a (by simp)).2.1
      have hbM := (hL2 b (by simp)).2.1
      have hcM := (hL2 c (by simp)).2.1
      refine v_Rules_leaveDeclaration_110 _ _ _ _ _ ⟨fun q => absurd rfl q, fun _ => ⟨tin, ?_⟩⟩
      rw [nI_clamp (by omega), (hS.tb hG htM).2.2.2.2.1, show gF g t = some a from hc2.1, show jO (some a) = nI a from rfl, nI_clamp (by omega), (hS.tb hG ha).2.2.2.2.2, show gX g a = some b from hc2.2.1, show jO (some b) = nI b from rfl, nI_clamp (by omega), (hS.tb hG hbM).2.2.2.2.2, show gX g b = some c from hc2.2.2.1, show jO (some c) = nI c from rfl, nI_clamp (by omega), (hS.tb hG hcM).2.2.1]
      refine ⟨vp_in_nI (by omega) (by omega), vp_in_nI (by omega) (by omega), vp_in_nI (by omega) (by omega), b163 _ (fun _ => ?_)⟩
      rw [← ety]; unfold declY; rw [esh, e1, if_pos rfl, eT, k2]
    · have := tin' (by rw [k8]; decide)
      have e0 : sh = 0 := by rw [if_pos k8] at eS; exact eS
      rw [e0] at this
      exact this
  -- names
  have loop : ∀ (R : List Nat) (o : Option Nat), Chn g o (R ++ (pl ++ t :: cn)) → (∀ c, c ∈ R → gK g c = 6 ∧ c < M) → Bk w d 0 0 m_Rules_leaveDeclaration 0 0 (qv Q) 10 [oR 21, oI (nI k), oI (jO o), none, none, none, none, none, none, none, none] [] σ := by
    intro R
    induction R with
    | nil =>
      intro o hco _
      have kt6 : gK g t ≠ 6 := by rcases kt with q | q | q <;> rw [q] <;> decide
      have kt7 : gK g t ≠ 7 := by rcases kt with q | q | q <;> rw [q] <;> decide
      rcases hplc with ⟨q, e⟩ | ⟨a, q, ka, haM, eX, e⟩
      · subst q
        have eo : o = some t := hco.1
        subst eo
        rw [epl] at e
        rw [e] at b73
        refine v_Rules_leaveDeclaration_10 _ _ _ ⟨tin, ?_⟩
        rw [show jO (some t) = nI t from rfl, nI_clamp (by omega), (hS.tb hG htM).1]
        exact ⟨fun _ => ⟨tin, fun _ => b73, fun r => absurd r kt7⟩, fun r => absurd r kt6⟩
      · subst q
        have eo : o = some a := hco.1
        subst eo
        rw [epl] at e
        rw [e] at b73
        have ain : vp_in (nI a) 33500 := vp_in_nI (by omega) (by omega)
        refine v_Rules_leaveDeclaration_10 _ _ _ ⟨ain, ?_⟩
        rw [show jO (some a) = nI a from rfl, nI_clamp (by omega), (hS.tb hG haM).1, (hS.tb hG haM).2.2.1, (hS.tb hG haM).2.2.2.2.2, eX]
        exact ⟨fun _ => ⟨ain, fun r => absurd ka r, fun _ => ⟨ain, ain, b73⟩⟩, fun r => absurd (r.symm.trans ka) (by decide)⟩
    | cons x R ih =>
      intro o hco hx
      have eo : o = some x := hco.1
      subst eo
      have hx0 := hx x List.mem_cons_self
      have xin : vp_in (nI x) 33500 := vp_in_nI (by omega) (by omega)
      refine v_Rules_leaveDeclaration_10 _ _ _ ⟨xin, ?_⟩
      rw [show jO (some x) = nI x from rfl, nI_clamp (by omega), (hS.tb hG hx0.2).1, (hS.tb hG hx0.2).2.2.2.2.2]
      exact ⟨fun r => absurd hx0.1 r, fun _ => ⟨xin, ih _ hco.2 (fun c hc => hx c (List.mem_cons_of_mem _ hc))⟩⟩
  refine v_Rules_leaveDeclaration _ _ (by omega) ⟨hin, ?_⟩
  rw [nI_clamp (by omega), (hS.tb hG hk).2.2.2.2.1]
  exact loop (n0 :: ns) _ hc hns
end
