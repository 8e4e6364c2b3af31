/-! 106: the reference's split -/
theorem getD_tk {l : List Sg4} {j i : Nat} {z : Sg4} (h : i < j) : (l.take j).getD i z = l.getD i z := by
  rw [List.getD_eq_getElem?_getD, List.getD_eq_getElem?_getD, List.getElem?_take]
  simp [h]
theorem getD_dr {l : List Sg4} {j i : Nat} {z : Sg4} : (l.drop j).getD i z = l.getD (j + i) z := by
  rw [List.getD_eq_getElem?_getD, List.getD_eq_getElem?_getD, List.getElem?_drop]
theorem cut_at {l : List Sg4} {j : Nat} {z : Sg4} (h : j < l.length) : l = l.take j ++ l.getD j z :: l.drop (j + 1) := by
  have e : l.getD j z = l[j] := by rw [List.getD_eq_getElem?_getD, List.getElem?_eq_getElem h]; rfl
  rw [e, ← List.drop_eq_getElem_cons h, List.take_append_drop]
theorem last_of {l : List Sg4} (h : l ≠ []) : ∃ m e, l = m ++ [e] := ⟨l.dropLast, l.getLast h, (List.dropLast_concat_getLast h).symm⟩
/-- a split's node -/
theorem sp_node {w : Wd} {lo N d base j : Nat} {σ : Sg} {s : NS} {Q : Int32 → Sg → Prop} {l : List Sg4}
    (ih : ∀ (l : List Sg4) (base d : Nat) (σ : Sg) (s : NS) (Q : Int32 → Sg → Prop), l.length ≤ N → l ≠ [] → N + 3 ≤ d → NM σ 85 s → σ.1 81 14 = nI s.1 → s.1 + l.length ≤ 33000 → base + l.length ≤ 200 → SGm σ base l → (∀ z, z ∈ l → z.1 < s.1 ∧ lo ≤ z.1 ∧ rp (s.2 z.1) = -1 ∧ FoN s.2 lo s.1 z.2.1 [z.1]) → (l.map (fun z => z.1)).Nodup → lo ≤ s.1 → (∀ τ r, SpP σ s lo l τ r → Q (nI r) τ) → OkI w d m_M_split [vR 81, vI (nI base), vI (nI (base + (l.length - 1)))] σ Q)
    (hl : l.length ≤ N + 1) (hd : N + 3 ≤ d) (hN : NM σ 85 s) (h14 : σ.1 81 14 = nI s.1) (hs : s.1 + l.length ≤ 33000) (hb : base + l.length ≤ 200) (hG : SGm σ base l) (hE : ∀ z, z ∈ l → z.1 < s.1 ∧ lo ≤ z.1 ∧ rp (s.2 z.1) = -1 ∧ FoN s.2 lo s.1 z.2.1 [z.1]) (hnd : (l.map (fun z => z.1)).Nodup) (hlo : lo ≤ s.1) (hj : j + 1 < l.length) (hc : CutAt l (l.length - 1) j)
    (h : ∀ τ r, SpP σ s lo l τ r → Q (nI r) τ) {sn pl : Int32} (hsn : sn = (l.getD j (0, .leaf, 0, 0)).2.2.1) (hpl : pl = (l.getD j (0, .leaf, 0, 0)).2.2.2) :
    OkI w d m_M_node [vR 81, vI 35, vI pl, vI sn] σ (fun r1 s1 => OkI w d m_M_split [vR 81, vI (nI base), vI (nI (base + j))] s1 (fun r2 s2 => OkV w d m_M_hang [vR 81, vI r2, vI r1] s2 (fun s3 => OkI w d m_M_split [vR 81, vI (nI (base + j) + 1), vI (nI (base + (l.length - 1)))] s3 (fun r4 s4 => OkV w d m_M_hang [vR 81, vI r4, vI r1] s4 (fun s5 => Q r1 s5))))) := by
  have ecut := cut_at (l := l) (j := j) (z := (0, .leaf, 0, 0)) (by omega)
  generalize eq : l.getD j (0, .leaf, 0, 0) = q at ecut hsn hpl
  generalize el1 : l.take j = l1 at ecut
  generalize el2 : l.drop (j + 1) = l2 at ecut
  have hl1 : l1.length = j := by rw [← el1, List.length_take]; omega
  have hl2 : l2.length = l.length - (j + 1) := by rw [← el2, List.length_drop]
  have hl2n : l2 ≠ [] := fun e => by rw [e] at hl2; simp at hl2; omega
  have hG1 : SGm σ base (l1 ++ [q]) := by
    intro i hi
    rw [List.length_append, List.length_singleton, hl1] at hi
    have := hG i (by omega)
    by_cases e : i = j
    · subst e
      have e2 : (l1 ++ [q]).getD i (0, .leaf, 0, 0) = q := by rw [← hl1]; simp [List.getD_eq_getElem?_getD]
      rw [e2]
      rw [eq] at this
      exact this
    · have e2 : (l1 ++ [q]).getD i (0, .leaf, 0, 0) = l.getD i (0, .leaf, 0, 0) := by
        rw [List.getD_eq_getElem?_getD, List.getElem?_append_left (by omega), ← List.getD_eq_getElem?_getD, ← el1]
        exact getD_tk (by omega)
      rw [e2]; exact this
  have hG2 : SGm σ (base + j + 1) l2 := by
    intro i hi
    have := hG (j + 1 + i) (by omega)
    have e2 : l2.getD i (0, .leaf, 0, 0) = l.getD (j + 1 + i) (0, .leaf, 0, 0) := by rw [← el2]; exact getD_dr
    rw [e2, show base + j + 1 + i = base + (j + 1 + i) by omega]
    exact this
  have mem1 : ∀ z, z ∈ l1 ++ [q] → z ∈ l := fun z hz => by
    rw [ecut]
    rw [List.mem_append, List.mem_singleton] at hz
    rw [List.mem_append, List.mem_cons]
    rcases hz with hz | hz
    · exact Or.inl hz
    · exact Or.inr (Or.inl hz)
  have mem2 : ∀ z, z ∈ l2 → z ∈ l := fun z hz => by
    rw [ecut]
    simp only [List.mem_append, List.mem_cons]
    exact Or.inr (Or.inr hz)
  have em : l.map (fun z => z.1) = (l1 ++ [q]).map (fun z => z.1) ++ l2.map (fun z => z.1) := by
    have : l = (l1 ++ [q]) ++ l2 := by rw [ecut]; simp
    rw [this, List.map_append]
  rw [em, List.nodup_append] at hnd
  obtain ⟨nd1, nd2, nd3⟩ := hnd
  have idl : ∀ (m : List Sg4) (k : Nat), k ∈ m.map (fun z => z.1) → ∃ z, z ∈ m ∧ z.1 = k := fun m k hk => by
    rw [List.mem_map] at hk
    exact hk
  refine rn_node0 (by omega) hN h14 (by omega) (fun τ1 f1 F1 N1 m1 => ?_)
  have a0 : ∀ k, k < s.1 → (addN s 35 pl sn).2 k = s.2 k := fun k hk => addN_lt hk
  have e1 : base + j = base + ((l1 ++ [q]).length - 1) := by rw [List.length_append, List.length_singleton, hl1]; omega
  rw [e1]
  refine ih (l1 ++ [q]) base d τ1 (addN s 35 pl sn) _ (by rw [List.length_append, List.length_singleton]; omega) (by simp) (by omega) N1 m1 (by show s.1 + 1 + _ ≤ _; rw [List.length_append, List.length_singleton]; omega) (by rw [List.length_append, List.length_singleton]; omega) (fun i hi => by rw [f1 94 _ (by omega), f1 95 _ (by omega), f1 96 _ (by omega)]; exact hG1 i hi) (fun z hz => ?_) nd1 (by show lo ≤ s.1 + 1; omega) (fun τ2 r2 ⟨s2, f2, F2, N2, m2, g1, g2, g3, g4, g5, g6, g7, g8, g9⟩ => ?_)
  · obtain ⟨z1, z2, z3, z4⟩ := hE z (mem1 z hz)
    exact ⟨Nat.lt_succ_of_lt z1, z2, by rw [a0 _ z1]; exact z3, z4.mono (Nat.le_refl _) (Nat.le_succ _) (fun k _ hk => by rw [a0 k hk]; exact ⟨rfl, rfl⟩)⟩
  have g1 : s.1 + 1 ≤ s2.1 := g1
  have g2 : s2.1 + 1 ≤ s.1 + 1 + (l1 ++ [q]).length := g2
  rw [List.length_append, List.length_singleton, hl1] at g2
  have hm1 : s.1 ∉ (l1 ++ [q]).map (fun z => z.1) := fun hk => by
    obtain ⟨z, hz, e⟩ := idl _ _ hk
    have := (hE z (mem1 z hz)).1
    omega
  have em2 : s2.2 s.1 = (35, pl, sn, -1, []) := by rw [g8 s.1 (Nat.lt_succ_self _) hm1]; exact addN_top
  have hr2 : r2 ≠ s.1 := by
    rcases g6 with q1 | q1
    · exact fun e => hm1 (e ▸ q1)
    · have q1 : s.1 + 1 ≤ r2 := q1
      omega
  refine rn_hang0 (by omega) N2 (by omega) rfl rfl ⟨by omega, by rw [em2]; show (-1 : Int32) ≠ -2; decide⟩ g3 (Ne.symm hr2) g5 (fun τ3 f3 F3 N3 => ?_)
  have em3 : (putN s2 s.1 r2).2 s.1 = (35, pl, sn, -1, [r2]) := by
    show upR _ s.1 _ s.1 = _
    rw [upR_at, if_pos rfl, em2]; rfl
  have keep2 : ∀ k, k < s.1 → k ∉ (l1 ++ [q]).map (fun z => z.1) → k ≠ r2 → (putN s2 s.1 r2).2 k = s.2 k := fun k hk hn hr => by
    rw [putN_n (by omega) hr, g8 k (by show k < s.1 + 1; omega) hn, a0 k hk]
  have r2o : ∀ z, z ∈ l2 → z.1 ≠ r2 ∧ z.1 ∉ (l1 ++ [q]).map (fun z => z.1) := fun z hz => by
    have hzn : z.1 ∉ (l1 ++ [q]).map (fun z => z.1) := fun hk => nd3 _ hk _ (List.mem_map_of_mem hz) rfl
    refine ⟨fun e => ?_, hzn⟩
    rcases g6 with q1 | q1
    · exact hzn (e ▸ q1)
    · have q1 : s.1 + 1 ≤ r2 := q1
      have := (hE z (mem2 z hz)).1
      omega
  have sm3 : ∀ k, k < s.1 → smR (s.2 k) ((putN s2 s.1 r2).2 k) := fun k hk => by
    have := g9 k (by show k < s.1 + 1; omega)
    rw [a0 k hk] at this
    exact this.trans (putN_sm (by omega))
  have e2 : nI (base + ((l1 ++ [q]).length - 1)) + 1 = nI (base + j + 1) := by rw [← e1, nI_1]
  have e3 : base + (l.length - 1) = base + j + 1 + (l2.length - 1) := by rw [hl2]; omega
  rw [e2, e3]
  refine ih l2 (base + j + 1) d τ3 (putN s2 s.1 r2) _ (by omega) hl2n (by omega) N3 (by rw [f3 81 14 (by omega)]; exact m2) (by show s2.1 + _ ≤ _; omega) (by omega) (fun i hi => by rw [f3 94 _ (by omega), f3 95 _ (by omega), f3 96 _ (by omega), f2 94 _ (by omega), f2 95 _ (by omega), f2 96 _ (by omega), f1 94 _ (by omega), f1 95 _ (by omega), f1 96 _ (by omega)]; exact hG2 i hi) (fun z hz => ?_) nd2 (by show lo ≤ s2.1; omega) (fun τ4 r4 ⟨s4, f4, F4, N4, m4, k1, k2, k3, k4, k5, k6, k7, k8, k9⟩ => ?_)
  · obtain ⟨z1, z2, z3, z4⟩ := hE z (mem2 z hz)
    refine ⟨by show z.1 < s2.1; omega, z2, ?_, z4.mono (Nat.le_refl _) (by show s.1 ≤ s2.1; omega) (fun k _ hk => sm3 k hk)⟩
    rw [keep2 z.1 z1 (r2o z hz).2 (r2o z hz).1]; exact z3
  have k1 : s2.1 ≤ s4.1 := k1
  have k2 : s4.1 + 1 ≤ s2.1 + l2.length := k2
  have hm2 : s.1 ∉ l2.map (fun z => z.1) := fun hk => by
    obtain ⟨z, hz, e⟩ := idl _ _ hk
    have := (hE z (mem2 z hz)).1
    omega
  have em4 : s4.2 s.1 = (35, pl, sn, -1, [r2]) := by rw [k8 s.1 (by show s.1 < s2.1; omega) hm2]; exact em3
  have hr4 : r4 ≠ s.1 := by
    rcases k6 with q1 | q1
    · exact fun e => hm2 (e ▸ q1)
    · have q1 : s2.1 ≤ r4 := q1
      omega
  refine rn_hang0 (by omega) N4 (by omega) rfl rfl ⟨by omega, by rw [em4]; show (-1 : Int32) ≠ -2; decide⟩ k3 (Ne.symm hr4) k5 (fun τ5 f5 F5 N5 => h τ5 s.1 ?_)
  have em5 : (putN s4 s.1 r4).2 s.1 = (35, pl, sn, -1, [r2, r4]) := by
    show upR _ s.1 _ s.1 = _
    rw [upR_at, if_pos rfl, em4]; rfl
  refine ⟨putN s4 s.1 r4, fun k j hk => by rw [f5 k j (by omega), f4 k j (by omega), f3 k j (by omega), f2 k j (by omega), f1 k j (by omega)], (((F1.trans F2).trans F3).trans F4).trans F5, N5, by rw [f5 81 14 (by omega)]; exact m4, by show s.1 ≤ s4.1; omega, by show s4.1 + 1 ≤ _; omega, by show s.1 < s4.1; omega, hlo, by rw [em5]; rfl, Or.inr (Nat.le_refl _), ?_, fun k hk hn => ?_, fun k hk => ?_⟩
  · -- the tree
    obtain ⟨mm, ee, emm⟩ := last_of hl2n
    have hcut1 : ∀ z, z ∈ l1 → clo q.2.2.1 ≤ clo z.2.2.1 := by
      intro z hz
      obtain ⟨i, hi, ez⟩ := List.getElem_of_mem hz
      have := hc.2.1 i (by omega)
      rw [eq] at this
      have e4 : l.getD i (0, .leaf, 0, 0) = z := by
        rw [← ez]
        have : (l.take j).getD i (0, .leaf, 0, 0) = l.getD i (0, .leaf, 0, 0) := getD_tk (by omega)
        rw [← this, el1, List.getD_eq_getElem?_getD, List.getElem?_eq_getElem hi]; rfl
      rw [e4] at this; exact this
    have hcut2 : ∀ z, z ∈ mm → ¬ clo z.2.2.1 ≤ clo q.2.2.1 := by
      intro z hz
      obtain ⟨i, hi, ez⟩ := List.getElem_of_mem hz
      have hml : l2.length = mm.length + 1 := by rw [emm]; simp
      have := hc.2.2 (j + 1 + i) (by omega) (by omega)
      rw [eq] at this
      have e4 : l.getD (j + 1 + i) (0, .leaf, 0, 0) = z := by
        rw [← getD_dr, el2, emm, List.getD_eq_getElem?_getD, List.getElem?_append_left hi, List.getElem?_eq_getElem hi, ez]; rfl
      rw [e4] at this; exact this
    have eT : exK (l.map (fun z => z.2)) = two (exK ((l1 ++ [q]).map (fun z => z.2))) sn pl (exK (l2.map (fun z => z.2))) := by
      rw [ecut, emm, hsn, hpl]
      simp only [List.map_append, List.map_cons, List.map_nil]
      exact exK_cut (l := l1.map (fun z => z.2)) (m := mm.map (fun z => z.2)) (q := q.2) (e := ee.2) (fun z hz => by
        rw [List.mem_map] at hz
        obtain ⟨u, hu, e⟩ := hz
        rw [← e]; exact hcut1 u hu) (fun z hz => by
        rw [List.mem_map] at hz
        obtain ⟨u, hu, e⟩ := hz
        rw [← e]; exact hcut2 u hu)
    rw [eT]
    refine ⟨s.1, [], rfl, hlo, by show s.1 < s4.1; omega, by rw [em5]; rfl, ?_, rfl⟩
    rw [em5]
    show FoN _ _ _ (tap _ _) ([r2] ++ [r4])
    refine FoN.app (g7.mono' (Nat.le_refl _) (by show s2.1 ≤ s4.1; omega) (fun c hc => ?_)) (k7.mono' (Nat.le_refl _) (Nat.le_refl _) (fun c hc => ?_))
    · have hcr := prL_mem g7 c hc
      have hcm : c ≠ s.1 := by
        rcases prL_np N2 (by omega) (Nat.le_refl _) g7 (fun y hy => by rw [List.mem_singleton] at hy; subst hy; rw [g5]; decide) c hc with q1 | q1
        · rw [List.mem_singleton] at q1; rw [q1]; exact hr2
        · intro e; rw [e, em2] at q1; exact q1 rfl
      exact ((putN_sm hcm).trans (k9 c hcr.2)).trans (putN_sm hcm)
    · have hcm : c ≠ s.1 := by
        rcases prL_np N4 (by omega) (Nat.le_refl _) k7 (fun y hy => by rw [List.mem_singleton] at hy; subst hy; rw [k5]; decide) c hc with q1 | q1
        · rw [List.mem_singleton] at q1; rw [q1]; exact hr4
        · intro e; rw [e, em4] at q1; exact q1 rfl
      exact putN_sm hcm
  · rw [em, List.mem_append] at hn
    have hn1 : k ∉ (l1 ++ [q]).map (fun z => z.1) := fun q1 => hn (Or.inl q1)
    have hn2 : k ∉ l2.map (fun z => z.1) := fun q1 => hn (Or.inr q1)
    have kr2 : k ≠ r2 := by
      rcases g6 with q1 | q1
      · exact fun e => hn1 (e ▸ q1)
      · have q1 : s.1 + 1 ≤ r2 := q1
        omega
    have kr4 : k ≠ r4 := by
      rcases k6 with q1 | q1
      · exact fun e => hn2 (e ▸ q1)
      · have q1 : s2.1 ≤ r4 := q1
        omega
    rw [putN_n (by omega) kr4, k8 k (by show k < s2.1; omega) hn2]
    exact keep2 k hk hn1 kr2
  · exact ((sm3 k hk).trans (k9 k (by show k < s2.1; omega))).trans (putN_sm (by omega))
theorem sp_split {w : Wd} {lo : Nat} : ∀ (N : Nat) (l : List Sg4) (base d : Nat) (σ : Sg) (s : NS) (Q : Int32 → Sg → Prop), l.length ≤ N → l ≠ [] → N + 3 ≤ d → NM σ 85 s → σ.1 81 14 = nI s.1 → s.1 + l.length ≤ 33000 → base + l.length ≤ 200 → SGm σ base l → (∀ z, z ∈ l → z.1 < s.1 ∧ lo ≤ z.1 ∧ rp (s.2 z.1) = -1 ∧ FoN s.2 lo s.1 z.2.1 [z.1]) → (l.map (fun z => z.1)).Nodup → lo ≤ s.1 → (∀ τ r, SpP σ s lo l τ r → Q (nI r) τ) → OkI w d m_M_split [vR 81, vI (nI base), vI (nI (base + (l.length - 1)))] σ Q := by
  intro N
  induction N with
  | zero => intro l base d σ s Q h1 h2; exact absurd (List.length_eq_zero_iff.mp (by omega)) h2
  | succ N ih =>
    intro l base d σ s Q hl hne hd hN h14 hs hb hG hE hnd hlo h
    have hpos : 0 < l.length := List.length_pos_iff.mpr hne
    have scan : ∀ (f k : Nat) (x3 : Int32), k + f = l.length - 1 → (if k = 0 then x3 = -1 else ∃ j, x3 = nI (base + j) ∧ CutAt l k j) → Bk w d 0 0 m_M_split 0 0 (qi Q) 5 [oR 81, oI (nI base), oI (nI (base + (l.length - 1))), oI x3, oI (nI (base + k))] [] σ := by
      intro f
      induction f with
      | zero =>
        intro k x3 hk hx
        have hk : k = l.length - 1 := by omega
        subst hk
        refine v_M_split_5 _ _ _ _ _ ⟨fun _ => ?_, fun c => absurd (Int32.le_refl _) c⟩
        by_cases k0 : l.length - 1 = 0
        · rw [if_pos k0] at hx
          subst hx
          refine ⟨fun c => absurd c (by decide), fun _ => ⟨vp_in_nI (by omega) (by omega), ?_⟩⟩
          obtain ⟨z, ez⟩ : ∃ z, l = [z] := by
            cases l with
            | nil => exact absurd rfl hne
            | cons z l' =>
              cases l' with
              | nil => exact ⟨z, rfl⟩
              | cons y l' => simp at k0
          subst ez
          have g := (hG 0 (by simp)).1
          rw [Nat.add_zero] at g
          rw [nI_clamp (by omega), g]
          obtain ⟨z1, z2, z3, z4⟩ := hE z (by simp)
          exact h σ z.1 ⟨s, fun _ _ _ => rfl, Fr.rfl', hN, h14, Nat.le_refl _, by simp, z1, z2, z3, Or.inl (by simp), z4, fun _ _ _ => rfl, fun _ _ => ⟨rfl, rfl⟩⟩
        · rw [if_neg k0] at hx
          obtain ⟨j, ex, hc⟩ := hx
          have hj := hc.1
          subst ex
          refine ⟨fun _ => ⟨vp_in_nI (by omega) (by omega), vp_in_nI (by omega) (by omega), ?_⟩, fun c => absurd (Int32.not_lt.mp (nI_pos (by omega))) c⟩
          rw [nI_clamp (by omega), (hG j (by omega)).2.1, (hG j (by omega)).2.2]
          exact sp_node ih hl (by omega) hN h14 hs hb hG hE hnd hlo (by omega) hc h rfl rfl
      | succ f ihf =>
        intro k x3 hk hx
        refine v_M_split_5 _ _ _ _ _ ⟨fun c => ?_, fun _ => ?_⟩
        · rw [nI_leI (by omega) (by omega)] at c; omega
        · rw [nI_1]
          by_cases k0 : k = 0
          · rw [if_pos k0] at hx
            subst hx k0
            refine ⟨fun _ => ?_, fun c => absurd (by decide) c⟩
            refine ihf 1 _ (by omega) ?_
            rw [if_neg (by decide)]
            exact ⟨0, rfl, by omega, fun i hi => absurd hi (by omega), fun i h1 h2 => absurd h1 (by omega)⟩
          · rw [if_neg k0] at hx
            obtain ⟨j, ex, hc⟩ := hx
            have hj := hc.1
            subst ex
            refine ⟨fun c => absurd c (nI_pos (by omega)), fun _ => ⟨vp_in_nI (by omega) (by omega), rm_clo (by omega) ⟨vp_in_nI (by omega) (by omega), rm_clo (by omega) ?_⟩⟩⟩
            rw [nI_clamp (by omega), nI_clamp (by omega), (hG k (by omega)).2.1, (hG j (by omega)).2.1]
            refine ⟨fun c => ihf (k + 1) _ (by omega) ?_, fun c => ihf (k + 1) _ (by omega) ?_⟩
            · rw [if_neg (by omega)]
              refine ⟨j, rfl, by omega, hc.2.1, fun i h1 h2 => ?_⟩
              by_cases e : i = k
              · subst e; exact Int32.not_le.mpr c
              · exact hc.2.2 i h1 (by omega)
            · rw [if_neg (by omega)]
              have c := Int32.not_lt.mp c
              refine ⟨k, rfl, by omega, fun i hi => ?_, fun i h1 h2 => absurd h1 (by omega)⟩
              rcases Nat.lt_trichotomy i j with q | q | q
              · exact Int32.le_trans c (hc.2.1 i q)
              · subst q; exact c
              · exact Int32.le_trans c (Int32.le_of_lt (Int32.not_le.mp (hc.2.2 i q hi)))
    exact v_M_split _ _ _ (by omega) (scan (l.length - 1) 0 (-1) (by omega) (by rw [if_pos rfl]))
