/-! 131: the component judges: parts of blocks, times, names -/
/-- names of variables and blocks -/
def JN (N : List (List Int32)) (s : JS) : Prop := (∀ v, v < (jV s).length → ∃ j, j < N.length ∧ vN (gR s v) = nI j) ∧ (∀ b, b < (jB s).length → sdI N (bA (gB s b)) < 0) ∧ (∀ b v v', b < (jB s).length → bF (gB s b) ≤ v → v < v' → v' < vEnd s b → vN (gR s v) ≠ vN (gR s v'))
theorem VO.nT {s : JS} {b : Nat} {x : VR} (h : VO s b x) : vT x ≠ -1 := by
  rcases h.1 with ⟨_, h | h | h⟩ | ⟨_, j, h0, e, _⟩
  · rw [h]; decide
  · rw [h]; decide
  · rw [h]; decide
  · rw [e]; exact nI_nm1 (by omega)
theorem VO.pl {s : JS} {b : Nat} {x : VR} (h : VO s b x) : vP x < 1536 ∧ (0 ≤ vP x ∨ vP x = -1) := by
  rcases h.2.2.1 with ⟨h, _⟩ | ⟨a, i, ha, hi, e, _⟩
  · rw [h]; decide
  · have : 256 * a + i < 1536 := by split at hi <;> omega
    rw [e, show (1536 : Int32) = nI 1536 from rfl, nI_ltI (by omega) (by decide)]
    exact ⟨this, Or.inl (nI_pos' (by omega))⟩
theorem JI.laid {s : JS} (h : JI s 0) (hb : jB s ≠ []) : Laid s := fun v hv h1 => by
  have := (h.last hb h1 (by omega)).1
  exact ⟨this.nT, this.pl⟩
def tbA : List Int32 := match extT[7]? with | some x => x.2.2.2 | none => []
theorem rd_tb {σ : Sg} {k : Nat} : rdI σ 1007 k = tbA.getD k 0 := rfl
/-- the first line of the table that is right -/
def tbS (t p i : Int32) : Nat → Nat → Option (Int32 × Int32)
  | 0, _ => none
  | f + 1, r => if tbA.getD (5 * r) 0 = t then (if tbA.getD (5 * r + 1) 0 = p then (if tbA.getD (5 * r + 4) 0 = i then some (tbA.getD (5 * r + 2) 0, tbA.getD (5 * r + 3) 0) else tbS t p i f (r + 1)) else tbS t p i f (r + 1)) else tbS t p i f (r + 1)
theorem tbS_all : (List.range 9).all (fun t => (List.range 16).all (fun j => [true, false].all (fun i => decide (tbS (nI t) (nI j - 1) (b2 i) 32 0 = ((pinL t i).find? (fun p => decide (nI j - 1 = nI p.1))).map (fun p => (p.2.1, nI p.2.2)))))) = true := by decide +kernel
theorem ptI_in {N : List (List Int32)} {v : Int32} : ∃ j, j < 16 ∧ ptI N v = nI j - 1 := by
  unfold ptI
  rcases idxW_in (r := N.getD (Int32.toNatClampNeg v) []) (N := ptsW) (k := 0) with h | ⟨j, _, h2, h3, _⟩
  · exact ⟨0, by decide, by rw [h]; decide⟩
  · have : ptsW.length = 15 := by decide +kernel
    exact ⟨j + 1, by omega, by rw [h3, nI_pred]⟩
theorem tbS_pin {N : List (List Int32)} {s : JS} {t : Nat} {name : Int32} {i : Bool} (ht : t < 9) : tbS (nI t) (ptI N name) (b2 i) 32 0 = (pinS N s (nI t) name i).map (fun p => (p.1, nI p.2)) := by
  obtain ⟨j, hj, e⟩ := ptI_in (N := N) (v := name)
  have := List.all_eq_true.mp tbS_all t (List.mem_range.mpr ht)
  have := List.all_eq_true.mp this j (List.mem_range.mpr hj)
  have := of_decide_eq_true (List.all_eq_true.mp this i (by cases i <;> simp))
  have t9 : nI t < 9 := by rw [show (9 : Int32) = nI 9 from rfl, nI_ltI (by omega) (by decide)]; exact ht
  unfold pinS
  rw [if_pos t9, nI_clamp (by omega), e, this, Option.map_map]
  rfl
section
variable {w : Wd} {d : Nat} {g : Nat → NI} {N : List (List Int32)} {M : Nat} {σ0 σ : Sg} {s : JS} {E : Nat} {tk : Nat → Bool} {ft : Option JE}
theorem b2_cond {i : Bool} {x y : Int32} : (x = if i = true then 1 else 0) ↔ x = b2 i := by cases i <;> exact Iff.rfl
theorem jr_part {Q : Int32 → Sg → Prop} {t f : Nat} {name x1 x3 : Int32} {i : Bool} (hd : 1 ≤ d) (hS : JW g N M σ0 σ s E tk) (hf : FT σ ft) (hI : JI s f) (hN : JN N s) (ht : t < 9 ∨ 9 ≤ t ∧ t - 9 + 1 < (jB s).length) (hn : ∃ j, j < N.length ∧ name = nI j) (hNl : N.length ≤ 1400) (h1 : x1 = nI t) (h3 : x3 = b2 i)
    (h : ∀ σ' r, JW g N M σ0 σ' s E tk → FT σ' ft → (pinS N s (nI t) name i = none → r = -1) → (∀ p, pinS N s (nI t) name i = some p → r = nI p.2 ∧ σ'.1 21 29 = p.1) → (∀ k j, ¬ (k = 21 ∧ j = 29) → σ'.1 k j = σ.1 k j) → Q r σ') : OkI w d m_Rules_part [vR 21, vI x1, vI name, vI x3] σ Q := by
  subst h1 h3
  have fini : ∀ (p : Int32 × Nat), pinS N s (nI t) name i = some p → ∀ (r y : Int32), r = nI p.2 → y = p.1 → Q r (wI σ 21 29 y) := by
    intro p hp r y hr hy
    refine h _ _ hS.w0 (hf.wr (by omega)) (fun q => by rw [hp] at q; cases q) (fun p' q => ?_) (fun k j q => by rw [wI_1, if_neg q])
    rw [hp] at q; cases q
    exact ⟨hr, by rw [wI_1, if_pos ⟨rfl, rfl⟩]; exact hy⟩
  have none_ : pinS N s (nI t) name i = none → Q (-1) σ := fun q => h σ _ hS hf (fun _ => rfl) (fun p r => by rw [q] at r; cases r) (fun _ _ _ => rfl)
  obtain ⟨nj, hnj, en⟩ := hn
  by_cases h9 : t < 9
  · -- a standard block
    have t9 : ¬ 9 ≤ nI t := by rw [show (9 : Int32) = nI 9 from rfl, nI_leI (by decide) (by omega)]; omega
    have ep := (hS.2.2.2.2.2.1 nj hnj).2
    have hin : vp_in name 16384 := by rw [en]; exact vp_in_nI (by omega) (by omega)
    have eT := tbS_pin (N := N) (s := s) (name := name) (i := i) h9
    have loop : ∀ (f r : Nat), r + f = 32 → tbS (nI t) (ptI N name) (b2 i) f r = (pinS N s (nI t) name i).map (fun p => (p.1, nI p.2)) → Bk w d 0 0 m_Rules_part 0 0 (qi Q) 9 [oR 21, oI (nI t), oI name, oI (b2 i), oI (nI (5 * r)), none] [] σ := by
      intro f
      induction f with
      | zero =>
        intro r hr e
        refine v_Rules_part_9 _ _ _ _ _ ⟨fun _ => none_ ?_, fun q => absurd ?_ q⟩
        · cases hp : pinS N s (nI t) name i with
          | none => rfl
          | some p => rw [hp] at e; cases e
        · rw [show Int32.ofNat 160 = nI 160 from rfl, nI_leI (by decide) (by omega)]; omega
      | succ f ih =>
        intro r hr e
        have stp : nI (5 * r) + 5 = nI (5 * (r + 1)) := by rw [show (5 : Int32) = nI 5 from rfl, nI_add]; congr 1
        have c1 : nI (5 * r) + 1 = nI (5 * r + 1) := nI_1 _
        have c2 : nI (5 * r) + 2 = nI (5 * r + 2) := nI_a2 _
        have c3 : nI (5 * r) + 3 = nI (5 * r + 3) := nI_a3 _
        have c4 : nI (5 * r) + 4 = nI (5 * r + 4) := nI_add _ 4
        refine v_Rules_part_9 _ _ _ _ _ ⟨fun q => absurd q ?_, fun _ => ⟨vp_in_nI (by omega) (by omega), ?_⟩⟩
        · rw [show Int32.ofNat 160 = nI 160 from rfl, nI_leI (by decide) (by omega)]; omega
        · rw [stp, c1, c2, c3, c4, nI_clamp (by omega), nI_clamp (by omega), nI_clamp (by omega), nI_clamp (by omega), nI_clamp (by omega), rd_tb, rd_tb, rd_tb, rd_tb, rd_tb, en, nI_clamp (by omega), ep, ← en]
          rw [tbS] at e
          have nx : tbS (nI t) (ptI N name) (b2 i) f (r + 1) = (pinS N s (nI t) name i).map (fun p => (p.1, nI p.2)) → Bk w d 0 0 m_Rules_part 0 0 (qi Q) 9 [oR 21, oI (nI t), oI name, oI (b2 i), oI (nI (5 * (r + 1))), none] [] σ := ih (r + 1) (by omega)
          have win : some (tbA.getD (5 * r + 2) 0, tbA.getD (5 * r + 3) 0) = (pinS N s (nI t) name i).map (fun p => (p.1, nI p.2)) → Q (tbA.getD (5 * r + 3) 0) (wI σ 21 29 (tbA.getD (5 * r + 2) 0)) := by
            intro q
            cases hp : pinS N s (nI t) name i with
            | none => rw [hp] at q; cases q
            | some p =>
              rw [hp] at q
              have q : (tbA.getD (5 * r + 2) 0, tbA.getD (5 * r + 3) 0) = (p.1, nI p.2) := Option.some.inj q
              exact fini p hp _ _ (congrArg Prod.snd q) (congrArg Prod.fst q)
          refine ⟨fun q => nx (by rw [if_neg q] at e; exact e), fun q => ?_⟩
          rw [if_pos q] at e
          refine ⟨vp_in_nI (by omega) (by omega), hin, fun q2 => nx (by rw [if_neg q2] at e; exact e), fun q2 => ?_⟩
          rw [if_pos q2] at e
          refine ⟨vp_in_nI (by omega) (by omega), ?_⟩
          cases i with
          | false =>
            refine ⟨fun _ => ⟨fun q3 => nx (by rw [if_neg (show ¬ tbA.getD (5 * r + 4) 0 = b2 false from q3)] at e; exact e), fun q3 => ⟨vp_in_nI (by omega) (by omega), vp_in_nI (by omega) (by omega), win (by rw [if_pos (show tbA.getD (5 * r + 4) 0 = b2 false from q3)] at e; exact e)⟩⟩, fun q3 => absurd rfl q3⟩
          | true =>
            refine ⟨fun q3 => absurd q3 (by decide), fun _ => ⟨fun q3 => nx (by rw [if_neg (show ¬ tbA.getD (5 * r + 4) 0 = b2 true from q3)] at e; exact e), fun q3 => ⟨vp_in_nI (by omega) (by omega), vp_in_nI (by omega) (by omega), win (by rw [if_pos (show tbA.getD (5 * r + 4) 0 = b2 true from q3)] at e; exact e)⟩⟩⟩
    exact v_Rules_part _ _ _ _ hd ⟨fun q => absurd q t9, fun _ => loop 32 0 rfl eT⟩
  · -- one of the text
    obtain ⟨h9', hbl⟩ := ht.resolve_left h9
    have hl := hS.2.1.2.1
    have hvl := hS.2.2.1.2.1
    have t9 : 9 ≤ nI t := by rw [show (9 : Int32) = nI 9 from rfl, nI_leI (by decide) (by omega)]; omega
    have es : nI t - 9 = nI (t - 9) := by
      rw [show t = t - 9 + 9 by omega, show nI (t - 9 + 9) = nI (t - 9) + 9 from (nI_add _ 9).symm, Int32.add_sub_cancel, Nat.add_sub_cancel]
    generalize eb : t - 9 = b at *
    have B0 := hS.2.1.2.2 b (by omega)
    have B1 := hS.2.1.2.2 (b + 1) hbl
    have I2 := hI.2.1 b (by omega)
    have eE : vEnd s b = bF (gB s (b + 1)) := vEnd_in hbl
    have hEf : vEnd s b + f ≤ (jV s).length := (I2.2.2.2.2.1 hbl).2
    have V : ∀ v, bF (gB s b) ≤ v → v < vEnd s b → σ.1 28 v = vN (gR s v) ∧ σ.1 30 v = vT (gR s v) ∧ σ.1 31 v = vE (gR s v) ∧ σ.1 32 v = nI (vC (gR s v)) := by
      intro v q1 q2
      have X := hS.2.2.1.2.2 v (by omega)
      have O := hI.2.2.2.1 b v (by omega) q1 q2 (by omega)
      exact ⟨X.1, X.2.2.1, (X.2.2.2.2 O.nT).1, (X.2.2.2.2 O.nT).2.1⟩
    have eP : pinS N s (nI t) name i = match vfd (jV s) name (vEnd s b - bF (gB s b)) (bF (gB s b)) with | none => none | some v => if vE (gR s v) = (if i = true then 1 else 2) then some (vT (gR s v), vC (gR s v)) else none := by
      have : ¬ nI t < 9 := Int32.not_lt.mpr t9
      unfold pinS
      rw [if_neg this, nI_clamp (by omega), eb]; rfl
    have noM : ∀ (f v : Nat), (∀ j, v ≤ j → j < v + f → vN (gR s j) ≠ name) → vfd (jV s) name f v = none := by
      intro f
      induction f with
      | zero => intro v _; rfl
      | succ f ih =>
        intro v hv
        rw [vfd, if_neg (hv v (Nat.le_refl _) (by omega))]
        exact ih (v + 1) (fun j q1 q2 => hv j (by omega) (by omega))
    have loop : ∀ (f v : Nat), v + f = vEnd s b → bF (gB s b) ≤ v → (pinS N s (nI t) name i = match vfd (jV s) name f v with | none => none | some v => if vE (gR s v) = (if i = true then 1 else 2) then some (vT (gR s v), vC (gR s v)) else none) → Bk w d 0 0 m_Rules_part 0 0 (qi Q) 109 [oR 21, none, oI name, oI (b2 i), oI (nI b), oI (nI v)] [] σ := by
      intro f
      induction f with
      | zero =>
        intro v hv hv2 e
        refine v_Rules_part_109 _ _ _ _ _ ?_
        rw [nI_1, nI_clamp (by omega), B1.2.1]
        refine ⟨vp_in_nI (by omega) (by omega), fun _ => none_ e, fun q => absurd ?_ q⟩
        show nI (bF (gB s (b + 1))) ≤ nI v
        rw [nI_leI (by omega) (by omega)]; omega
      | succ f ih =>
        intro v hv hv2 e
        have X := V v hv2 (by omega)
        have vin : vp_in (nI v) 16384 := vp_in_nI (by omega) (by omega)
        refine v_Rules_part_109 _ _ _ _ _ ?_
        rw [nI_1, nI_clamp (by omega), B1.2.1, nI_clamp (by omega), nI_1, X.1, X.2.1, X.2.2.1, X.2.2.2]
        refine ⟨vp_in_nI (by omega) (by omega), fun q => absurd q ?_, fun _ => ⟨vin, fun q => ih (v + 1) (by omega) (by omega) ?_, fun q => ⟨vin, ?_⟩⟩⟩
        · show ¬ nI (bF (gB s (b + 1))) ≤ nI v
          rw [nI_leI (by omega) (by omega)]; omega
        · rw [vfd, if_neg q] at e; exact e
        · rw [vfd, if_pos q] at e
          have rest : ¬ vE (gR s v) = (if i = true then 1 else 2) → Bk w d 0 0 m_Rules_part 0 0 (qi Q) 109 [oR 21, none, oI name, oI (b2 i), oI (nI b), oI (nI (v + 1))] [] σ := by
            intro q2
            refine ih (v + 1) (by omega) (by omega) ?_
            dsimp only at e
            rw [if_neg q2] at e
            rw [e, noM f (v + 1) (fun j q3 q4 => ?_)]
            have := hN.2.2 b v j (by omega) hv2 (by omega) (by omega)
            rw [q] at this; exact Ne.symm this
          have won : vE (gR s v) = (if i = true then 1 else 2) → Q (nI (vC (gR s v))) (wI σ 21 29 (vT (gR s v))) := by
            intro q2
            dsimp only at e
            rw [if_pos q2] at e
            exact fini _ e _ _ rfl rfl
          cases i with
          | false => exact ⟨fun _ => ⟨fun q2 => rest q2, fun q2 => ⟨vin, vin, won q2⟩⟩, fun q2 => absurd rfl q2⟩
          | true => exact ⟨fun q2 => absurd q2 (by decide), fun _ => ⟨fun q2 => rest q2, fun q2 => ⟨vin, vin, won q2⟩⟩⟩
    refine v_Rules_part _ _ _ _ hd ⟨fun _ => ?_, fun q => absurd t9 q⟩
    rw [es, nI_clamp (by omega), B0.2.1]
    exact ⟨vp_in_nI (by omega) (by omega), loop (vEnd s b - bF (gB s b)) (bF (gB s b)) (by have := I2.2.2.1; omega) (Nat.le_refl _) eP⟩
end
theorem pin_std : (List.range 9).all (fun t => [true, false].all (fun i => (pinL t i).all (fun q => decide (q.2.2 < 10)))) = true := by decide +kernel
theorem vfd_rg {va : List VR} {name : Int32} {f v j : Nat} (h : vfd va name f v = some j) : v ≤ j ∧ j < v + f := ⟨(vfd_lt h).1, (vfd_lt h).2.1⟩
theorem VO.cell {s : JS} {b C : Nat} {x : VR} (h : VO s b x) (hC : vP x = -1 → vC x + vM x ≤ C) (h2 : 1200 ≤ C) : vC x ≤ C := by
  rcases h.2.2.1 with ⟨p, _⟩ | ⟨a, i, ha, hi, _, _, _, e, _⟩
  · have := hC p; omega
  · rw [e]; unfold plC; split at hi <;> split <;> omega
theorem pin_lt {N : List (List Int32)} {s : JS} {j f : Nat} {name : Int32} {i : Bool} {p : Int32 × Nat} (hI : JI s f) (hC : ∀ b, b < (jB s).length → bC (gB s b) ≤ 20000) (hj0 : j < 2 ^ 30) (hj : j < 9 ∨ 9 ≤ j ∧ j - 9 + 1 < (jB s).length) (h : pinS N s (nI j) name i = some p) : p.2 ≤ 20000 := by
  unfold pinS at h
  by_cases h9 : j < 9
  · rw [if_pos (by rw [show (9 : Int32) = nI 9 from rfl, nI_ltI (by omega) (by decide)]; exact h9), nI_clamp (by omega)] at h
    have a1 := List.all_eq_true.mp pin_std j (List.mem_range.mpr h9)
    have a2 := List.all_eq_true.mp a1 i (by cases i <;> simp)
    cases hfd : (pinL j i).find? (fun p => decide (ptI N name = nI p.1)) with
    | none => rw [hfd] at h; cases h
    | some q =>
      rw [hfd] at h
      have e : q.2 = p := Option.some.inj h
      have := of_decide_eq_true (List.all_eq_true.mp a2 q (List.mem_of_find?_eq_some hfd))
      rw [← e]; omega
  · obtain ⟨h9', hb⟩ := hj.resolve_left h9
    rw [if_neg (by rw [show (9 : Int32) = nI 9 from rfl, nI_ltI (by omega) (by decide)]; omega), nI_clamp (by omega)] at h
    have I2 := hI.2.1 (j - 9) (by omega)
    cases hv : vfd (jV s) name (vEnd s (j - 9) - bF ((jB s).getD (j - 9) bl0)) (bF ((jB s).getD (j - 9) bl0)) with
    | none => rw [hv] at h; cases h
    | some v =>
      rw [hv] at h
      dsimp only at h
      have r := vfd_rg hv
      have r1 : bF (gB s (j - 9)) ≤ v := r.1
      have r2 : v < vEnd s (j - 9) := by have := I2.2.2.1; have := r.2; unfold gB at *; omega
      have r3 : v + f < (jV s).length := by have := (I2.2.2.2.2.1 hb).2; omega
      by_cases hE : vE (gR s v) = (if i = true then 1 else 2)
      · rw [if_pos hE] at h
        have e : (vT (gR s v), vC (gR s v)) = p := Option.some.inj h
        have := hC (j - 9) (by omega)
        rw [← e]
        exact (hI.2.2.2.1 (j - 9) v (by omega) r1 r2 r3).cell (fun q => by have := hI.2.2.2.2.2.2.2 (j - 9) v (by omega) r1 r2 r3 q; omega) (by omega)
      · rw [if_neg hE] at h; cases h
