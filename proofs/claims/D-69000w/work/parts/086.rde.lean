/-! 086: the component reads expressions: nodes that hang on nothing yet, signs that wait -/
/-- a tree of its own: its root c hangs on nothing, all its nodes are new -/
def Exn (s : NS) (c : Nat) (o : Bool) (t : Tr) (s' : NS) : Prop := s.1 ≤ c ∧ c < s'.1 ∧ (∀ k, k < s.1 → s'.2 k = s.2 k) ∧ rp (s'.2 c) = -1 ∧ (o = true → FoN s'.2 s.1 s'.1 t [c])
section
variable {w : Wd} {d n : Nat} {tx : Nat → Int32} {σ0 σ : Sg} {x : RS} {s : NS} {sg : List (Int32 × Int32)} {op : List Nat} {a b b' p : Nat} {x1 : Int32}
theorem Exn.le {s' : NS} {c : Nat} {o : Bool} {t : Tr} (h : Exn s c o t s') : s.1 ≤ s'.1 := by have := h.1; have := h.2.1; omega
theorem Exn.any {s' : NS} {c : Nat} {o o' : Bool} {t u : Tr} (h : Exn s c o t s') (ho : o' = false) : Exn s c o' u s' := ⟨h.1, h.2.1, h.2.2.1, h.2.2.2.1, fun q => by rw [ho] at q; exact absurd q (by decide)⟩
theorem Exn.weak {s' : NS} {c : Nat} {o o' : Bool} {t : Tr} (h : Exn s c o t s') (ho : o' = true → o = true) : Exn s c o' t s' := ⟨h.1, h.2.1, h.2.2.1, h.2.2.2.1, fun q => h.2.2.2.2 (ho q)⟩
/-- it comes below p -/
theorem Exn.put {s' : NS} {c p : Nat} {o : Bool} {t : Tr} (hp : p < s.1) (h : Exn s c o t s') : Fst s p o t (putN s' p c) := by
  obtain ⟨h1, h2, h3, h4, h5⟩ := h
  refine ⟨[c], ⟨by show s.1 ≤ s'.1; omega, fun k hk hn => by rw [putN_n hn (by omega)]; exact h3 k hk, ?_⟩, fun o => (h5 o).mono (Nat.le_refl _) (Nat.le_refl _) (fun k hk hk2 => ?_)⟩
  · show upR _ p _ p = _
    rw [upR_at, if_pos rfl, h3 p hp]
  · by_cases e : k = c
    · subst e
      have : (putN s' p k).2 k = ((s'.2 k).1, (s'.2 k).2.1, (s'.2 k).2.2.1, nI p, rc (s'.2 k)) := by
        show upR _ p _ k = _
        rw [upR_at, if_neg (by omega), upR_at, if_pos rfl]
      rw [this]; exact ⟨rfl, rfl⟩
    · rw [putN_n (by omega) e]; exact ⟨rfl, rfl⟩
/-- a node without children -/
theorem Exn.leaf {k q v q' v' : Int32} {o : Bool} (h : o = true → q = q' ∧ v = v') : Exn s s.1 o (tN (k, q', v') .leaf .leaf) (addN s k q v) := by
  refine ⟨Nat.le_refl _, Nat.lt_succ_self _, fun j hj => addN_lt hj, by rw [addN_top]; rfl, fun ho => ⟨s.1, [], rfl, Nat.le_refl _, Nat.lt_succ_self _, ?_, ?_, rfl⟩⟩
  · rw [addN_top, ← (h ho).1, ← (h ho).2]; rfl
  · rw [addN_top]; rfl
/-- a node and what came below it -/
theorem Exn.node {s2 : NS} {k q v q' v' : Int32} {o : Bool} {t : Tr} (h : Fst (addN s k q v) s.1 o t s2) (hq : o = true → q = q' ∧ v = v') : Exn s s.1 o (tN (k, q', v') t .leaf) s2 := by
  obtain ⟨L, e, f⟩ := h
  have b1 : s.1 + 1 ≤ s2.1 := e.1
  have e2 : s2.2 s.1 = (k, q, v, -1, L) := by rw [e.2.2, addN_top]; rfl
  refine ⟨Nat.le_refl _, by omega, fun j hj => by rw [e.2.1 j (by show j < s.1 + 1; omega) (by omega)]; exact addN_lt hj, by rw [e2]; rfl, fun ho => ⟨s.1, [], rfl, Nat.le_refl _, by omega, ?_, ?_, rfl⟩⟩
  · rw [e2, ← (hq ho).1, ← (hq ho).2]; rfl
  · rw [e2]
    exact (f ho).mono (by show s.1 ≤ s.1 + 1; omega) (Nat.le_refl _) (fun k _ _ => ⟨rfl, rfl⟩)
theorem Exn.liv {s' : NS} {c p : Nat} {o : Bool} {t : Tr} (h : Exn s c o t s') (hp : Liv s p) : Liv s' p := ⟨Nat.lt_of_lt_of_le hp.1 h.le, by rw [h.2.2.1 p hp.1]; exact hp.2⟩
def PoE (tx : Nat → Int32) (n : Nat) (σ0 : Sg) (s : NS) (sg : List (Int32 × Int32)) (op : List Nat) (r : RS × Tr) (a b : Nat) (v : Int32) (σ' : Sg) : Prop :=
  ∃ s' c, v = nI c ∧ StC tx n σ0 σ' r.1 s' sg op a b ∧ Exn s c (isO r.1) r.2 s'
/-- an expression's node comes below p -/
theorem nc_putE {Q : Sg → Prop} {y : RS} {s' : NS} {c : Nat} {o : Bool} {t : Tr} {x2 : Int32} (hd : 1 ≤ d) (hS : StC tx n σ0 σ y s' sg op a b) (hab : a ≤ b) (hb : b ≤ 33500) (h1 : x1 = nI p) (h2 : x2 = nI c) (hp : Liv s p) (hop : ∀ c, c ∈ op → c < s.1) (hE : Exn s c o t s') (h : ∀ σ', StC tx n σ0 σ' y (putN s' p c) sg op a b → Fst s p o t (putN s' p c) → Q σ') : OkV w d m_Nodes_put [vR 7, vI x1, vI x2] σ Q := by
  have h3 := hE.1
  have h4 := hp.1
  exact nc_put hd hS hab hb h1 h2 (hE.liv hp) hE.2.1 (by omega) hE.2.2.2.1 (fun q => by have := hop c q; omega) (fun σ' hσ' => h σ' hσ' (hE.put hp.1))
/-- the state told anew, nodes and stacks changed -/
theorem StC.re {τ : Sg} {s' : NS} {sg' : List (Int32 × Int32)} {op' : List Nat} {j : Nat} (hS : StC tx n σ0 σ x s sg op a b) (hF : Fr rdF σ τ) (hk : ∀ k i, (k ≤ 6 ∨ (k = 17 ∧ i ≤ 8)) → τ.1 k i = σ.1 k i) (hN : NM τ 8 s') (h79 : τ.1 7 9 = nI s'.1) (hsk : SkC τ sg' op') (hor : ∀ c, c ∈ op' → c < s'.1 ∧ rp (s'.2 c) = -1) (hnd : op'.Nodup) (hj : s'.1 ≤ s.1 + j) : StC tx n σ0 τ x s' sg' op' (a + j) (b + j) := by
  obtain ⟨g1, g2, g3, g4, g5, g6, g7, g8, g9⟩ := hS
  refine ⟨g1.trans hF, ⟨g2.1, by rw [hk 5 3 (by omega)]; exact g2.2.1, fun i hi => by rw [hk 1 i (by omega)]; exact g2.2.2 i hi⟩, g3, hN, h79, hsk, hor, hnd, ?_⟩
  cases x with
  | error e => exact ⟨by rw [hk 17 2 (by omega)]; exact g9.1, g9.2.1, by rw [hk 17 3 (by omega)]; exact g9.2.2.1, by have := g9.2.2.2; omega⟩
  | ok q =>
    obtain ⟨i1, i2, i3, i4, i5, i6, i7, i8, i9, i10, i11⟩ := g9
    exact ⟨by rw [hk 17 2 (by omega)]; exact i1, by rw [hk 5 8 (by omega)]; exact i2, by rw [hk 5 6 (by omega)]; exact i3, by rw [hk 5 5 (by omega)]; exact i4, fun r => by rw [hk 5 7 (by omega)]; exact i5 r, by rw [hk 5 4 (by omega)]; exact i6, i7.cg (fun j => hk 2 j (by omega)) (fun j => hk 3 j (by omega)) (fun j => hk 4 j (by omega)), by rw [hk 17 4 (by omega)]; exact i8, by rw [hk 17 5 (by omega)]; exact i9, i10, by omega⟩
theorem nc_add0 {Q : Int32 → Sg → Prop} {k p v : Int32} (hd : 1 ≤ d) (hN : NM σ 8 s) (h79 : σ.1 7 9 = nI s.1) (hm : s.1 < 33500) (h : ∀ τ, (∀ k j, ¬ (k = 7 ∨ (8 ≤ k ∧ k ≤ 14)) → τ.1 k j = σ.1 k j) → Fr rdF σ τ → NM τ 8 (addN s k p v) → τ.1 7 9 = nI (s.1 + 1) → Q (nI s.1) τ) : OkI w d m_Nodes_add [vR 7, vI k, vI p, vI v] σ Q := by
  refine v_Nodes_add _ _ _ _ hd ?_
  rw [h79, nI_clamp (by omega), nI_1]
  have hin : vp_in (nI s.1) 33500 := vp_in_nI (by omega) (by omega)
  refine ⟨hin, hin, hin, hin, hin, hin, hin, h _ (fun k j hk => ?_) ((((((((Fr.rfl'.wI rfl).wI rfl).wI rfl).wI rfl).wI rfl).wI rfl).wI rfl).wI rfl) ?_ (by simp [wI_1])⟩
  · simp only [wI_1]
    rw [if_neg (by omega), if_neg (by omega), if_neg (by omega), if_neg (by omega), if_neg (by omega), if_neg (by omega), if_neg (by omega), if_neg (by omega)]
  · refine hN.add (by omega) (by simp [wI_1]) (by simp [wI_1]) (by simp [wI_1]) (by simp [wI_1]) (by simp [wI_1]) (by simp [wI_1]) (by simp [wI_1]) (fun i hi j hj => ?_)
    simp only [wI_1]
    rw [if_neg (by omega), if_neg (by omega), if_neg (by omega), if_neg (by omega), if_neg (by omega), if_neg (by omega), if_neg (by omega), if_neg (by omega)]
theorem nc_put0 {Q : Sg → Prop} {p c : Nat} {x1 x2 : Int32} (hd : 1 ≤ d) (g4 : NM σ 8 s) (hm : s.1 ≤ 33500) (h1 : x1 = nI p) (h2 : x2 = nI c) (hp : Liv s p) (hc : c < s.1) (hpc : p ≠ c) (hco : rp (s.2 c) = -1) (h : ∀ τ, (∀ k j, ¬ (11 ≤ k ∧ k ≤ 14) → τ.1 k j = σ.1 k j) → Fr rdF σ τ → NM τ 8 (putN s p c) → Q τ) : OkV w d m_Nodes_put [vR 7, vI x1, vI x2] σ Q := by
  subst h1 h2
  have hpl := hp.2
  have hp := hp.1
  refine v_Nodes_put _ _ _ hd ?_
  rw [nI_clamp (by omega), nI_clamp (by omega)]
  obtain ⟨p0, p1, p2, p3, p4, p5, p6, p7, p8, p9⟩ := g4 p hp hpl
  have hinp : vp_in (nI p) 33500 := vp_in_nI (by omega) (by omega)
  have hinc : vp_in (nI c) 33500 := vp_in_nI (by omega) (by omega)
  have hd4 : hdI (rc (s.2 p)) = -1 ↔ rc (s.2 p) = [] := hdI_neg (fun e he => by have := (p8 e he).1; omega)
  have e12 : σ.1 12 p = hdI (rc (s.2 p)) := p4
  have e13 : σ.1 13 p = laI (rc (s.2 p)) := p5
  rw [e12, e13, hd4]
  refine ⟨hinc, hinp, fun hne => ⟨hinp, ?_, hinp, ?_⟩, fun he => ⟨hinp, hinp, ?_⟩⟩
  · obtain ⟨l, hl, el⟩ := laI_mem hne
    have := (p8 l hl).1
    rw [el]; exact vp_in_nI (by omega) (by omega)
  · obtain ⟨l, hl, el⟩ := laI_mem hne
    have hlm := (p8 l hl).1
    rw [el, nI_clamp (by omega)]
    refine h _ (fun k j hk => by simp only [wI_1]; rw [if_neg (by omega), if_neg (by omega), if_neg (by omega)]) (((Fr.rfl'.wI rfl).wI rfl).wI rfl) ?_
    have hiff : ∀ e, e < s.1 → (nI e = laI (rc (s.2 p)) ↔ e = l) := fun e he => by rw [el]; exact nI_eq (by omega) (by omega)
    refine g4.put (by omega) hp hc hpc hpl hco (by simp [wI_1]) (by simp [wI_1, hne]; exact e12) (by simp [wI_1]) (fun e he hes => ?_) (fun j _ => by simp [wI_1]) (fun j _ => by simp [wI_1]) (fun j _ => by simp [wI_1]) (fun j _ hj => by simp [wI_1, hj]) (fun j _ hj => by simp [wI_1, hj]) (fun j _ hj => by simp [wI_1, hj]) (fun e hes he => ?_)
    · rw [(hiff e hes).mp he]; simp [wI_1]
    · have : ¬ e = l := fun q => he ((hiff e hes).mpr q)
      simp [wI_1, this]
  · refine h _ (fun k j hk => by simp only [wI_1]; rw [if_neg (by omega), if_neg (by omega), if_neg (by omega)]) (((Fr.rfl'.wI rfl).wI rfl).wI rfl) ?_
    refine g4.put (by omega) hp hc hpc hpl hco (by simp [wI_1]) (by simp [wI_1, he]) (by simp [wI_1]) (fun e hq hes => ?_) (fun j _ => by simp [wI_1]) (fun j _ => by simp [wI_1]) (fun j _ => by simp [wI_1]) (fun j _ hj => by simp [wI_1, hj]) (fun j _ hj => by simp [wI_1, hj]) (fun j _ hj => by simp [wI_1, hj]) (fun e hes hq => by simp [wI_1])
    rw [he] at hq
    exact absurd hq (nI_nm1 (by omega))
/-- the sign that came last is put to its operands -/
def redN (s : NS) (sn pl : Int32) (c1 c2 : Nat) : NS := putN (putN (addN s 35 pl sn) s.1 c1) s.1 c2
theorem rc_reduce {Q : Sg → Prop} {sg1 : List (Int32 × Int32)} {op1 : List Nat} {sn pl : Int32} {c1 c2 : Nat} (hd : 2 ≤ d) (hS : StC tx n σ0 σ x s (sg1 ++ [(sn, pl)]) (op1 ++ [c1, c2]) a b) (hab : a ≤ b) (hb : b < 33400) (hsl : sg1.length ≤ 62) (hol : op1.length ≤ 126) (h : ∀ σ', StC tx n σ0 σ' x (redN s sn pl c1 c2) sg1 (op1 ++ [s.1]) (a + 1) (b + 1) → Q σ') : OkV w d m_Reader_reduce [vR 17] σ Q := by
  have hm := hS.many hab
  have hS' := hS
  obtain ⟨g1, g2, g3, g4, g5, g6, g7, g8, g9⟩ := hS
  obtain ⟨k1, k2, k3, k4⟩ := g6
  have l1 : (sg1 ++ [(sn, pl)]).length = sg1.length + 1 := by simp
  have l2 : (op1 ++ [c1, c2]).length = op1.length + 1 + 1 := by simp
  rw [l1] at k1
  rw [l2] at k2
  have e18 := (k3 sg1.length (by rw [l1]; omega)).1
  have e19 := (k3 sg1.length (by rw [l1]; omega)).2
  have gs : (sg1 ++ [(sn, pl)]).getD sg1.length (0, 0) = (sn, pl) := by simp [List.getD_eq_getElem?_getD]
  rw [gs] at e18 e19
  have e20a := k4 op1.length (by rw [l2]; omega)
  have e20b := k4 (op1.length + 1) (by rw [l2]; omega)
  have go1 : (op1 ++ [c1, c2]).getD op1.length 0 = c1 := by simp [List.getD_eq_getElem?_getD]
  have go2 : (op1 ++ [c1, c2]).getD (op1.length + 1) 0 = c2 := by simp [List.getD_eq_getElem?_getD, List.getElem?_append_right]
  rw [go1] at e20a
  rw [go2] at e20b
  have o1 := g7 c1 (by simp)
  have o2 := g7 c2 (by simp)
  have hnd : c1 ≠ c2 ∧ c1 ∉ op1 ∧ c2 ∉ op1 ∧ op1.Nodup := by
    rw [List.nodup_append] at g8
    obtain ⟨n1, n2, n3⟩ := g8
    refine ⟨fun q => ?_, fun q => n3 c1 q c1 (by simp) rfl, fun q => n3 c2 q c2 (by simp) rfl, n1⟩
    rw [List.nodup_cons] at n2
    exact n2.1 (by rw [q]; simp)
  refine v_Reader_reduce _ (by omega) ?_
  rw [k1, nI_pred, nI_clamp (by omega)]
  have hin : vp_in (nI sg1.length) 64 := vp_in_nI (by omega) (by omega)
  refine ⟨hin, hin, ?_⟩
  rw [e18, e19]
  have gN : NM (wI σ 17 9 (nI sg1.length)) 8 s := g4.cong (fun i hi j _ => by simp only [wI_1]; rw [if_neg (by omega)])
  refine nc_add0 (by omega) gN (by simp [wI_1, g5]) (by omega) (fun τ1 f1 F1 N1 m1 => ?_)
  have t10 : τ1.1 17 10 = nI (op1.length + 1 + 1) := by rw [f1 17 10 (by omega)]; simp [wI_1, k2]
  rw [t10, nI_pred, nI_pred, nI_clamp (by omega)]
  refine ⟨vp_in_nI (by omega) (by omega), ?_⟩
  have t20 : τ1.1 20 op1.length = nI c1 := by rw [f1 20 _ (by omega)]; simp [wI_1, e20a]
  rw [t20]
  have N2 : NM (wI τ1 17 10 (nI (op1.length + 1))) 8 (addN s 35 pl sn) := N1.cong (fun i hi j _ => by simp only [wI_1]; rw [if_neg (by omega)])
  have L0 : Liv (addN s 35 pl sn) s.1 := ⟨Nat.lt_succ_self _, by rw [addN_top]; show (-1 : Int32) ≠ -2; decide⟩
  refine nc_put0 (by omega) N2 (by show s.1 + 1 ≤ 33500; omega) rfl rfl L0 (by show c1 < s.1 + 1; omega) (by omega) (by rw [addN_lt o1.1]; exact o1.2) (fun τ2 f2 F2 N3 => ?_)
  have t10b : τ2.1 17 10 = nI (op1.length + 1) := by rw [f2 17 10 (by omega)]; simp [wI_1]
  rw [t10b, nI_clamp (by omega)]
  refine ⟨vp_in_nI (by omega) (by omega), ?_⟩
  have t20b : τ2.1 20 (op1.length + 1) = nI c2 := by rw [f2 20 _ (by omega)]; simp [wI_1]; rw [f1 20 _ (by omega)]; simp [wI_1, e20b]
  rw [t20b]
  refine nc_put0 (by omega) N3 (by show s.1 + 1 ≤ 33500; omega) rfl rfl ⟨Nat.lt_succ_self _, by rw [putN_rp (by omega)]; exact L0.2⟩ (by show c2 < s.1 + 1; omega) (by omega) (by rw [putN_rp (Ne.symm hnd.1), addN_lt o2.1]; exact o2.2) (fun τ3 f3 F3 N4 => ?_)
  have t10c : τ3.1 17 10 = nI (op1.length + 1) := by rw [f3 17 10 (by omega)]; exact t10b
  rw [t10c, nI_pred, nI_clamp (by omega)]
  refine ⟨vp_in_nI (by omega) (by omega), h _ ?_⟩
  have all : ∀ k j, ¬ (7 ≤ k ∧ k ≤ 14) → ¬ (k = 17 ∧ (j = 9 ∨ j = 10)) → τ3.1 k j = σ.1 k j := by
    intro k j h1 h2
    rw [f3 k j (by omega), f2 k j (by omega)]
    simp only [wI_1]
    rw [if_neg (by omega), f1 k j (by omega)]
    simp only [wI_1]
    rw [if_neg (by omega)]
  have F0 : Fr rdF σ τ3 := ((((Fr.rfl'.wI rfl).trans F1).wI rfl).trans F2).trans F3
  refine hS'.re (F0.wI rfl) (fun k i hk => ?_) ?_ ?_ ⟨?_, ?_, fun i hi => ?_, fun i hi => ?_⟩ (fun c hc => ?_) ?_ (by show s.1 + 1 ≤ s.1 + 1; omega)
  · simp only [wI_1]
    rw [if_neg (by omega)]
    exact all k i (by omega) (by omega)
  · exact N4.cong (fun i hi j _ => by simp only [wI_1]; rw [if_neg (by omega)])
  · simp [wI_1]
    rw [f3 7 9 (by omega), f2 7 9 (by omega)]
    simp [wI_1]
    exact m1
  · simp [wI_1]
    rw [f3 17 9 (by omega), f2 17 9 (by omega)]
    simp [wI_1]
    rw [f1 17 9 (by omega)]
    simp [wI_1]
  · simp [wI_1]; exact t10c
  · simp [wI_1]
    rw [all 18 i (by omega) (by omega), all 19 i (by omega) (by omega)]
    have := k3 i (by rw [l1]; omega)
    have e : (sg1 ++ [(sn, pl)]).getD i (0, 0) = sg1.getD i (0, 0) := by rw [List.getD_eq_getElem?_getD, List.getD_eq_getElem?_getD, List.getElem?_append_left hi]
    rw [e] at this; exact this
  · rw [List.length_append, List.length_singleton] at hi
    rw [wI_1]
    split
    · rename_i q; rw [q.2]; simp [List.getD_eq_getElem?_getD]
    · rename_i q
      have hi2 : i < op1.length := by omega
      rw [all 20 i (by omega) (by omega), k4 i (by rw [l2]; omega)]
      rw [List.getD_eq_getElem?_getD, List.getD_eq_getElem?_getD, List.getElem?_append_left hi2, List.getElem?_append_left hi2]
  · rw [List.mem_append, List.mem_singleton] at hc
    rcases hc with hc | hc
    · have o := g7 c (by simp [hc])
      refine ⟨by show c < s.1 + 1; omega, ?_⟩
      unfold redN
      rw [putN_rp (by intro q; exact hnd.2.2.1 (q ▸ hc)), putN_rp (by intro q; exact hnd.2.1 (q ▸ hc)), addN_lt o.1]
      exact o.2
    · subst hc
      refine ⟨Nat.lt_succ_self _, ?_⟩
      unfold redN
      rw [putN_rp (by omega), putN_rp (by omega), addN_top]; rfl
  · rw [List.nodup_append]
    refine ⟨hnd.2.2.2, by simp, fun c hc e he => ?_⟩
    rw [List.mem_singleton] at he
    have := (g7 c (by simp [hc])).1
    omega
end
