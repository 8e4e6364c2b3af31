/-! 124: the tree's grammar: ladders, blocks, the text -/
section
variable {tx : Nat → Int32} {n : Nat}
theorem how4 {a b c : Bool} : ∃ j, j < 4 ∧ (if a = true then (1 : Int32) else if b = true then 2 else if c = true then 3 else 0) = nI j := by
  split
  · exact ⟨1, by decide, rfl⟩
  · split
    · exact ⟨2, by decide, rfl⟩
    · split
      · exact ⟨3, by decide, rfl⟩
      · exact ⟨0, by decide, rfl⟩
theorem GW.cel {x : RS} {a : Nat} (ha : a = 35 ∨ a = 36) : GW x (celP tx n x) a 36 := by
  have s25 : (a, (25 : Int32), 38, 36) ∈ grL := by rcases ha with h | h <;> subst h <;> decide
  have s26 : (a, (26 : Int32), 0, 36) ∈ grL := by rcases ha with h | h <;> subst h <;> decide
  have s27 : (a, (27 : Int32), 0, 36) ∈ grL := by rcases ha with h | h <;> subst h <;> decide
  have s28 : (a, (28 : Int32), 27, 36) ∈ grL := by rcases ha with h | h <;> subst h <;> decide
  unfold celP
  split
  · rename_i h; exact GW.bad h
  · split
    · split
      · exact GW.lf s26 (fun _ _ _ _ _ => vOK.free (by decide))
      · exact GW.lf s27 (fun _ _ _ _ _ => vOK.free (by decide))
    · split
      · dsimp only
        have h4 := how4 (a := isS (nxR tx n x) 47) (b := isS (nxR tx n x) 43) (c := isS (nxR tx n x) 45)
        generalize (if isS (nxR tx n x) 47 = true then (1 : Int32) else if isS (nxR tx n x) 43 = true then 2 else if isS (nxR tx n x) 45 = true then 3 else 0) = how at h4 ⊢
        have mz : ML x (if 0 < how then nxR tx n (nxR tx n x) else nxR tx n x) := ML.nx.trans (ML.ite ML.nx ML.rfl')
        generalize (if 0 < how then nxR tx n (nxR tx n x) else nxR tx n x) = z at mz ⊢
        refine GW.node (c := 27) (f := 0) ((GW.pre (y := z) (GW.node (c := 0) (f := 0) GW.nil (by decide) (by decide) (tv_name' ML.wt (by decide))) mz (ML.wt.trans ML.wt))) (by decide) s28 (fun _ _ _ _ _ => vOK.j4 (Or.inr rfl) h4)
      · dsimp only
        have h4 := how4 (a := isS x 47) (b := isS x 62) (c := isS x 60)
        generalize (if isS x 47 = true then (1 : Int32) else if isS x 62 = true then 2 else if isS x 60 = true then 3 else 0) = how at h4 ⊢
        have my : ML x (if 0 < how then nxR tx n x else x) := ML.ite ML.nx ML.rfl'
        generalize (if 0 < how then nxR tx n x else x) = y at my ⊢
        have tn : ∀ (k : Int32), k ∈ [(1 : Int32), 2, 3, 6, 10, 13, 14, 19, 32, 33, 34] → ∀ {u : RS}, ML (wtR tx n (isK y 1) y) u → ∀ s v, y = .ok s → u = .ok v → TV s → vOK (sN v).length k (vaI y) := fun k hk u hm => tv_name' hm hk
        have mz : ML y (wtR tx n (isK y 1) y) := ML.wt
        generalize wtR tx n (isK y 1) y = z at tn mz ⊢
        refine GW.node (c := 38) (f := 0) ?_ (by decide) s25 (fun _ _ _ _ _ => vOK.j4 (Or.inl rfl) h4)
        unfold outP
        split
        · refine GW.pre (y := y) (GW.node (c := 27) (f := 0) (GW.pre (y := nxR tx n z) (GW.node (c := 0) (f := 0) GW.nil (by decide) (by decide) (tv_name' ML.rfl' (by decide))) (mz.trans ML.nx) ML.wt) (by decide) (by decide) (tn 33 (by decide) (ML.nx.trans ML.wt))) my ((mz.trans ML.nx).trans ML.wt)
        · exact GW.pre (y := y) (GW.node (c := 0) (f := 0) GW.nil (by decide) (by decide) (tn 6 (by decide) ML.rfl')) my mz
theorem GW.rwl : ∀ (f : Nat) {x : RS}, GW x (rwlP tx n f x) 36 36 := by
  intro f
  induction f with
  | zero => intro x; exact GW.nil
  | succ f ih =>
    intro x
    unfold rwlP
    split
    · dsimp only
      split
      · exact (GW.lf (e := 35) (by decide) (fun _ _ _ _ _ => vOK.free (by decide))).cat ((GW.cel (Or.inl rfl)).cat ih ML.cel (ML.rwl f)) ML.nx (ML.cel.trans (ML.rwl f))
      · exact (GW.cel (Or.inr rfl)).cat ih ML.cel (ML.rwl f)
    · exact GW.nil
theorem GW.row {x : RS} {a : Nat} (ha : a = 33 ∨ a = 34) : GW x (rowP tx n x) a 34 := by
  have s : (a, (24 : Int32), 35, 34) ∈ grL := by rcases ha with h | h <;> subst h <;> decide
  unfold rowP
  have gC : GW x (celP tx n x) 35 36 := GW.cel (Or.inl rfl)
  have mC : ML x (celP tx n x).1 := ML.cel
  generalize celP tx n x = C at gC mC ⊢
  have gR : GW C.1 (rwlP tx n (n + 1) C.1) 36 36 := GW.rwl _
  have mR : ML C.1 (rwlP tx n (n + 1) C.1).1 := ML.rwl _
  exact GW.node (c := 35) (f := 36) ((gC.cat gR mC mR).post ML.wt) (by decide) s (fun _ _ _ _ _ => vOK.free (by decide))
theorem GW.rnl : ∀ (f : Nat) {x : RS}, GW x (rnlP tx n f x) 34 34 ∧ (0 < f → GW x (rnlP tx n f x) 33 34) := by
  intro f
  induction f with
  | zero => intro x; exact ⟨GW.nil, fun h => absurd h (by decide)⟩
  | succ f ih =>
    intro x
    have go : ∀ a, a = 33 ∨ a = 34 → GW x (rnlP tx n (f + 1) x) a 34 := by
      intro a ha
      unfold rnlP
      split
      · exact (GW.row ha).cat ih.1 ML.row (ML.rnl f)
      · exact GW.row ha
    exact ⟨go 34 (Or.inr rfl), fun _ => go 33 (Or.inl rfl)⟩
theorem GW.lal : ∀ (f : Nat) {x : RS}, GW x (lalP tx n f x) 20 20 := by
  intro f
  induction f with
  | zero => intro x; exact GW.nil
  | succ f ih =>
    intro x
    unfold lalP
    split
    · refine GW.cat ?_ ih ML.rng (ML.lal f)
      unfold rngP
      dsimp only
      exact GW.node (c := 33) (f := 34) ((((GW.rnl (n + 1)).2 (Nat.succ_pos _)).pre ML.nx (ML.rnl _)).post ML.wt) (by decide) (by decide) (fun _ _ _ _ _ => vOK.free (by decide))
    · exact GW.nil
theorem GW.blk {x : RS} (hx : IS n x) : GW x (blkP tx n x) 1 1 := by
  unfold blkP
  split
  · rename_i hw
    dsimp only
    have my : ML x (nxR tx n x) := ML.nx
    have moy : MO n x (nxR tx n x) := MO.nx
    generalize nxR tx n x = y at my moy ⊢
    have mz : ML y (wtR tx n (isK y 1) y) := ML.wt
    have moz : MO n y (wtR tx n (isK y 1) y) := MO.wt
    have tn : ∀ (k : Int32), k ∈ [(1 : Int32), 2, 3, 6, 10, 13, 14, 19, 32, 33, 34] → ∀ {u : RS}, ML (wtR tx n (isK y 1) y) u → ∀ s v, y = .ok s → u = .ok v → TV s → vOK (sN v).length k (vaI y) := fun k hk u hm => tv_name' hm hk
    generalize wtR tx n (isK y 1) y = z at mz moz tn ⊢
    have hz : IS n z := hx.mo (moy.trans moz)
    have mH : ML z (fnhP tx n z (isW x 0) (frI y)).1 := ML.fnh
    have moH : MO n z (fnhP tx n z (isW x 0) (frI y)).1 := MO.fnh
    have gH : GW z ((fnhP tx n z (isW x 0) (frI y)).1, (fnhP tx n z (isW x 0) (frI y)).2.1) (if isW x 0 = true then 2 else 3) 3 := by
      unfold fnhP
      split
      · dsimp only; exact (GW.sim (by decide)).pre ML.wt ML.sim
      · exact GW.nil
    generalize fnhP tx n z (isW x 0) (frI y) = H at mH moH gH ⊢
    have gC := GW.scs (tx := tx) (n := n) (n + 1) (x := H.1) (b := H.2.2)
    have mC : ML H.1 (scsP tx n (n + 1) H.1 H.2.2).1 := ML.scs _
    have moC : MO n H.1 (scsP tx n (n + 1) H.1 H.2.2).1 := MO.scs _
    generalize scsP tx n (n + 1) H.1 H.2.2 = C at gC mC moC ⊢
    have hC : IS n C.1 := (hz.mo moH).mo moC
    have gL : GW C.1 (lorP tx n C.1 C.2.2) 3 0 := by
      unfold lorP
      split
      · unfold ladP
        dsimp only
        exact GW.node (c := 20) (f := 20) (((GW.lal (n + 1)).pre ML.nx (ML.lal _)).post ML.wt) (by decide) (by decide) (fun _ _ _ _ _ => vOK.free (by decide))
      · exact GW.bod ⟨GW.stm 70, fun _ => ML.stm 70, fun _ => MO.stm 70⟩ hC (by decide)
    have mL : ML C.1 (lorP tx n C.1 C.2.2).1 := ML.lor
    generalize lorP tx n C.1 C.2.2 = Z at gL mL ⊢
    have gAll : GW z (Z.1, tap H.2.1 (tap C.2.1 Z.2)) (if isW x 0 = true then 2 else 3) 0 := gH.cat (gC.cat gL mC mL) mH (mC.trans mL)
    have mAll : ML z Z.1 := (mH.trans mC).trans mL
    have fini : ∀ (k : Int32) (c : Nat), (if isW x 0 = true then 2 else 3) = c → (1, k, c, 1) ∈ grL → k ∈ [(1 : Int32), 2, 3, 6, 10, 13, 14, 19, 32, 33, 34] → GW x (wtR tx n (isW Z.1 (vaI x + 1)) Z.1, tN (k, frI x, vaI y) (tap H.2.1 (tap C.2.1 Z.2)) .leaf) 1 1 := by
      intro k c hc hs hk
      rw [hc] at gAll
      exact GW.pre (y := y) (GW.node (c := c) (f := 0) ((gAll.pre mz mAll).post ML.wt) (by decide) hs (tn k hk (mAll.trans ML.wt))) my ((mz.trans mAll).trans ML.wt)
    by_cases h0 : isW x 0 = true
    · rw [if_pos h0]
      exact fini 1 2 (if_pos h0) (by decide) (by decide)
    · rw [if_neg h0]
      split
      · exact fini 2 3 (if_neg h0) (by decide) (by decide)
      · exact fini 3 3 (if_neg h0) (by decide) (by decide)
  · exact GW.bad fl_no
theorem GW.bkl : ∀ (f : Nat) {x : RS}, IS n x → GW x (bklP tx n f x) 1 1 := by
  intro f
  induction f with
  | zero => intro x _; exact GW.nil
  | succ f ih =>
    intro x hx
    unfold bklP
    split
    · exact (GW.blk hx).cat (ih (hx.mo MO.blk)) ML.blk (ML.bkl f)
    · exact GW.nil
/-- the whole text's tree is one text with blocks -/
theorem txt_gram {q : PS} (h : (txtP tx n).1 = .ok q) : ∃ t, (txtP tx n).2 = tN (0, 0, 0) t .leaf ∧ WT (sN q).length 1 t 1 := by
  refine ⟨(bklP tx n (n + 1) (nxS tx n (0, 0, 0, 0, [], 0, 0))).2, rfl, ?_⟩
  have hinv0 : InvS n (0, 0, 0, 0, [], 0, 0) := ⟨Nat.zero_le _, Nat.le_refl _, Nat.zero_le _, fun q => absurd rfl q, Nat.le_refl _, Nat.le_refl _, by decide⟩
  have h : (bklP tx n (n + 1) (nxS tx n (0, 0, 0, 0, [], 0, 0))).1 = .ok q := h
  have hx : IS n (nxS tx n (0, 0, 0, 0, [], 0, 0)) := fun r hr => (nx_ok hr hinv0).1
  have tv : ∀ r, nxS tx n (0, 0, 0, 0, [], 0, 0) = .ok r → TV r := fun r hr => ((ML.nx (tx := tx) (n := n) (x := .ok (0, 0, 0, 0, [], 0, 0))).2 _ r rfl hr).2 ⟨fun q => absurd q (show ¬ (0 : Int32) = 1 by decide), fun q => absurd q (show ¬ (0 : Int32) = 4 by decide)⟩
  generalize nxS tx n (0, 0, 0, 0, [], 0, 0) = y at h hx tv ⊢
  cases hy : y with
  | error e =>
    have := (ML.bkl (tx := tx) (n := n) (n + 1) (x := y)).1 e hy
    rw [h] at this; cases this
  | ok r =>
    have := GW.bkl (tx := tx) (n + 1) hx r q hy h (tv r hy)
    rw [hy] at this
    exact this
end
