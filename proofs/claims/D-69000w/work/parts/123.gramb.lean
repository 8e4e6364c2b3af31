/-! 123: the tree's grammar: statements, ladders, blocks -/
section
variable {tx : Nat → Int32} {n : Nat}
def IS (n : Nat) (x : RS) : Prop := ∀ q, x = .ok q → InvS n q
theorem IS.mo {x y : RS} (h : IS n x) (hm : MO n x y) : IS n y := by
  intro q hq
  cases x with
  | error e => rw [hm.1 e rfl] at hq; cases hq
  | ok r => exact (hm.2 r q rfl hq (h r rfl)).1
theorem GW.prl : ∀ (f : Nat) {x : RS}, IS n x → GW x (prlP tx n f x) 15 15 := by
  intro f
  induction f with
  | zero => intro x _; exact GW.nil
  | succ f ih =>
    intro x hx
    unfold prlP
    dsimp only
    have moA : MO n x (expP tx n (wtR tx n (isS (wtR tx n (isK x 1) x) 256) (wtR tx n (isK x 1) x))).1 := (MO.wt.trans MO.wt).trans MO.exp
    have mA1 : ML (wtR tx n (isK x 1) x) (expP tx n (wtR tx n (isS (wtR tx n (isK x 1) x) 256) (wtR tx n (isK x 1) x))).1 := ML.wt.trans ML.exp
    have gA : GE x (expP tx n (wtR tx n (isS (wtR tx n (isK x 1) x) 256) (wtR tx n (isK x 1) x))) := (GE.exp (hx.mo (MO.wt.trans MO.wt))).pre (ML.wt.trans ML.wt) ML.exp
    generalize expP tx n (wtR tx n (isS (wtR tx n (isK x 1) x) 256) (wtR tx n (isK x 1) x)) = A at moA mA1 gA ⊢
    have one : ∀ z, ML A.1 z → GW x (z, tN (14, frI x, vaI x) A.2 .leaf) 15 15 := fun z hz => GW.node (c := 14) (f := 0) ((gA.post hz).w (by decide)) (by decide) (by decide) (tv_name' (mA1.trans hz) (by decide))
    split
    · exact (one _ ML.nx).cat (ih (hx.mo (moA.trans MO.nx))) ((ML.wt.trans mA1).trans ML.nx) (ML.prl f)
    · exact one _ ML.rfl'
theorem GW.nam {x : RS} (hx : IS n x) (hk : isK x 1 = true) : GW x (namP tx n x) 7 7 := by
  unfold namP
  dsimp only
  have hy : IS n (nxR tx n x) := hx.mo MO.nx
  have my : ML x (nxR tx n x) := ML.nx
  have moy : MO n x (nxR tx n x) := MO.nx
  have tn : ∀ (k : Int32), k ∈ [(1 : Int32), 2, 3, 6, 10, 13, 14, 19, 32, 33, 34] → ∀ {z : RS}, ML (nxR tx n x) z → ∀ s u, x = .ok s → z = .ok u → TV s → vOK (sN u).length k (vaI x) := fun k hk2 z hm => tv_name hk (my.trans hm) hk2
  generalize nxR tx n x = y at hy my moy tn ⊢
  split
  · unfold invP
    dsimp only
    have mop : ML y (nxR tx n (opR y)) := ML.op.trans ML.nx
    have hop : IS n (nxR tx n (opR y)) := hy.mo (MO.op.trans MO.nx)
    split
    · exact GW.node (c := 15) (f := 15) GW.nil (by decide) (by decide) (tn 13 (by decide) ((mop.trans ML.wt).trans ML.clr))
    · have ma := ML.prl (tx := tx) (n := n) (n + 1) (x := nxR tx n (opR y))
      exact GW.node (c := 15) (f := 15) ((((GW.prl (n + 1) hop).pre (my.trans mop) ma).post ML.wt).post ML.clr) (by decide) (by decide) (tn 13 (by decide) (((mop.trans ma).trans ML.wt).trans ML.clr))
  · have moB : MO n y (tgtP tx n y (frI x) (vaI x)).1 := MO.tgt
    have mB : ML y (tgtP tx n y (frI x) (vaI x)).1 := ML.tgt
    have gB : GW x (tgtP tx n y (frI x) (vaI x)) 13 14 := by
      unfold tgtP
      split
      · unfold ixP
        have mop : ML y (nxR tx n (opR y)) := ML.op.trans ML.nx
        have hop : IS n (nxR tx n (opR y)) := hy.mo (MO.op.trans MO.nx)
        exact GW.node (c := 14) (f := 0) (((((GE.exp hop).w (by decide)).pre (my.trans mop) ML.exp).post ML.wt).post ML.clr) (by decide) (by decide) (tn 32 (by decide) (((mop.trans ML.exp).trans ML.wt).trans ML.clr))
      · exact GW.node (c := 0) (f := 0) GW.nil (by decide) (by decide) (tn 6 (by decide) ML.rfl')
    generalize tgtP tx n y (frI x) (vaI x) = B at moB mB gB ⊢
    have gC : GW B.1 (expP tx n (wtR tx n (isS B.1 256) B.1)) 14 0 := ((GE.exp (hy.mo (moB.trans MO.wt))).w (by decide)).pre ML.wt ML.exp
    exact GW.node (c := 13) (f := 0) (gB.cat gC (my.trans mB) (ML.wt.trans ML.exp)) (by decide) (by decide) (fun _ _ _ _ _ => vOK.free (by decide))
/-- what one statement is -/
def GS (n : Nat) (S : RS → RS × Tr) : Prop := (∀ x, IS n x → GW x (S x) 7 7) ∧ (∀ x, ML x (S x).1) ∧ ∀ x, MO n x (S x).1
theorem GW.bdl {S : RS → RS × Tr} (hS : GS n S) : ∀ (f : Nat) {x : RS}, IS n x → GW x (bdlP tx n S f x) 7 7 := by
  intro f
  induction f with
  | zero => intro x _; exact GW.nil
  | succ f ih =>
    intro x hx
    unfold bdlP
    split
    · dsimp only
      exact ((hS.1 x hx).post ML.wt).cat (ih (hx.mo ((hS.2.2 x).trans MO.wt))) ((hS.2.1 x).trans ML.wt) (ML.bdl hS.2.1 f)
    · exact GW.nil
theorem GW.bod {S : RS → RS × Tr} (hS : GS n S) {x : RS} (hx : IS n x) {a e : Nat} {p : Int32} (hs : (a, 11, 7, e) ∈ grL) : GW x (bodP tx n S x p) a e :=
  GW.node (c := 7) (f := 7) (GW.bdl hS (n + 1) hx) (by decide) hs (fun _ _ _ _ _ => vOK.free (by decide))
theorem GF.oth {S : RS → RS × Tr} (hS : GS n S) {x : RS} (hx : IS n x) {a : Nat} (hs : (a, 11, 7, 0) ∈ grL) (ha : fin a) : GF x (othP tx n S x) a := by
  unfold othP
  split
  · exact ((GW.bod hS (hx.mo MO.nx) hs).pre ML.nx (ML.bod hS.2.1)).fi (by decide)
  · exact GW.nil.fi ha
theorem GW.ifl {S : RS → RS × Tr} (hS : GS n S) : ∀ (f : Nat) {x : RS}, IS n x → GW x (iflP tx n S f x) 29 29 ∧ (0 < f → GW x (iflP tx n S f x) 16 29) := by
  intro f
  induction f with
  | zero => intro x _; exact ⟨GW.nil, fun h => absurd h (by decide)⟩
  | succ f ih =>
    intro x hx
    have moA : MO n x (expP tx n (nxR tx n x)).1 := MO.nx.trans MO.exp
    have mA : ML x (expP tx n (nxR tx n x)).1 := ML.nx.trans ML.exp
    have gA : GE x (expP tx n (nxR tx n x)) := (GE.exp (hx.mo MO.nx)).pre ML.nx ML.exp
    have go : ∀ a, (a, 17) ∈ xML → GW x (iflP tx n S (f + 1) x) a 29 := by
      intro a ha
      unfold iflP
      dsimp only
      generalize expP tx n (nxR tx n x) = A at moA mA gA ⊢
      have hA := hx.mo moA
      have gB : GW A.1 (bodP tx n S (wtR tx n (isW A.1 17) A.1) (frI A.1)) 17 29 := (GW.bod hS (hA.mo MO.wt) (by decide)).pre ML.wt (ML.bod hS.2.1)
      have mB : ML A.1 (bodP tx n S (wtR tx n (isW A.1 17) A.1) (frI A.1)).1 := ML.wt.trans (ML.bod hS.2.1)
      have moB : MO n A.1 (bodP tx n S (wtR tx n (isW A.1 17) A.1) (frI A.1)).1 := MO.wt.trans (MO.bod hS.2.2)
      generalize bodP tx n S (wtR tx n (isW A.1 17) A.1) (frI A.1) = B at gB mB moB ⊢
      split
      · exact (gA.w ha).cat (gB.cat (ih (hA.mo moB)).1 mB (ML.ifl hS.2.1 f)) mA (mB.trans (ML.ifl hS.2.1 f))
      · exact (gA.w ha).cat gB mA mB
    exact ⟨go 29 (by decide), fun _ => go 16 (by decide)⟩
theorem GW.rgl : ∀ (f : Nat) {x : RS}, GW x (rglP tx n f x) 23 23 ∧ (0 < f → GW x (rglP tx n f x) 21 23) := by
  intro f
  induction f with
  | zero => intro x; exact ⟨GW.nil, fun h => absurd h (by decide)⟩
  | succ f ih =>
    intro x
    have mA : ML x (conP tx n x).1 := ML.con
    have gA : GW x (conP tx n x) 22 25 := GW.con (by decide) (by decide)
    have go : ∀ a, (a, (18 : Int32), 22, 23) ∈ grL → GW x (rglP tx n (f + 1) x) a 23 := by
      intro a ha
      unfold rglP
      dsimp only
      generalize conP tx n x = A at mA gA ⊢
      have mB : ML A.1 (rg2P tx n A.1).1 := ML.rg2
      have gB : GF A.1 (rg2P tx n A.1) 25 := by
        unfold rg2P
        split
        · exact ((GW.con (by decide) (by decide)).pre ML.nx ML.con).fi (f := 0) (by decide)
        · exact GW.nil.fi (by decide)
      generalize rg2P tx n A.1 = B at mB gB ⊢
      have one : ∀ z, ML B.1 z → GW x (z, tN (18, frI x, 0) (tap A.2 B.2) .leaf) a 23 := fun z hz => GF.node (c := 22) ((GF.cat gA gB mA mB).post hz) ha (fun _ _ _ _ _ => vOK.free (by decide))
      split
      · exact (one _ ML.nx).cat ih.1 ((mA.trans mB).trans ML.nx) (ML.rgl f)
      · exact one _ ML.rfl'
    exact ⟨go 23 (by decide), fun _ => go 21 (by decide)⟩
theorem GW.cal {S : RS → RS × Tr} (hS : GS n S) : ∀ (f : Nat) {x : RS}, IS n x → GW x (calP tx n S f x) 19 19 := by
  intro f
  induction f with
  | zero => intro x _; exact GW.nil
  | succ f ih =>
    intro x hx
    unfold calP
    split
    · refine GW.cat ?_ (ih (hx.mo (MO.cao hS.2.2))) (ML.cao hS.2.1) (ML.cal hS.2.1 f)
      unfold caoP
      dsimp only
      have mA : ML x (rglP tx n (n + 1) x).1 := ML.rgl _
      have moA : MO n x (rglP tx n (n + 1) x).1 := MO.rgl _
      have gA : GW x (rglP tx n (n + 1) x) 21 23 := (GW.rgl (n + 1)).2 (Nat.succ_pos _)
      generalize rglP tx n (n + 1) x = A at mA moA gA ⊢
      have gB : GW A.1 (bodP tx n S (wtR tx n (isS A.1 58) A.1) (frI A.1)) 23 0 := (GW.bod hS ((hx.mo moA).mo MO.wt) (by decide)).pre ML.wt (ML.bod hS.2.1)
      exact GW.node (c := 21) (f := 0) (gA.cat gB mA (ML.wt.trans (ML.bod hS.2.1))) (by decide) (by decide) (fun _ _ _ _ _ => vOK.free (by decide))
    · exact GW.nil
theorem GW.stm : ∀ (F : Nat) (x : RS), IS n x → GW x (stmP tx n F x) 7 7 := by
  intro F
  induction F with
  | zero => intro x _; exact GW.nil
  | succ F ih =>
    intro x hx
    have hS : GS n (stmP tx n F) := ⟨ih, fun _ => ML.stm F, fun _ => MO.stm F⟩
    unfold stmP
    split
    · rename_i hk; exact GW.nam hx hk
    · split
      · unfold ifP
        dsimp only
        have hop : IS n (opR x) := hx.mo MO.op
        have mA : ML (opR x) (iflP tx n (stmP tx n F) (n + 1) (opR x)).1 := ML.ifl hS.2.1 _
        have moA : MO n (opR x) (iflP tx n (stmP tx n F) (n + 1) (opR x)).1 := MO.ifl hS.2.2 _
        have gA : GW (opR x) (iflP tx n (stmP tx n F) (n + 1) (opR x)) 16 29 := (GW.ifl hS (n + 1) hop).2 (Nat.succ_pos _)
        generalize iflP tx n (stmP tx n F) (n + 1) (opR x) = A at mA moA gA ⊢
        have gO := GF.oth (tx := tx) hS (hop.mo moA) (a := 29) (by decide) (by decide)
        have mO : ML A.1 (othP tx n (stmP tx n F) A.1).1 := ML.oth hS.2.1
        exact GF.node (c := 16) ((((GF.cat gA gO mA mO).pre ML.op (mA.trans mO)).post ML.wt).post ML.clr) (by decide) (fun _ _ _ _ _ => vOK.free (by decide))
      · split
        · unfold caP
          dsimp only
          have mop : ML x (nxR tx n (opR x)) := ML.op.trans ML.nx
          have moop : MO n x (nxR tx n (opR x)) := MO.op.trans MO.nx
          have gA : GE x (expP tx n (nxR tx n (opR x))) := (GE.exp (hx.mo moop)).pre mop ML.exp
          have mA : ML x (expP tx n (nxR tx n (opR x))).1 := mop.trans ML.exp
          have moA : MO n x (expP tx n (nxR tx n (opR x))).1 := moop.trans MO.exp
          generalize expP tx n (nxR tx n (opR x)) = A at gA mA moA ⊢
          have hA := (hx.mo moA).mo (MO.wt (tx := tx) (n := n) (b := isW A.1 15))
          have gC : GW A.1 (calP tx n (stmP tx n F) (n + 1) (wtR tx n (isW A.1 15) A.1)) 19 19 := (GW.cal hS (n + 1) hA).pre ML.wt (ML.cal hS.2.1 _)
          have mC : ML A.1 (calP tx n (stmP tx n F) (n + 1) (wtR tx n (isW A.1 15) A.1)).1 := ML.wt.trans (ML.cal hS.2.1 _)
          have moC : MO n (wtR tx n (isW A.1 15) A.1) (calP tx n (stmP tx n F) (n + 1) (wtR tx n (isW A.1 15) A.1)).1 := MO.cal hS.2.2 _
          generalize calP tx n (stmP tx n F) (n + 1) (wtR tx n (isW A.1 15) A.1) = C at gC mC moC ⊢
          have gO := GF.oth (tx := tx) hS (hA.mo moC) (a := 19) (by decide) (by decide)
          have mO : ML C.1 (othP tx n (stmP tx n F) C.1).1 := ML.oth hS.2.1
          exact GF.node (c := 18) (((GF.cat (gA.w (b := 19) (by decide)) (GF.cat gC gO mC mO) mA (mC.trans mO)).post ML.wt).post ML.clr) (by decide) (fun _ _ _ _ _ => vOK.free (by decide))
        · split
          · unfold foP
            dsimp only
            have mop : ML x (nxR tx n (opR x)) := ML.op.trans ML.nx
            have moop : MO n x (nxR tx n (opR x)) := MO.op.trans MO.nx
            generalize nxR tx n (opR x) = y at mop moop ⊢
            have mz : ML y (wtR tx n (isK y 1) y) := ML.wt
            have moz : MO n y (wtR tx n (isK y 1) y) := MO.wt
            have tn : ∀ {u : RS}, ML (wtR tx n (isK y 1) y) u → ∀ s v, y = .ok s → u = .ok v → TV s → vOK (sN v).length 19 (vaI y) := fun hm => tv_name' hm (by decide)
            generalize wtR tx n (isK y 1) y = z at mz moz tn ⊢
            have gA : GW z (conP tx n (wtR tx n (isS z 256) z)) 24 30 := (GW.con (by decide) (by decide)).pre ML.wt ML.con
            have mA : ML z (conP tx n (wtR tx n (isS z 256) z)).1 := ML.wt.trans ML.con
            have moA : MO n z (conP tx n (wtR tx n (isS z 256) z)).1 := MO.wt.trans MO.con
            generalize conP tx n (wtR tx n (isS z 256) z) = A at gA mA moA ⊢
            have gB : GW A.1 (conP tx n (wtR tx n (isW A.1 24) A.1)) 30 31 := (GW.con (by decide) (by decide)).pre ML.wt ML.con
            have mB : ML A.1 (conP tx n (wtR tx n (isW A.1 24) A.1)).1 := ML.wt.trans ML.con
            have moB : MO n A.1 (conP tx n (wtR tx n (isW A.1 24) A.1)).1 := MO.wt.trans MO.con
            generalize conP tx n (wtR tx n (isW A.1 24) A.1) = B at gB mB moB ⊢
            have gC : GW B.1 (byP tx n B.1) 31 31 ∨ GW B.1 (byP tx n B.1) 31 32 := by
              unfold byP
              split
              · exact Or.inr ((GW.con (by decide) (by decide)).pre ML.nx ML.con)
              · exact Or.inl GW.nil
            have mC : ML B.1 (byP tx n B.1).1 := ML.by
            have moC : MO n B.1 (byP tx n B.1).1 := MO.by
            generalize byP tx n B.1 = C at gC mC moC ⊢
            have hC : IS n C.1 := (hx.mo moop).mo (((moz.trans moA).trans moB).trans moC)
            have gE : ∀ a, (a, (11 : Int32), 7, 0) ∈ grL → GW C.1 (bodP tx n (stmP tx n F) (wtR tx n (isW C.1 26) C.1) (frI C.1)) a 0 := fun a ha => (GW.bod hS (hC.mo MO.wt) ha).pre ML.wt (ML.bod hS.2.1)
            have mE : ML C.1 (bodP tx n (stmP tx n F) (wtR tx n (isW C.1 26) C.1) (frI C.1)).1 := ML.wt.trans (ML.bod hS.2.1)
            generalize bodP tx n (stmP tx n F) (wtR tx n (isW C.1 26) C.1) (frI C.1) = E at gE mE ⊢
            have gCE : GW B.1 (E.1, tap C.2 E.2) 31 0 := by
              rcases gC with gC | gC
              · exact gC.cat (gE 31 (by decide)) mC mE
              · exact gC.cat (gE 32 (by decide)) mC mE
            have gz : GW z (E.1, tap A.2 (tap B.2 (tap C.2 E.2))) 24 0 := gA.cat (gB.cat gCE mB (mC.trans mE)) mA ((mB.trans mC).trans mE)
            have mAll : ML z (clR (wtR tx n (isW E.1 27) E.1)) := (((mA.trans mB).trans mC).trans mE).trans (ML.wt.trans ML.clr)
            refine GW.pre (y := y) (GW.node (c := 24) (f := 0) (((gz.pre mz (((mA.trans mB).trans mC).trans mE)).post ML.wt).post ML.clr) (by decide) (by decide) (tn mAll)) mop (mz.trans mAll)
          · split
            · rename_i h
              split
              · exact GW.lf (by decide) (fun _ _ _ _ _ => vOK.free (by decide))
              · exact GW.lf (by decide) (fun _ _ _ _ _ => vOK.free (by decide))
            · exact GW.nil
end
