/-! 083: states go on: places grow, faults stay -/
def InvS (n : Nat) (s : PS) : Prop := sF s ≤ n ∧ sF s ≤ sB s ∧ sB s ≤ n ∧ (sK s ≠ 0 → sF s < sB s) ∧ (sN s).length ≤ sB s ∧ (sN s).flatten.length ≤ sB s ∧ sD s ≤ 60
def MO (n : Nat) (x y : RS) : Prop := (∀ e, x = .error e → y = .error e) ∧ (∀ s q, x = .ok s → y = .ok q → InvS n s → InvS n q ∧ sF s ≤ sF q ∧ sS q = sS s ∧ sD s ≤ sD q)
theorem MO.rfl' {n : Nat} {x : RS} : MO n x x := ⟨fun _ h => h, fun s q h1 h2 hi => by rw [h1] at h2; cases h2; exact ⟨hi, Nat.le_refl _, rfl, Nat.le_refl _⟩⟩
theorem MO.trans {n : Nat} {x y z : RS} (h1 : MO n x y) (h2 : MO n y z) : MO n x z := by
  refine ⟨fun e h => h2.1 e (h1.1 e h), fun s q hx hz hi => ?_⟩
  cases hy : y with
  | error e => rw [h2.1 e hy] at hz; cases hz
  | ok r =>
    have a := h1.2 s r hx hy hi
    have b := h2.2 r q hy hz a.1
    exact ⟨b.1, Nat.le_trans a.2.1 b.2.1, b.2.2.1.trans a.2.2.1, Nat.le_trans a.2.2.2 b.2.2.2⟩
theorem MO.fl {n : Nat} {x : RS} {c : Int32} : MO n x (flR c x) := ⟨fun e h => by rw [h]; rfl, fun s q h1 h2 _ => by rw [h1] at h2; cases h2⟩
theorem nx_ok {tx : Nat → Int32} {n : Nat} {s q : PS} (h : nxS tx n s = .ok q) (hi : InvS n s) : InvS n q ∧ sB s ≤ sF q ∧ sS q = sS s ∧ sD q = sD s := by
  unfold nxS at h
  split at h
  · rename_i h0
    cases h
    have l := lex_pos (N := sN s) hi.2.2.1 h0
    obtain ⟨i1, i2, i3, i4, i5, i6, i7⟩ := hi
    obtain ⟨l1, l2, l3, l4, l5, l6, l7⟩ := l
    exact ⟨⟨l2, l3, l4, l5, by show List.length _ ≤ _; simp only [sB, sN] at *; omega, by show List.length _ ≤ _; simp only [sB, sN] at *; omega, i7⟩, l1, rfl, rfl⟩
  · cases h
theorem MO.nx {tx : Nat → Int32} {n : Nat} {x : RS} : MO n x (nxR tx n x) := by
  refine ⟨fun e h => by rw [h]; rfl, fun s q h1 h2 hi => ?_⟩
  rw [h1] at h2
  have := nx_ok h2 hi
  exact ⟨this.1, Nat.le_trans hi.2.1 this.2.1, this.2.2.1, Nat.le_of_eq this.2.2.2.symm⟩
theorem MO.wt {tx : Nat → Int32} {n : Nat} {b : Bool} {x : RS} : MO n x (wtR tx n b x) := by
  unfold wtR
  split
  · exact MO.nx
  · exact MO.fl
theorem MO.op {n : Nat} {x : RS} : MO n x (opR x) := by
  refine ⟨fun e h => by rw [h]; rfl, fun s q h1 h2 hi => ?_⟩
  rw [h1] at h2
  unfold opR at h2
  dsimp only at h2
  split at h2
  · cases h2
  · rename_i hd
    cases h2
    obtain ⟨i1, i2, i3, i4, i5, i6, i7⟩ := hi
    exact ⟨⟨i1, i2, i3, i4, i5, i6, by show sD s + 1 ≤ 60; omega⟩, Nat.le_refl _, rfl, Nat.le_succ _⟩
/-- what was opened is closed -/
theorem MO.cl {n : Nat} {x y : RS} (h : MO n (opR x) y) : MO n x (clR y) := by
  refine ⟨fun e he => by rw [h.1 e (by rw [he]; rfl)]; rfl, fun s q h1 h2 hi => ?_⟩
  cases hy : y with
  | error e => rw [hy] at h2; cases h2
  | ok r =>
    rw [hy] at h2
    cases h2
    have ho : ∃ o, opR x = .ok o := by
      cases ho : opR x with
      | error e => have := h.1 e ho; rw [hy] at this; cases this
      | ok o => exact ⟨o, rfl⟩
    obtain ⟨o, ho⟩ := ho
    have a := MO.op.2 s o h1 ho hi
    have b := h.2 o r ho hy a.1
    have eo : sD o = sD s + 1 := by
      rw [h1] at ho
      unfold opR at ho
      dsimp only at ho
      split at ho
      · cases ho
      · cases ho; rfl
    obtain ⟨⟨i1, i2, i3, i4, i5, i6, i7⟩, b2, b3, b4⟩ := b
    exact ⟨⟨i1, i2, i3, i4, i5, i6, by show sD r - 1 ≤ 60; omega⟩, Nat.le_trans a.2.1 b2, b3.trans a.2.2.1, by show sD s ≤ sD r - 1; omega⟩
/-- a token that is no END is gone over: the place grows -/
theorem nx_lt {tx : Nat → Int32} {n : Nat} {s q : PS} (h : nxR tx n (.ok s) = .ok q) (hi : InvS n s) (hk : sK s ≠ 0) : sF s < sF q := by
  have := nx_ok h hi
  have := hi.2.2.2.1 hk
  omega
section
variable {tx : Nat → Int32} {n : Nat}
theorem MO.ite {x a b : RS} {c : Prop} [Decidable c] (h1 : MO n x a) (h2 : MO n x b) : MO n x (if c then a else b) := by split <;> assumption
theorem MO.ite1 {x : RS} {a b : RS × Tr} {c : Prop} [Decidable c] (h1 : MO n x a.1) (h2 : MO n x b.1) : MO n x (if c then a else b).1 := by split <;> assumption
theorem MO.sim {x : RS} : MO n x (simP tx n x).1 := MO.ite1 MO.nx MO.fl
theorem MO.cnu {x : RS} {p : Int32} {m : Bool} : MO n x (cnuP tx n x p m).1 := MO.ite1 MO.nx MO.fl
theorem MO.con {x : RS} : MO n x (conP tx n x).1 := MO.ite1 MO.nx (MO.trans (MO.ite MO.nx MO.rfl') MO.cnu)
theorem MO.arr {x : RS} : MO n x (arrP tx n x).1 := ((((((MO.nx.trans MO.wt).trans MO.con).trans MO.wt).trans MO.con).trans MO.wt).trans MO.wt).trans MO.sim
theorem MO.typ {x : RS} : MO n x (typP tx n x).1 := MO.ite1 MO.nx (MO.ite1 MO.arr MO.sim)
theorem MO.nml : ∀ (f : Nat) {x : RS}, MO n x (nmlP tx n f x).1 := by
  intro f
  induction f with
  | zero => intro x; exact MO.rfl'
  | succ f ih => intro x; unfold nmlP; exact MO.ite1 ((MO.wt.trans MO.nx).trans ih) MO.wt
theorem MO.at {x : RS} : MO n x (atP tx n x).1 := MO.ite1 (MO.ite1 (MO.nx.trans MO.nx) (MO.nx.trans MO.fl)) MO.rfl'
theorem MO.ini {x : RS} : MO n x (iniP tx n x).1 := MO.ite1 (MO.nx.trans MO.con) MO.rfl'
theorem MO.dec {x : RS} : MO n x (decP tx n x).1 := MO.ite1 ((((((MO.nml _).trans MO.at).trans MO.wt).trans MO.typ).trans MO.ini).trans MO.wt) MO.fl
theorem MO.dcl : ∀ (f : Nat) {x : RS}, MO n x (dclP tx n f x).1 := by
  intro f
  induction f with
  | zero => intro x; exact MO.rfl'
  | succ f ih => intro x; unfold dclP; exact MO.ite1 (MO.dec.trans ih) MO.rfl'
theorem MO.sec {x : RS} : MO n x (secP tx n x).1 := (MO.nx.trans (MO.dcl _)).trans MO.wt
theorem MO.scs : ∀ (f : Nat) {x : RS} {b : Int32}, MO n x (scsP tx n f x b).1 := by
  intro f
  induction f with
  | zero => intro x b; exact MO.rfl'
  | succ f ih =>
    intro x b
    unfold scsP
    split
    · exact MO.sec.trans ih
    · exact MO.rfl'
theorem MO.exl {opd : RS → RS × Tr} (ho : ∀ x, MO n x (opd x).1) : ∀ (f : Nat) {x : RS}, MO n x (exlP tx n opd f x).1 := by
  intro f
  induction f with
  | zero => intro x; exact MO.rfl'
  | succ f ih =>
    intro x
    unfold exlP
    split
    · exact ((MO.op.trans MO.nx).trans (ho _)).trans ih
    · exact MO.rfl'
theorem MO.ex {opd : RS → RS × Tr} (ho : ∀ x, MO n x (opd x).1) {x : RS} : MO n x (exP tx n opd x).1 := by
  cases x with
  | error e => exact ⟨fun e h => h, fun s q h _ _ => by cases h⟩
  | ok s =>
    refine ⟨fun e h => (by cases h), fun s' q h1 h2 hi => ?_⟩
    cases h1
    have h2 : enX s (exlP tx n opd (n + 1) (opd (.ok (sDS s (sD s) (sS s + 1)))).1).1 = .ok q := h2
    have m := (ho (.ok (sDS s (sD s) (sS s + 1)))).trans (MO.exl (tx := tx) ho (n + 1))
    cases hy : (exlP tx n opd (n + 1) (opd (.ok (sDS s (sD s) (sS s + 1)))).1).1 with
    | error e => rw [hy] at h2; cases h2
    | ok r =>
      rw [hy] at h2
      cases h2
      obtain ⟨i1, i2, i3, i4, i5, i6, i7⟩ := hi
      have a := m.2 _ r rfl hy ⟨i1, i2, i3, i4, i5, i6, i7⟩
      obtain ⟨⟨j1, j2, j3, j4, j5, j6, j7⟩, a2, a3, a4⟩ := a
      have a4 : sD s ≤ sD r := a4
      refine ⟨⟨j1, j2, j3, j4, j5, j6, ?_⟩, a2, rfl, ?_⟩
      · show (if sS s = 0 then sD s else sD r) ≤ 60
        split <;> assumption
      · show sD s ≤ (if sS s = 0 then sD s else sD r)
        split
        · exact Nat.le_refl _
        · exact a4
theorem MO.arl {E : RS → RS × Tr} (hE : ∀ x, MO n x (E x).1) : ∀ (f : Nat) {x : RS}, MO n x (arlP tx n E f x).1 := by
  intro f
  induction f with
  | zero => intro x; exact MO.rfl'
  | succ f ih => intro x; unfold arlP; exact MO.ite1 (((hE _).trans MO.nx).trans ih) (hE _)
theorem MO.ix {E : RS → RS × Tr} (hE : ∀ x, MO n x (E x).1) {x : RS} : MO n x (ixP tx n E x).1 := MO.cl ((MO.nx.trans (hE _)).trans MO.wt)
theorem MO.ag {E : RS → RS × Tr} (hE : ∀ x, MO n x (E x).1) {x : RS} : MO n x (agP tx n E x).1 := MO.cl (MO.trans (MO.nx.trans (MO.ite1 MO.rfl' (MO.arl hE _))) MO.wt)
theorem MO.out {x : RS} {p v : Int32} : MO n x (outP tx n x p v).1 := MO.ite1 (MO.nx.trans MO.wt) MO.rfl'
theorem MO.nop {E : RS → RS × Tr} (hE : ∀ x, MO n x (E x).1) {x : RS} : MO n x (nopP tx n E x).1 := MO.ite1 (MO.nx.trans (MO.ix hE)) (MO.ite1 (MO.nx.trans (MO.ag hE)) (MO.nx.trans MO.out))
theorem MO.opd : ∀ (f : Nat) {x : RS}, MO n x (opdP tx n f x).1 := by
  intro f
  induction f with
  | zero => intro x; exact MO.rfl'
  | succ f ih =>
    intro x
    unfold opdP
    exact MO.ite1 (MO.cl (MO.nx.trans ih)) (MO.ite1 (MO.cl ((MO.nx.trans (MO.ex (fun _ => ih))).trans MO.wt)) (MO.ite1 MO.nx (MO.ite1 MO.nx (MO.ite1 (MO.nop (fun _ => MO.ex (fun _ => ih))) MO.fl))))
theorem MO.exp {x : RS} : MO n x (expP tx n x).1 := MO.ex (fun _ => MO.opd _)
theorem MO.prl : ∀ (f : Nat) {x : RS}, MO n x (prlP tx n f x).1 := by
  intro f
  induction f with
  | zero => intro x; exact MO.rfl'
  | succ f ih => intro x; unfold prlP; exact MO.ite1 ((((MO.wt.trans MO.wt).trans MO.exp).trans MO.nx).trans ih) ((MO.wt.trans MO.wt).trans MO.exp)
theorem MO.inv {x : RS} : MO n x (invP tx n x).1 := MO.cl (MO.trans (MO.nx.trans (MO.ite1 MO.rfl' (MO.prl _))) MO.wt)
theorem MO.tgt {x : RS} {p v : Int32} : MO n x (tgtP tx n x p v).1 := MO.ite1 (MO.ix (fun _ => MO.exp)) MO.rfl'
theorem MO.nam {x : RS} : MO n x (namP tx n x).1 := MO.ite1 (MO.nx.trans MO.inv) (((MO.nx.trans MO.tgt).trans MO.wt).trans MO.exp)
theorem MO.bdl {S : RS → RS × Tr} (hS : ∀ x, MO n x (S x).1) : ∀ (f : Nat) {x : RS}, MO n x (bdlP tx n S f x).1 := by
  intro f
  induction f with
  | zero => intro x; exact MO.rfl'
  | succ f ih => intro x; unfold bdlP; exact MO.ite1 (((hS _).trans MO.wt).trans ih) MO.rfl'
theorem MO.bod {S : RS → RS × Tr} (hS : ∀ x, MO n x (S x).1) {x : RS} {p : Int32} : MO n x (bodP tx n S x p).1 := MO.bdl hS _
theorem MO.oth {S : RS → RS × Tr} (hS : ∀ x, MO n x (S x).1) {x : RS} : MO n x (othP tx n S x).1 := MO.ite1 (MO.nx.trans (MO.bod (p := 0) hS)) MO.rfl'
theorem MO.ifl {S : RS → RS × Tr} (hS : ∀ x, MO n x (S x).1) : ∀ (f : Nat) {x : RS}, MO n x (iflP tx n S f x).1 := by
  intro f
  induction f with
  | zero => intro x; exact MO.rfl'
  | succ f ih => intro x; unfold iflP; exact MO.ite1 ((((MO.nx.trans MO.exp).trans MO.wt).trans (MO.bod (p := 0) hS)).trans ih) (((MO.nx.trans MO.exp).trans MO.wt).trans (MO.bod (p := 0) hS))
theorem MO.rg2 {x : RS} : MO n x (rg2P tx n x).1 := MO.ite1 (MO.nx.trans MO.con) MO.rfl'
theorem MO.rgl : ∀ (f : Nat) {x : RS}, MO n x (rglP tx n f x).1 := by
  intro f
  induction f with
  | zero => intro x; exact MO.rfl'
  | succ f ih => intro x; unfold rglP; exact MO.ite1 (((MO.con.trans MO.rg2).trans MO.nx).trans ih) (MO.con.trans MO.rg2)
theorem MO.cao {S : RS → RS × Tr} (hS : ∀ x, MO n x (S x).1) {x : RS} : MO n x (caoP tx n S x).1 := ((MO.rgl _).trans MO.wt).trans (MO.bod (p := 0) hS)
theorem MO.cal {S : RS → RS × Tr} (hS : ∀ x, MO n x (S x).1) : ∀ (f : Nat) {x : RS}, MO n x (calP tx n S f x).1 := by
  intro f
  induction f with
  | zero => intro x; exact MO.rfl'
  | succ f ih => intro x; unfold calP; exact MO.ite1 ((MO.cao hS).trans ih) MO.rfl'
theorem MO.if {S : RS → RS × Tr} (hS : ∀ x, MO n x (S x).1) {x : RS} : MO n x (ifP tx n S x).1 := MO.cl (((MO.ifl hS _).trans (MO.oth hS)).trans MO.wt)
theorem MO.ca {S : RS → RS × Tr} (hS : ∀ x, MO n x (S x).1) {x : RS} : MO n x (caP tx n S x).1 := MO.cl (((((MO.nx.trans MO.exp).trans MO.wt).trans (MO.cal hS _)).trans (MO.oth hS)).trans MO.wt)
theorem MO.by {x : RS} : MO n x (byP tx n x).1 := MO.ite1 (MO.nx.trans MO.con) MO.rfl'
theorem MO.fo {S : RS → RS × Tr} (hS : ∀ x, MO n x (S x).1) {x : RS} : MO n x (foP tx n S x).1 := MO.cl (((((((((MO.nx.trans MO.wt).trans MO.wt).trans MO.con).trans MO.wt).trans MO.con).trans MO.by).trans MO.wt).trans (MO.bod (p := 0) hS)).trans MO.wt)
theorem MO.stm : ∀ (f : Nat) {x : RS}, MO n x (stmP tx n f x).1 := by
  intro f
  induction f with
  | zero => intro x; exact MO.rfl'
  | succ f ih => intro x; unfold stmP; exact MO.ite1 MO.nam (MO.ite1 (MO.if (fun _ => ih)) (MO.ite1 (MO.ca (fun _ => ih)) (MO.ite1 (MO.fo (fun _ => ih)) (MO.ite1 MO.nx MO.rfl'))))
theorem MO.cel {x : RS} : MO n x (celP tx n x).1 := MO.ite1 MO.rfl' (MO.ite1 MO.nx (MO.ite1 (((MO.nx.trans (MO.ite MO.nx MO.rfl')).trans MO.wt).trans MO.wt) (((MO.ite MO.nx MO.rfl').trans MO.wt).trans MO.out)))
theorem MO.rwl : ∀ (f : Nat) {x : RS}, MO n x (rwlP tx n f x).1 := by
  intro f
  induction f with
  | zero => intro x; exact MO.rfl'
  | succ f ih => intro x; unfold rwlP; exact MO.ite1 (((MO.ite MO.nx MO.rfl').trans MO.cel).trans ih) MO.rfl'
theorem MO.row {x : RS} : MO n x (rowP tx n x).1 := (MO.cel.trans (MO.rwl _)).trans MO.wt
theorem MO.rnl : ∀ (f : Nat) {x : RS}, MO n x (rnlP tx n f x).1 := by
  intro f
  induction f with
  | zero => intro x; exact MO.rfl'
  | succ f ih => intro x; unfold rnlP; exact MO.ite1 (MO.row.trans ih) MO.row
theorem MO.rng {x : RS} : MO n x (rngP tx n x).1 := (MO.nx.trans (MO.rnl _)).trans MO.wt
theorem MO.lal : ∀ (f : Nat) {x : RS}, MO n x (lalP tx n f x).1 := by
  intro f
  induction f with
  | zero => intro x; exact MO.rfl'
  | succ f ih => intro x; unfold lalP; exact MO.ite1 (MO.rng.trans ih) MO.rfl'
theorem MO.lad {x : RS} : MO n x (ladP tx n x).1 := (MO.nx.trans (MO.lal _)).trans MO.wt
theorem MO.fnh {x : RS} {b : Bool} {p : Int32} : MO n x (fnhP tx n x b p).1 := by
  unfold fnhP
  split
  · exact MO.wt.trans MO.sim
  · exact MO.rfl'
theorem MO.lor {x : RS} {p : Int32} : MO n x (lorP tx n x p).1 := MO.ite1 MO.lad (MO.bod (p := 0) (fun _ => MO.stm _))
theorem MO.blk {x : RS} : MO n x (blkP tx n x).1 := MO.ite1 (((((MO.nx.trans MO.wt).trans MO.fnh).trans (MO.scs _)).trans MO.lor).trans MO.wt) MO.fl
theorem MO.bkl : ∀ (f : Nat) {x : RS}, MO n x (bklP tx n f x).1 := by
  intro f
  induction f with
  | zero => intro x; exact MO.rfl'
  | succ f ih => intro x; unfold bklP; exact MO.ite1 (MO.blk.trans ih) MO.rfl'
end
