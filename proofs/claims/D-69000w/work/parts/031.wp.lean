/-! 031: contracts, blocks, and what an instruction asks -/
def rmD (d k n : Nat) : Room := { frames := d, cells := k, slots := n, locals := 60 * d }
def Cx (mi : MI) (p : Program) (s : State) (m : MethodId) (args : Array Value) (meth : Method) (c : Code) : Prop :=
  CallFix p m c mi.2.1 mi.2.2.1 s args gtbl mi.1.cls ∧ meth.sig.returnType = mi.2.2.2 ∧ meth.locks = false
/-- how a method ends: what it answers, the memory behind it -/
def qR (w : Wd) (Q : Option AV → Sg → Prop) : Array Value → State → Outcome → State → Prop := fun _ st oc t =>
  (∃ (v : Option AV) (σ' : Sg), oc = .returned (v.map (enc w)) ∧ Q v σ' ∧ Rel w σ' t.heap) ∧ va_F (AA w) st t
def wsM (mi : MI) : List Cond := Cond.code mi.1 mi.2.1 mi.2.2.1 mi.2.2.2 :: gtbl
/-- CONTRACT: method e, called with avs over memory σ, with room for d calls one within the other, at most k new cells of n places: it ends, with Q -/
def OkG (w : Wd) (d k n e : Nat) (avs : List AV) (σ : Sg) (Q : Option AV → Sg → Prop) : Prop :=
  ∀ mi, mths[e]? = some mi → ∀ l : Launch, Met l mi.1 (wsM mi) (rmD d k n) (va_Pc (avs.map (enc w)) (fun U => Rel w σ U.heap ∧ Kn w U)) (qR w Q) k n (AA w)
def qi (Q : Int32 → Sg → Prop) : Option AV → Sg → Prop := fun v s => match v with
  | some (.inr (.int x)) => Q x s
  | _ => False
def ql (Q : Int64 → Sg → Prop) : Option AV → Sg → Prop := fun v s => match v with
  | some (.inr (.long x)) => Q x s
  | _ => False
def qv (Q : Sg → Prop) : Option AV → Sg → Prop := fun v s => match v with
  | none => Q s
  | _ => False
def qr (Qn : Sg → Prop) (Q : Nat → Sg → Prop) : Option AV → Sg → Prop := fun v s => match v with
  | some (.inr .null) => Qn s
  | some (.inr (.ref a)) => Q a s
  | _ => False
theorem qi_inv {Q : Int32 → Sg → Prop} {v : Option AV} {s : Sg} (h : qi Q v s) : ∃ x, v = some (.inr (.int x)) ∧ Q x s := by
  unfold qi at h; split at h
  · exact ⟨_, rfl, h⟩
  · exact h.elim
theorem ql_inv {Q : Int64 → Sg → Prop} {v : Option AV} {s : Sg} (h : ql Q v s) : ∃ x, v = some (.inr (.long x)) ∧ Q x s := by
  unfold ql at h; split at h
  · exact ⟨_, rfl, h⟩
  · exact h.elim
theorem qv_inv {Q : Sg → Prop} {v : Option AV} {s : Sg} (h : qv Q v s) : v = none ∧ Q s := by
  unfold qv at h; split at h
  · exact ⟨rfl, h⟩
  · exact h.elim
theorem qr_inv {Qn : Sg → Prop} {Q : Nat → Sg → Prop} {v : Option AV} {s : Sg} (h : qr Qn Q v s) : (v = some (.inr .null) ∧ Qn s) ∨ ∃ a, v = some (.inr (.ref a)) ∧ Q a s := by
  unfold qr at h; split at h
  · exact Or.inl ⟨rfl, h⟩
  · exact Or.inr ⟨_, rfl, h⟩
  · exact h.elim
def OkI (w : Wd) (d e : Nat) (avs : List AV) (σ : Sg) (Q : Int32 → Sg → Prop) : Prop := OkG w d 0 0 e avs σ (qi Q)
def OkL (w : Wd) (d e : Nat) (avs : List AV) (σ : Sg) (Q : Int64 → Sg → Prop) : Prop := OkG w d 0 0 e avs σ (ql Q)
def OkV (w : Wd) (d e : Nat) (avs : List AV) (σ : Sg) (Q : Sg → Prop) : Prop := OkG w d 0 0 e avs σ (qv Q)
/-- entries of locals that are known -/
def asgF (w : Wd) : Nat → Lo → List (Nat × Value)
  | _, [] => []
  | i, none :: r => asgF w (i + 1) r
  | i, some v :: r => (i, enc w v) :: asgF w (i + 1) r
abbrev asg (w : Wd) (lo : Lo) : List (Nat × Value) := asgF w 0 lo
/-- A PLACE in method e: whoever stands there, with these locals and this stack, over memory σ, comes to its end with Q -/
def Bk (w : Wd) (d k n e c0 s0 : Nat) (Q : Option AV → Sg → Prop) (pc : Nat) (lo : Lo) (st : List AV) (σ : Sg) : Prop :=
  1 ≤ d → c0 ≤ k → s0 ≤ n → ∀ mi, mths[e]? = some mi → ∀ (p : Program) (l : Launch) (ev : Env) (s : State) (m : MethodId) (args : Array Value) (below : List Frame) (meth : Method) (c : Code) (H : Heap) (locs : List Loc) (ls : Array Slot),
    Cx mi p s m args meth c → Kn w s → Rel w σ H → va_S (AA w) s.heap H locs → lv_has ls mi.2.2.1 (asg w lo) →
    W p l ev (rmD d k n) s m args below meth c H locs c0 s0 (MQ below (qR w Q) args s k n (AA w)) (F0 m pc ls (st.map (enc w)))
/-- an instruction as it stands: itself, a number of ours (target, field, method), the next place, constants, a switch's ways, three more numbers -/
abbrev It : Type := Instr × Nat × Nat × Int32 × Int64 × List (Int32 × Nat) × Nat × Nat × Nat
def catA : AV → Nat
  | .inl _ => 1
  | .inr v => v.category
def kl (lo : Lo) (i : Nat) : Lo := match i with
  | 0 => lo
  | j + 1 => match lo[j]? with
    | some (some v) => bif Nat.beq (catA v) 2 then lo.set j none else lo
    | _ => lo
def sto1 (lo : Lo) (i : Nat) (v : AV) : Lo := (kl lo i).set i (some v)
def sto2 (lo : Lo) (i : Nat) (v : AV) : Lo := ((kl lo i).set i (some v)).set (i + 1) none
/-- the same with what comes behind, so that lists stay in the open -/
def setK (lo : Lo) (i : Nat) (v : Option AV) (k : Lo → Prop) : Prop := match lo, i with
  | [], _ => k []
  | _ :: r, 0 => k (v :: r)
  | x :: r, i + 1 => setK r i v (fun r' => k (x :: r'))
def getK (lo : Lo) (i : Nat) (k : Option AV → Prop) : Prop := match lo, i with
  | [], _ => k none
  | x :: _, 0 => k x
  | _ :: r, i + 1 => getK r i k
def klK (lo : Lo) (i : Nat) (k : Lo → Prop) : Prop := match i with
  | 0 => k lo
  | j + 1 => getK lo j (fun x => match x with
    | some v => bif Nat.beq (catA v) 2 then setK lo j none k else k lo
    | none => k lo)
def sto1K (lo : Lo) (i : Nat) (v : AV) (k : Lo → Prop) : Prop := klK lo i (fun lo => setK lo i (some v) k)
def sto2K (lo : Lo) (i : Nat) (v : AV) (k : Lo → Prop) : Prop := klK lo i (fun lo => setK lo i (some v) (fun lo => setK lo (i + 1) none k))
def popK (y : Nat) (st acc : List AV) (k : List AV → List AV → Prop) : Prop := match y, st with
  | 0, st => k acc st
  | y + 1, v :: st => popK y st (v :: acc) k
  | _ + 1, [] => False
theorem setK_eq : ∀ (lo : Lo) (i : Nat) (v : Option AV) (k : Lo → Prop), setK lo i v k = k (lo.set i v) := by
  intro lo
  induction lo with
  | nil => intro i v k; rfl
  | cons x r ih =>
    intro i v k
    cases i with
    | zero => rfl
    | succ i => show setK r i v (fun r' => k (x :: r')) = _; rw [ih]; rfl
theorem getK_eq : ∀ (lo : Lo) (i : Nat) (k : Option AV → Prop), getK lo i k = k (lo[i]?.getD none) := by
  intro lo
  induction lo with
  | nil => intro i k; rfl
  | cons x r ih =>
    intro i k
    cases i with
    | zero => rfl
    | succ i => show getK r i k = _; rw [ih]; simp
theorem klK_eq (lo : Lo) (i : Nat) (k : Lo → Prop) : klK lo i k = k (kl lo i) := by
  cases i with
  | zero => rfl
  | succ j =>
    show getK lo j _ = k (match lo[j]? with
      | some (some v) => bif Nat.beq (catA v) 2 then lo.set j none else lo
      | _ => lo)
    rw [getK_eq]
    cases lo[j]? with
    | none => rfl
    | some x =>
      cases x with
      | none => rfl
      | some v =>
        show (bif Nat.beq (catA v) 2 then setK lo j none k else k lo) = k (bif Nat.beq (catA v) 2 then lo.set j none else lo)
        cases Nat.beq (catA v) 2 with
        | true => exact setK_eq _ _ _ _
        | false => rfl
theorem sto1K_eq (lo : Lo) (i : Nat) (v : AV) (k : Lo → Prop) : sto1K lo i v k = k (sto1 lo i v) := by
  unfold sto1K; rw [klK_eq, setK_eq]; rfl
theorem sto2K_eq (lo : Lo) (i : Nat) (v : AV) (k : Lo → Prop) : sto2K lo i v k = k (sto2 lo i v) := by
  unfold sto2K; rw [klK_eq, setK_eq, setK_eq]; rfl
theorem popK_inv : ∀ (y : Nat) (st acc : List AV) (k : List AV → List AV → Prop), popK y st acc k → y ≤ st.length ∧ k ((st.take y).reverse ++ acc) (st.drop y) := by
  intro y
  induction y with
  | zero => intro st acc k h; exact ⟨Nat.zero_le _, h⟩
  | succ y ih =>
    intro st acc k h
    cases st with
    | nil => exact h.elim
    | cons v st =>
      obtain ⟨h1, h2⟩ := ih st (v :: acc) k h
      refine ⟨by simpa using h1, ?_⟩
      rw [List.take_succ_cons, List.reverse_cons, List.append_assoc]
      exact h2
def ldI (lo : Lo) (i : Nat) (f : Int32 → Prop) : Prop := match lo[i]? with
  | some (some (.inr (.int x))) => f x
  | _ => False
def ldL (lo : Lo) (i : Nat) (f : Int64 → Prop) : Prop := match lo[i]? with
  | some (some (.inr (.long x))) => f x
  | _ => False
def ldA (lo : Lo) (i : Nat) (f : AV → Prop) : Prop := match lo[i]? with
  | some (some (.inl k)) => f (.inl k)
  | some (some (.inr (.ref a))) => f (.inr (.ref a))
  | some (some (.inr .null)) => f (.inr .null)
  | _ => False
def p1 (st : List AV) (f : AV → List AV → Prop) : Prop := match st with
  | v :: r => f v r
  | _ => False
def p1i (st : List AV) (f : Int32 → List AV → Prop) : Prop := match st with
  | .inr (.int x) :: r => f x r
  | _ => False
def p1l (st : List AV) (f : Int64 → List AV → Prop) : Prop := match st with
  | .inr (.long x) :: r => f x r
  | _ => False
def p1r (st : List AV) (f : AV → List AV → Prop) : Prop := match st with
  | .inl k :: r => f (.inl k) r
  | .inr (.ref a) :: r => f (.inr (.ref a)) r
  | .inr .null :: r => f (.inr .null) r
  | _ => False
def p1c (st : List AV) (f : Nat → List AV → Prop) : Prop := match st with
  | .inl k :: r => f k r
  | _ => False
def p2i (st : List AV) (f : Int32 → Int32 → List AV → Prop) : Prop := match st with
  | .inr (.int y) :: .inr (.int x) :: r => f x y r
  | _ => False
def p2l (st : List AV) (f : Int64 → Int64 → List AV → Prop) : Prop := match st with
  | .inr (.long y) :: .inr (.long x) :: r => f x y r
  | _ => False
/-- an index and a row's id -/
def pix (st : List AV) (f : Int32 → Nat → List AV → Prop) : Prop := match st with
  | .inr (.int i) :: .inl k :: r => f i k r
  | _ => False
/-- the kind and length of a row; of one outside, too -/
def rowK (k : Nat) : Option (Nat × Nat) := bif Nat.blt k 1000 then rowTr k else (match extT[k - 1000]? with | some x => some (x.2.2.1, x.2.2.2.length) | none => none)
/-- what a row holds -/
def rdI (σ : Sg) (k : Nat) (i : Nat) : Int32 := bif Nat.blt k 1000 then σ.1 k i else (match extT[k - 1000]? with | some x => x.2.2.2.getD i 0 | none => 0)
def fkd (k c j : Nat) : Option Nat := bif Nat.beq k (oidA c) && Nat.ble c 15 && Nat.ble j 127 then fkT (c * 128 + j) else none
def cc0 (c : Jvm.ClassFile.Cond) (x : Int32) : Prop := match c with
  | .eq => x = 0 | .ne => ¬ x = 0 | .lt => x < 0 | .ge => 0 ≤ x | .gt => 0 < x | .le => x ≤ 0
def cc2 (c : Jvm.ClassFile.Cond) (x y : Int32) : Prop := match c with
  | .eq => x = y | .ne => ¬ x = y | .lt => x < y | .ge => y ≤ x | .gt => y < x | .le => x ≤ y
def cn0 (c : Jvm.ClassFile.Cond) (x : Int32) : Prop := match c with
  | .eq => ¬ x = 0 | .ne => x = 0 | .lt => ¬ x < 0 | .ge => ¬ 0 ≤ x | .gt => ¬ 0 < x | .le => ¬ x ≤ 0
def cn2 (c : Jvm.ClassFile.Cond) (x y : Int32) : Prop := match c with
  | .eq => ¬ x = y | .ne => x = y | .lt => ¬ x < y | .ge => ¬ y ≤ x | .gt => ¬ y < x | .le => ¬ x ≤ y
def swP (x : Int32) (dflt : Nat) (K : Nat → Prop) : List (Int32 × Nat) → Prop
  | [] => K dflt
  | q :: r => (x = q.1 → K q.2) ∧ (¬ x = q.1 → swP x dflt K r)
def catS (st : List AV) : Nat := match st with
  | [] => 0
  | v :: r => catA v + catS r
/-- the receiver of a call of method e is of its class -/
def rcvB (e : Nat) (av : AV) : Bool := match av with
  | .inl k => bif Nat.blt k 1000 then (match kds[k]?, mths[e]? with
    | some (.inl q), some mi => (match classes[q.1]? with | some c => decide (c.1 = mi.1.cls) | none => false)
    | _, _ => false) else false
  | _ => false
/-- the receiver is of class number c -/
def rcvC (sw : List (Int32 × Nat)) (av : AV) : Bool := match av, sw with
  | .inl k, [p] => (match objC k with | some c => Nat.beq c p.2 | none => false)
  | _, _ => false
/-- a text: one of the constants, or one that was made on the way -/
def strR (σ : Sg) (av : AV) : Prop := match av with
  | .inl k => bif Nat.ble 1100 k && Nat.blt k 1115 then True else False
  | .inr (.ref a) => ∃ v bs, (a, v, bs) ∈ σ.2.2
  | _ => False
/-- a call of method a with y values from the stack, by what comes back -/
def wpS (w : Wd) (d k n c0 s0 a r : Nat) (lo : Lo) (args rest : List AV) (σ : Sg) (C : Nat → Nat → Lo → List AV → Sg → Prop) : Prop := match r with
  | 0 => OkV w (d - 1) a args σ (fun σ' => C c0 s0 lo rest σ')
  | 1 => OkI w (d - 1) a args σ (fun x σ' => C c0 s0 lo (.inr (.int x) :: rest) σ')
  | 2 => OkL w (d - 1) a args σ (fun x σ' => C c0 s0 lo (.inr (.long x) :: rest) σ')
  | 3 => ∃ kc nc, (c0 + kc ≤ k ∧ s0 + nc ≤ n) ∧ OkG w (d - 1) kc nc a args σ (qv (fun σ' => C (c0 + kc) (s0 + nc) lo rest σ'))
  | 4 => ∃ kc nc, (c0 + kc ≤ k ∧ s0 + nc ≤ n) ∧ OkG w (d - 1) kc nc a args σ (qi (fun x σ' => C (c0 + kc) (s0 + nc) lo (.inr (.int x) :: rest) σ'))
  | 5 => ∃ kc nc, (c0 + kc ≤ k ∧ s0 + nc ≤ n) ∧ OkG w (d - 1) kc nc a args σ (qr (fun σ' => C (c0 + kc) (s0 + nc) lo (.inr .null :: rest) σ') (fun a σ' => C (c0 + kc) (s0 + nc) lo (.inr (.ref a) :: rest) σ'))
  | 6 => strR σ (args.headD (.inr .null)) ∧ OkI w (d - 1) a args σ (fun x σ' => C c0 s0 lo (.inr (.int x) :: rest) σ')
  | 7 => strR σ (args.headD (.inr .null)) ∧ ∃ kc nc, (c0 + kc ≤ k ∧ s0 + nc ≤ n) ∧ OkG w (d - 1) kc nc a args σ (qr (fun _ => False) (fun a σ' => C (c0 + kc) (s0 + nc) lo (.inr (.ref a) :: rest) σ'))
  | _ => False
def wpM (c0 s0 a : Nat) (lo : Lo) (st : List AV) (σ : Sg) (C : Nat → Nat → Lo → List AV → Sg → Prop) : Prop := match a with
  | 0 => p2i st (fun x y r => C c0 s0 lo (.inr (.int (if x < y then y else x)) :: r) σ)
  | 1 => p2i st (fun x y r => C c0 s0 lo (.inr (.int (if y < x then y else x)) :: r) σ)
  | 2 => p2l st (fun x y r => C c0 s0 lo (.inr (.long (if y < x then x else y)) :: r) σ)
  | 3 => p2l st (fun x y r => C c0 s0 lo (.inr (.long (if y < x then y else x)) :: r) σ)
  | _ => False
def wpC (c0 s0 : Nat) (lo : Lo) (st : List AV) (σ : Sg) (C : Nat → Nat → Lo → List AV → Sg → Prop) : Prop := match st with
  | .inr (.int n') :: .inr (.int dp) :: .inl kd :: .inr (.int sp) :: .inl ks :: r =>
    bif Nat.blt kd 1000 && Nat.blt ks 1000 then (match rowK ks, rowK kd with
      | some (0, z0), some (0, z1) => ¬ sp < 0 ∧ ¬ dp < 0 ∧ ¬ n' < 0 ∧ sp.toNatClampNeg + n'.toNatClampNeg ≤ z0 ∧ dp.toNatClampNeg + n'.toNatClampNeg ≤ z1 ∧ C c0 s0 lo r (cpI σ ks kd sp.toNatClampNeg dp.toNatClampNeg n'.toNatClampNeg)
      | some (1, z0), some (1, z1) => ¬ sp < 0 ∧ ¬ dp < 0 ∧ ¬ n' < 0 ∧ sp.toNatClampNeg + n'.toNatClampNeg ≤ z0 ∧ dp.toNatClampNeg + n'.toNatClampNeg ≤ z1 ∧ (∀ i, i < n'.toNatClampNeg → fits .byte (.int (σ.1 ks (sp.toNatClampNeg + i))) = true) ∧ C c0 s0 lo r (cpI σ ks kd sp.toNatClampNeg dp.toNatClampNeg n'.toNatClampNeg)
      | _, _ => False) else False
  | _ => False
def w_aconst_null (c0 : Nat) (s0 : Nat) (lo : Lo) (st : List AV) (σ : Sg) (C : Nat → Nat → Lo → List AV → Sg → Prop) : Prop := C c0 s0 lo (.inr .null :: st) σ
def w_aload (i : Nat) (c0 : Nat) (s0 : Nat) (lo : Lo) (st : List AV) (σ : Sg) (C : Nat → Nat → Lo → List AV → Sg → Prop) : Prop := ldA lo i (fun v => C c0 s0 lo (v :: st) σ)
def w_aload_n (i : Fin 4) (c0 : Nat) (s0 : Nat) (lo : Lo) (st : List AV) (σ : Sg) (C : Nat → Nat → Lo → List AV → Sg → Prop) : Prop := ldA lo i.val (fun v => C c0 s0 lo (v :: st) σ)
def w_iload (i : Nat) (c0 : Nat) (s0 : Nat) (lo : Lo) (st : List AV) (σ : Sg) (C : Nat → Nat → Lo → List AV → Sg → Prop) : Prop := ldI lo i (fun x => C c0 s0 lo (.inr (.int x) :: st) σ)
def w_iload_n (i : Fin 4) (c0 : Nat) (s0 : Nat) (lo : Lo) (st : List AV) (σ : Sg) (C : Nat → Nat → Lo → List AV → Sg → Prop) : Prop := ldI lo i.val (fun x => C c0 s0 lo (.inr (.int x) :: st) σ)
def w_lload (i : Nat) (c0 : Nat) (s0 : Nat) (lo : Lo) (st : List AV) (σ : Sg) (C : Nat → Nat → Lo → List AV → Sg → Prop) : Prop := ldL lo i (fun x => C c0 s0 lo (.inr (.long x) :: st) σ)
def w_lload_n (i : Fin 4) (c0 : Nat) (s0 : Nat) (lo : Lo) (st : List AV) (σ : Sg) (C : Nat → Nat → Lo → List AV → Sg → Prop) : Prop := ldL lo i.val (fun x => C c0 s0 lo (.inr (.long x) :: st) σ)
def w_astore (i : Nat) (c0 : Nat) (s0 : Nat) (lo : Lo) (st : List AV) (σ : Sg) (C : Nat → Nat → Lo → List AV → Sg → Prop) : Prop := p1r st (fun v r => sto1K lo i v (fun lo => C c0 s0 lo r σ))
def w_astore_n (i : Fin 4) (c0 : Nat) (s0 : Nat) (lo : Lo) (st : List AV) (σ : Sg) (C : Nat → Nat → Lo → List AV → Sg → Prop) : Prop := p1r st (fun v r => sto1K lo i.val v (fun lo => C c0 s0 lo r σ))
def w_istore (i : Nat) (c0 : Nat) (s0 : Nat) (lo : Lo) (st : List AV) (σ : Sg) (C : Nat → Nat → Lo → List AV → Sg → Prop) : Prop := p1i st (fun x r => sto1K lo i (.inr (.int x)) (fun lo => C c0 s0 lo r σ))
def w_istore_n (i : Fin 4) (c0 : Nat) (s0 : Nat) (lo : Lo) (st : List AV) (σ : Sg) (C : Nat → Nat → Lo → List AV → Sg → Prop) : Prop := p1i st (fun x r => sto1K lo i.val (.inr (.int x)) (fun lo => C c0 s0 lo r σ))
def w_lstore (i : Nat) (c0 : Nat) (s0 : Nat) (lo : Lo) (st : List AV) (σ : Sg) (C : Nat → Nat → Lo → List AV → Sg → Prop) : Prop := p1l st (fun x r => sto2K lo i (.inr (.long x)) (fun lo => C c0 s0 lo r σ))
def w_lstore_n (i : Fin 4) (c0 : Nat) (s0 : Nat) (lo : Lo) (st : List AV) (σ : Sg) (C : Nat → Nat → Lo → List AV → Sg → Prop) : Prop := p1l st (fun x r => sto2K lo i.val (.inr (.long x)) (fun lo => C c0 s0 lo r σ))
def w_iinc (i : Nat) (qz : Int32) (c0 : Nat) (s0 : Nat) (lo : Lo) (st : List AV) (σ : Sg) (C : Nat → Nat → Lo → List AV → Sg → Prop) : Prop := ldI lo i (fun x => sto1K lo i (.inr (.int (x + qz))) (fun lo => C c0 s0 lo st σ))
def w_iconst (qz : Int32) (c0 : Nat) (s0 : Nat) (lo : Lo) (st : List AV) (σ : Sg) (C : Nat → Nat → Lo → List AV → Sg → Prop) : Prop := C c0 s0 lo (.inr (.int qz) :: st) σ
def w_bipush (qz : Int32) (c0 : Nat) (s0 : Nat) (lo : Lo) (st : List AV) (σ : Sg) (C : Nat → Nat → Lo → List AV → Sg → Prop) : Prop := C c0 s0 lo (.inr (.int qz) :: st) σ
def w_sipush (qz : Int32) (c0 : Nat) (s0 : Nat) (lo : Lo) (st : List AV) (σ : Sg) (C : Nat → Nat → Lo → List AV → Sg → Prop) : Prop := C c0 s0 lo (.inr (.int qz) :: st) σ
def w_ldc (qy : Nat) (qz : Int32) (qa : Nat) (c0 : Nat) (s0 : Nat) (lo : Lo) (st : List AV) (σ : Sg) (C : Nat → Nat → Lo → List AV → Sg → Prop) : Prop := bif Nat.beq qy 0 then C c0 s0 lo (.inr (.int qz) :: st) σ else C c0 s0 lo (.inl (1100 + qa) :: st) σ
def w_ldc_w (qy : Nat) (qz : Int32) (qa : Nat) (c0 : Nat) (s0 : Nat) (lo : Lo) (st : List AV) (σ : Sg) (C : Nat → Nat → Lo → List AV → Sg → Prop) : Prop := bif Nat.beq qy 0 then C c0 s0 lo (.inr (.int qz) :: st) σ else C c0 s0 lo (.inl (1100 + qa) :: st) σ
def w_lconst (qzl : Int64) (c0 : Nat) (s0 : Nat) (lo : Lo) (st : List AV) (σ : Sg) (C : Nat → Nat → Lo → List AV → Sg → Prop) : Prop := C c0 s0 lo (.inr (.long qzl) :: st) σ
def w_ldc2_w (qzl : Int64) (c0 : Nat) (s0 : Nat) (lo : Lo) (st : List AV) (σ : Sg) (C : Nat → Nat → Lo → List AV → Sg → Prop) : Prop := C c0 s0 lo (.inr (.long qzl) :: st) σ
def w_dup (c0 : Nat) (s0 : Nat) (lo : Lo) (st : List AV) (σ : Sg) (C : Nat → Nat → Lo → List AV → Sg → Prop) : Prop := p1 st (fun v r => bif Nat.beq (catA v) 1 then C c0 s0 lo (v :: v :: r) σ else False)
def w_dup2 (c0 : Nat) (s0 : Nat) (lo : Lo) (st : List AV) (σ : Sg) (C : Nat → Nat → Lo → List AV → Sg → Prop) : Prop := p1 st (fun v r => p1 r (fun u r2 => bif Nat.beq (catA v) 1 && Nat.beq (catA u) 1 then C c0 s0 lo (v :: u :: v :: u :: r2) σ else False))
def w_iadd (c0 : Nat) (s0 : Nat) (lo : Lo) (st : List AV) (σ : Sg) (C : Nat → Nat → Lo → List AV → Sg → Prop) : Prop := p2i st (fun x y r => C c0 s0 lo (.inr (.int (x + y)) :: r) σ)
def w_isub (c0 : Nat) (s0 : Nat) (lo : Lo) (st : List AV) (σ : Sg) (C : Nat → Nat → Lo → List AV → Sg → Prop) : Prop := p2i st (fun x y r => C c0 s0 lo (.inr (.int (x - y)) :: r) σ)
def w_imul (c0 : Nat) (s0 : Nat) (lo : Lo) (st : List AV) (σ : Sg) (C : Nat → Nat → Lo → List AV → Sg → Prop) : Prop := p2i st (fun x y r => C c0 s0 lo (.inr (.int (x * y)) :: r) σ)
def w_idiv (c0 : Nat) (s0 : Nat) (lo : Lo) (st : List AV) (σ : Sg) (C : Nat → Nat → Lo → List AV → Sg → Prop) : Prop := p2i st (fun x y r => ¬ y = 0 ∧ C c0 s0 lo (.inr (.int (x / y)) :: r) σ)
def w_irem (c0 : Nat) (s0 : Nat) (lo : Lo) (st : List AV) (σ : Sg) (C : Nat → Nat → Lo → List AV → Sg → Prop) : Prop := p2i st (fun x y r => ¬ y = 0 ∧ C c0 s0 lo (.inr (.int (x - x / y * y)) :: r) σ)
def w_iand (c0 : Nat) (s0 : Nat) (lo : Lo) (st : List AV) (σ : Sg) (C : Nat → Nat → Lo → List AV → Sg → Prop) : Prop := p2i st (fun x y r => C c0 s0 lo (.inr (.int (x &&& y)) :: r) σ)
def w_ior (c0 : Nat) (s0 : Nat) (lo : Lo) (st : List AV) (σ : Sg) (C : Nat → Nat → Lo → List AV → Sg → Prop) : Prop := p2i st (fun x y r => C c0 s0 lo (.inr (.int (x ||| y)) :: r) σ)
def w_ixor (c0 : Nat) (s0 : Nat) (lo : Lo) (st : List AV) (σ : Sg) (C : Nat → Nat → Lo → List AV → Sg → Prop) : Prop := p2i st (fun x y r => C c0 s0 lo (.inr (.int (x ^^^ y)) :: r) σ)
def w_ishl (c0 : Nat) (s0 : Nat) (lo : Lo) (st : List AV) (σ : Sg) (C : Nat → Nat → Lo → List AV → Sg → Prop) : Prop := p2i st (fun x y r => C c0 s0 lo (.inr (.int (x <<< (y &&& 31))) :: r) σ)
def w_ishr (c0 : Nat) (s0 : Nat) (lo : Lo) (st : List AV) (σ : Sg) (C : Nat → Nat → Lo → List AV → Sg → Prop) : Prop := p2i st (fun x y r => C c0 s0 lo (.inr (.int (x >>> (y &&& 31))) :: r) σ)
def w_iushr (c0 : Nat) (s0 : Nat) (lo : Lo) (st : List AV) (σ : Sg) (C : Nat → Nat → Lo → List AV → Sg → Prop) : Prop := p2i st (fun x y r => C c0 s0 lo (.inr (.int ((x.toUInt32 >>> (y.toUInt32 &&& Int32.toUInt32 31)).toInt32)) :: r) σ)
def w_ineg (c0 : Nat) (s0 : Nat) (lo : Lo) (st : List AV) (σ : Sg) (C : Nat → Nat → Lo → List AV → Sg → Prop) : Prop := p1i st (fun x r => C c0 s0 lo (.inr (.int (-x)) :: r) σ)
def w_i2b (c0 : Nat) (s0 : Nat) (lo : Lo) (st : List AV) (σ : Sg) (C : Nat → Nat → Lo → List AV → Sg → Prop) : Prop := p1i st (fun x r => C c0 s0 lo (.inr (.int x.toInt8.toInt32) :: r) σ)
def w_i2c (c0 : Nat) (s0 : Nat) (lo : Lo) (st : List AV) (σ : Sg) (C : Nat → Nat → Lo → List AV → Sg → Prop) : Prop := p1i st (fun x r => C c0 s0 lo (.inr (.int (x.toUInt32 % 65536).toInt32) :: r) σ)
def w_i2l (c0 : Nat) (s0 : Nat) (lo : Lo) (st : List AV) (σ : Sg) (C : Nat → Nat → Lo → List AV → Sg → Prop) : Prop := p1i st (fun x r => C c0 s0 lo (.inr (.long x.toInt64) :: r) σ)
def w_l2i (c0 : Nat) (s0 : Nat) (lo : Lo) (st : List AV) (σ : Sg) (C : Nat → Nat → Lo → List AV → Sg → Prop) : Prop := p1l st (fun x r => C c0 s0 lo (.inr (.int x.toInt32) :: r) σ)
def w_ladd (c0 : Nat) (s0 : Nat) (lo : Lo) (st : List AV) (σ : Sg) (C : Nat → Nat → Lo → List AV → Sg → Prop) : Prop := p2l st (fun x y r => C c0 s0 lo (.inr (.long (x + y)) :: r) σ)
def w_lsub (c0 : Nat) (s0 : Nat) (lo : Lo) (st : List AV) (σ : Sg) (C : Nat → Nat → Lo → List AV → Sg → Prop) : Prop := p2l st (fun x y r => C c0 s0 lo (.inr (.long (x - y)) :: r) σ)
def w_lmul (c0 : Nat) (s0 : Nat) (lo : Lo) (st : List AV) (σ : Sg) (C : Nat → Nat → Lo → List AV → Sg → Prop) : Prop := p2l st (fun x y r => C c0 s0 lo (.inr (.long (x * y)) :: r) σ)
def w_ldiv (c0 : Nat) (s0 : Nat) (lo : Lo) (st : List AV) (σ : Sg) (C : Nat → Nat → Lo → List AV → Sg → Prop) : Prop := p2l st (fun x y r => ¬ y = 0 ∧ C c0 s0 lo (.inr (.long (x / y)) :: r) σ)
def w_land (c0 : Nat) (s0 : Nat) (lo : Lo) (st : List AV) (σ : Sg) (C : Nat → Nat → Lo → List AV → Sg → Prop) : Prop := p2l st (fun x y r => C c0 s0 lo (.inr (.long (x &&& y)) :: r) σ)
def w_lneg (c0 : Nat) (s0 : Nat) (lo : Lo) (st : List AV) (σ : Sg) (C : Nat → Nat → Lo → List AV → Sg → Prop) : Prop := p1l st (fun x r => C c0 s0 lo (.inr (.long (-x)) :: r) σ)
def w_lshr (c0 : Nat) (s0 : Nat) (lo : Lo) (st : List AV) (σ : Sg) (C : Nat → Nat → Lo → List AV → Sg → Prop) : Prop := p1i st (fun y r => p1l r (fun x r2 => C c0 s0 lo (.inr (.long (x >>> (y.toInt64 &&& 63))) :: r2) σ))
def w_lcmp (c0 : Nat) (s0 : Nat) (lo : Lo) (st : List AV) (σ : Sg) (C : Nat → Nat → Lo → List AV → Sg → Prop) : Prop := p2l st (fun x y r => C c0 s0 lo (.inr (.int (lg_cmp x y)) :: r) σ)
def w_arraylength (c0 : Nat) (s0 : Nat) (lo : Lo) (st : List AV) (σ : Sg) (C : Nat → Nat → Lo → List AV → Sg → Prop) : Prop := p1c st (fun a r => match rowK a with | some z => C c0 s0 lo (.inr (.int (Int32.ofNat z.2)) :: r) σ | none => False)
def w_iaload (c0 : Nat) (s0 : Nat) (lo : Lo) (st : List AV) (σ : Sg) (C : Nat → Nat → Lo → List AV → Sg → Prop) : Prop := pix st (fun i a r => match rowK a with | some (0, z) => vp_in i z ∧ C c0 s0 lo (.inr (.int (rdI σ a i.toNatClampNeg)) :: r) σ | _ => False)
def w_baload (c0 : Nat) (s0 : Nat) (lo : Lo) (st : List AV) (σ : Sg) (C : Nat → Nat → Lo → List AV → Sg → Prop) : Prop := pix st (fun i a r => match rowK a with | some (1, z) => vp_in i z ∧ C c0 s0 lo (.inr (.int (rdI σ a i.toNatClampNeg)) :: r) σ | some (4, z) => vp_in i z ∧ C c0 s0 lo (.inr (.int (rdI σ a i.toNatClampNeg)) :: r) σ | _ => False)
def w_saload (c0 : Nat) (s0 : Nat) (lo : Lo) (st : List AV) (σ : Sg) (C : Nat → Nat → Lo → List AV → Sg → Prop) : Prop := pix st (fun i a r => match rowK a with | some (3, z) => vp_in i z ∧ C c0 s0 lo (.inr (.int (rdI σ a i.toNatClampNeg)) :: r) σ | _ => False)
def w_laload (c0 : Nat) (s0 : Nat) (lo : Lo) (st : List AV) (σ : Sg) (C : Nat → Nat → Lo → List AV → Sg → Prop) : Prop := pix st (fun i a r => match rowK a with | some (2, z) => vp_in i z ∧ C c0 s0 lo (.inr (.long (σ.2.1 a i.toNatClampNeg)) :: r) σ | _ => False)
def w_iastore (c0 : Nat) (s0 : Nat) (lo : Lo) (st : List AV) (σ : Sg) (C : Nat → Nat → Lo → List AV → Sg → Prop) : Prop := p1i st (fun x r0 => pix r0 (fun i a r => bif Nat.blt a 1000 then (match rowK a with | some (0, z) => vp_in i z ∧ C c0 s0 lo r (wI σ a i.toNatClampNeg x) | _ => False) else False))
def w_bastore (c0 : Nat) (s0 : Nat) (lo : Lo) (st : List AV) (σ : Sg) (C : Nat → Nat → Lo → List AV → Sg → Prop) : Prop := p1i st (fun x r0 => pix r0 (fun i a r => bif Nat.blt a 1000 then (match rowK a with | some (1, z) => vp_in i z ∧ C c0 s0 lo r (wI σ a i.toNatClampNeg (vp_nar .byte x)) | some (4, z) => vp_in i z ∧ C c0 s0 lo r (wI σ a i.toNatClampNeg (vp_nar .boolean x)) | _ => False) else False))
def w_lastore (c0 : Nat) (s0 : Nat) (lo : Lo) (st : List AV) (σ : Sg) (C : Nat → Nat → Lo → List AV → Sg → Prop) : Prop := p1l st (fun x r0 => pix r0 (fun i a r => bif Nat.blt a 1000 then (match rowK a with | some (2, z) => vp_in i z ∧ C c0 s0 lo r (wL σ a i.toNatClampNeg x) | _ => False) else False))
def w_getfield (qa : Nat) (c0 : Nat) (s0 : Nat) (lo : Lo) (st : List AV) (σ : Sg) (C : Nat → Nat → Lo → List AV → Sg → Prop) : Prop := p1c st (fun a r => match fkd a (qa / 128) (qa % 128) with
    | some c => bif Nat.blt c 10 then C c0 s0 lo (.inr (.int (σ.1 a (qa % 128))) :: r) σ else (bif Nat.blt c 5000 then C c0 s0 lo (.inl (c - 10) :: r) σ else (¬ σ.1 a (qa % 128) = 0 ∧ C c0 s0 lo (.inl (c - 5000) :: r) σ))
    | none => False)
def w_putfield (qa : Nat) (c0 : Nat) (s0 : Nat) (lo : Lo) (st : List AV) (σ : Sg) (C : Nat → Nat → Lo → List AV → Sg → Prop) : Prop := p1 st (fun v r0 => p1c r0 (fun a r => match fkd a (qa / 128) (qa % 128) with
    | some c => (match v with
      | .inr (.int x) => bif Nat.beq c 0 then C c0 s0 lo r (wI σ a (qa % 128) x) else (bif Nat.beq c 1 then ((x = 0 ∨ x = 1) ∧ C c0 s0 lo r (wI σ a (qa % 128) x)) else False)
      | .inl o => bif Nat.blt 4999 c && Nat.beq (c - 5000) o && Nat.blt o 1000 then C c0 s0 lo r (wI σ a (qa % 128) 1) else False
      | _ => False)
    | none => False))
def w_getstatic (qa : Nat) (c0 : Nat) (s0 : Nat) (lo : Lo) (st : List AV) (σ : Sg) (C : Nat → Nat → Lo → List AV → Sg → Prop) : Prop := C c0 s0 lo (.inl (1000 + qa) :: st) σ
def w_goto (K : Nat → Nat → Nat → Lo → List AV → Sg → Prop) (qa : Nat) (c0 : Nat) (s0 : Nat) (lo : Lo) (st : List AV) (σ : Sg) : Prop := K c0 s0 qa lo st σ
def w_ifCond (K : Nat → Nat → Nat → Lo → List AV → Sg → Prop) (c : Jvm.ClassFile.Cond) (qa : Nat) (c0 : Nat) (s0 : Nat) (lo : Lo) (st : List AV) (σ : Sg) (C : Nat → Nat → Lo → List AV → Sg → Prop) : Prop := p1i st (fun x r => (cc0 c x → K c0 s0 qa lo r σ) ∧ (cn0 c x → C c0 s0 lo r σ))
def w_if_icmp (K : Nat → Nat → Nat → Lo → List AV → Sg → Prop) (c : Jvm.ClassFile.Cond) (qa : Nat) (c0 : Nat) (s0 : Nat) (lo : Lo) (st : List AV) (σ : Sg) (C : Nat → Nat → Lo → List AV → Sg → Prop) : Prop := p2i st (fun x y r => (cc2 c x y → K c0 s0 qa lo r σ) ∧ (cn2 c x y → C c0 s0 lo r σ))
def w_ifnull (K : Nat → Nat → Nat → Lo → List AV → Sg → Prop) (qa : Nat) (c0 : Nat) (s0 : Nat) (lo : Lo) (st : List AV) (σ : Sg) (C : Nat → Nat → Lo → List AV → Sg → Prop) : Prop := (match st with
    | .inr .null :: r => K c0 s0 qa lo r σ
    | .inr (.ref _) :: r => C c0 s0 lo r σ
    | .inl _ :: r => C c0 s0 lo r σ
    | _ => False)
def w_tableswitch (K : Nat → Nat → Nat → Lo → List AV → Sg → Prop) (qsw : List (Int32 × Nat)) (qa : Nat) (c0 : Nat) (s0 : Nat) (lo : Lo) (st : List AV) (σ : Sg) : Prop := p1i st (fun x r => swP x qa (fun t => K c0 s0 t lo r σ) qsw)
def w_lookupswitch (K : Nat → Nat → Nat → Lo → List AV → Sg → Prop) (qsw : List (Int32 × Nat)) (qa : Nat) (c0 : Nat) (s0 : Nat) (lo : Lo) (st : List AV) (σ : Sg) : Prop := p1i st (fun x r => swP x qa (fun t => K c0 s0 t lo r σ) qsw)
def w_ireturn (Q : Option AV → Sg → Prop) (qx : Nat) (st : List AV) (σ : Sg) : Prop := (match st with
    | [.inr (.int x)] => bif Nat.beq qx 0 then Q (some (.inr (.int x))) σ else (bif Nat.beq qx 1 then ((x = 0 ∨ x = 1) ∧ Q (some (.inr (.int x))) σ) else False)
    | _ => False)
def w_lreturn (Q : Option AV → Sg → Prop) (st : List AV) (σ : Sg) : Prop := (match st with
    | [.inr (.long x)] => Q (some (.inr (.long x))) σ
    | _ => False)
def w_areturn (Q : Option AV → Sg → Prop) (st : List AV) (σ : Sg) : Prop := (match st with
    | [.inr .null] => Q (some (.inr .null)) σ
    | [.inr (.ref a)] => Q (some (.inr (.ref a))) σ
    | _ => False)
def w_return (Q : Option AV → Sg → Prop) (st : List AV) (σ : Sg) : Prop := (match st with
    | [] => Q none σ
    | _ => False)
def w_invokevirtual (w : Wd) (d : Nat) (k : Nat) (n : Nat) (qr_ : Nat) (qy : Nat) (qsw : List (Int32 × Nat)) (qa : Nat) (c0 : Nat) (s0 : Nat) (lo : Lo) (st : List AV) (σ : Sg) (C : Nat → Nat → Lo → List AV → Sg → Prop) : Prop := popK qy st [] (fun args rest => bif Nat.ble (catS rest) 8 && (Nat.beq qr_ 6 || Nat.beq qr_ 7 || rcvC qsw (args.headD (.inr .null))) then wpS w d k n c0 s0 qa qr_ lo args rest σ C else False)
def w_invokestatic (w : Wd) (d : Nat) (k : Nat) (n : Nat) (qr_ : Nat) (qy : Nat) (qa : Nat) (c0 : Nat) (s0 : Nat) (lo : Lo) (st : List AV) (σ : Sg) (C : Nat → Nat → Lo → List AV → Sg → Prop) : Prop := popK qy st [] (fun args rest => bif Nat.ble (catS rest) 8 then (bif Nat.beq qr_ 9 then wpC c0 s0 lo st σ C else (bif Nat.beq qr_ 8 then wpM c0 s0 qa lo st σ C else wpS w d k n c0 s0 qa qr_ lo args rest σ C)) else False)
def wp1 (w : Wd) (d k n c0 s0 : Nat) (K : Nat → Nat → Nat → Lo → List AV → Sg → Prop) (Q : Option AV → Sg → Prop) (q : It) (lo : Lo) (st : List AV) (σ : Sg) (C : Nat → Nat → Lo → List AV → Sg → Prop) : Prop :=
  match q.1 with
  | .aconst_null => w_aconst_null c0 s0 lo st σ C
  | .aload i => w_aload i c0 s0 lo st σ C
  | .aload_n i => w_aload_n i c0 s0 lo st σ C
  | .iload i => w_iload i c0 s0 lo st σ C
  | .iload_n i => w_iload_n i c0 s0 lo st σ C
  | .lload i => w_lload i c0 s0 lo st σ C
  | .lload_n i => w_lload_n i c0 s0 lo st σ C
  | .astore i => w_astore i c0 s0 lo st σ C
  | .astore_n i => w_astore_n i c0 s0 lo st σ C
  | .istore i => w_istore i c0 s0 lo st σ C
  | .istore_n i => w_istore_n i c0 s0 lo st σ C
  | .lstore i => w_lstore i c0 s0 lo st σ C
  | .lstore_n i => w_lstore_n i c0 s0 lo st σ C
  | .iinc i _ => w_iinc i q.2.2.2.1 c0 s0 lo st σ C
  | .iconst _ => w_iconst q.2.2.2.1 c0 s0 lo st σ C
  | .bipush _ => w_bipush q.2.2.2.1 c0 s0 lo st σ C
  | .sipush _ => w_sipush q.2.2.2.1 c0 s0 lo st σ C
  | .ldc _ => w_ldc q.2.2.2.2.2.2.2.1 q.2.2.2.1 q.2.1 c0 s0 lo st σ C
  | .ldc_w _ => w_ldc_w q.2.2.2.2.2.2.2.1 q.2.2.2.1 q.2.1 c0 s0 lo st σ C
  | .lconst _ => w_lconst q.2.2.2.2.1 c0 s0 lo st σ C
  | .ldc2_w _ => w_ldc2_w q.2.2.2.2.1 c0 s0 lo st σ C
  | .dup => w_dup c0 s0 lo st σ C
  | .dup2 => w_dup2 c0 s0 lo st σ C
  | .iadd => w_iadd c0 s0 lo st σ C
  | .isub => w_isub c0 s0 lo st σ C
  | .imul => w_imul c0 s0 lo st σ C
  | .idiv => w_idiv c0 s0 lo st σ C
  | .irem => w_irem c0 s0 lo st σ C
  | .iand => w_iand c0 s0 lo st σ C
  | .ior => w_ior c0 s0 lo st σ C
  | .ixor => w_ixor c0 s0 lo st σ C
  | .ishl => w_ishl c0 s0 lo st σ C
  | .ishr => w_ishr c0 s0 lo st σ C
  | .iushr => w_iushr c0 s0 lo st σ C
  | .ineg => w_ineg c0 s0 lo st σ C
  | .i2b => w_i2b c0 s0 lo st σ C
  | .i2c => w_i2c c0 s0 lo st σ C
  | .i2l => w_i2l c0 s0 lo st σ C
  | .l2i => w_l2i c0 s0 lo st σ C
  | .ladd => w_ladd c0 s0 lo st σ C
  | .lsub => w_lsub c0 s0 lo st σ C
  | .lmul => w_lmul c0 s0 lo st σ C
  | .ldiv => w_ldiv c0 s0 lo st σ C
  | .land => w_land c0 s0 lo st σ C
  | .lneg => w_lneg c0 s0 lo st σ C
  | .lshr => w_lshr c0 s0 lo st σ C
  | .lcmp => w_lcmp c0 s0 lo st σ C
  | .arraylength => w_arraylength c0 s0 lo st σ C
  | .iaload => w_iaload c0 s0 lo st σ C
  | .baload => w_baload c0 s0 lo st σ C
  | .saload => w_saload c0 s0 lo st σ C
  | .laload => w_laload c0 s0 lo st σ C
  | .iastore => w_iastore c0 s0 lo st σ C
  | .bastore => w_bastore c0 s0 lo st σ C
  | .lastore => w_lastore c0 s0 lo st σ C
  | .getfield _ => w_getfield q.2.1 c0 s0 lo st σ C
  | .putfield _ => w_putfield q.2.1 c0 s0 lo st σ C
  | .getstatic _ => w_getstatic q.2.1 c0 s0 lo st σ C
  | .goto _ => w_goto K q.2.1 c0 s0 lo st σ
  | .ifCond c _ => w_ifCond K c q.2.1 c0 s0 lo st σ C
  | .if_icmp c _ => w_if_icmp K c q.2.1 c0 s0 lo st σ C
  | .ifnull _ => w_ifnull K q.2.1 c0 s0 lo st σ C
  | .tableswitch .. => w_tableswitch K q.2.2.2.2.2.1 q.2.1 c0 s0 lo st σ
  | .lookupswitch .. => w_lookupswitch K q.2.2.2.2.2.1 q.2.1 c0 s0 lo st σ
  | .ireturn => w_ireturn Q q.2.2.2.2.2.2.1 st σ
  | .lreturn => w_lreturn Q st σ
  | .areturn => w_areturn Q st σ
  | .return_ => w_return Q st σ
  | .invokevirtual _ => w_invokevirtual w d k n q.2.2.2.2.2.2.2.2 q.2.2.2.2.2.2.2.1 q.2.2.2.2.2.1 q.2.1 c0 s0 lo st σ C
  | .invokestatic _ => w_invokestatic w d k n q.2.2.2.2.2.2.2.2 q.2.2.2.2.2.2.2.1 q.2.1 c0 s0 lo st σ C
  | _ => False
