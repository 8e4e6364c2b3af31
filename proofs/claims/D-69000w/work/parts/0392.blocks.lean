/-! 0392: every instruction; blocks; methods (printed by gen0392.py) -/
section
variable {w : Wd} {d k n e : Nat} {Q : Option AV → Sg → Prop} {mi : MI}
set_option maxHeartbeats 4000000 in
theorem bk1 {c0 s0 pc : Nat} {lo : Lo} {st : List AV} {σ : Sg} {K : Nat → Nat → Nat → Lo → List AV → Sg → Prop} {C : Nat → Nat → Lo → List AV → Sg → Prop} {q : It} (hmi : mths[e]? = some mi) (hv : vl mi pc q = true) (hK : ∀ c0 s0 t lo st σ, K c0 s0 t lo st σ → Bk w d k n e c0 s0 Q t lo st σ) (hC : ∀ c0 s0 lo st σ, C c0 s0 lo st σ → Bk w d k n e c0 s0 Q q.2.2.1 lo st σ) (h : wp1 w d k n c0 s0 K Q q lo st σ C) : Bk w d k n e c0 s0 Q pc lo st σ := by
  obtain ⟨i, a, nx, z, zl, sw, x, y, r⟩ := q
  obtain ⟨hd, hx⟩ := and2 hv
  replace hd := of_decide_eq_true hd
  cases i
  case aconst_null => exact b_aconst_null hmi hd hx hC h
  case dup => exact b_dup hmi hd hx hC h
  case dup2 => exact b_dup2 hmi hd hx hC h
  case iadd => exact b_iadd hmi hd hx hC h
  case isub => exact b_isub hmi hd hx hC h
  case imul => exact b_imul hmi hd hx hC h
  case idiv => exact b_idiv hmi hd hx hC h
  case irem => exact b_irem hmi hd hx hC h
  case iand => exact b_iand hmi hd hx hC h
  case ior => exact b_ior hmi hd hx hC h
  case ixor => exact b_ixor hmi hd hx hC h
  case ishl => exact b_ishl hmi hd hx hC h
  case ishr => exact b_ishr hmi hd hx hC h
  case iushr => exact b_iushr hmi hd hx hC h
  case ineg => exact b_ineg hmi hd hx hC h
  case i2b => exact b_i2b hmi hd hx hC h
  case i2c => exact b_i2c hmi hd hx hC h
  case i2l => exact b_i2l hmi hd hx hC h
  case l2i => exact b_l2i hmi hd hx hC h
  case ladd => exact b_ladd hmi hd hx hC h
  case lsub => exact b_lsub hmi hd hx hC h
  case lmul => exact b_lmul hmi hd hx hC h
  case ldiv => exact b_ldiv hmi hd hx hC h
  case land => exact b_land hmi hd hx hC h
  case lneg => exact b_lneg hmi hd hx hC h
  case lshr => exact b_lshr hmi hd hx hC h
  case lcmp => exact b_lcmp hmi hd hx hC h
  case arraylength => exact b_arraylength hmi hd hx hC h
  case iaload => exact b_iaload hmi hd hx hC h
  case baload => exact b_baload hmi hd hx hC h
  case saload => exact b_saload hmi hd hx hC h
  case iastore => exact b_iastore hmi hd hx hC h
  case bastore => exact b_bastore hmi hd hx hC h
  case lastore => exact b_lastore hmi hd hx hC h
  case laload => exact b_laload hmi hd hx hC h extT_kind
  case aload i => exact b_aload hmi hd hx hC h
  case iload i => exact b_iload hmi hd hx hC h
  case lload i => exact b_lload hmi hd hx hC h
  case aload_n i => exact b_aload_n hmi hd hx hC h
  case iload_n i => exact b_iload_n hmi hd hx hC h
  case lload_n i => exact b_lload_n hmi hd hx hC h
  case astore i => exact b_astore hmi hd (and2 hx).1 (bltN (and2 hx).2) hC h
  case istore i => exact b_istore hmi hd (and2 hx).1 (bltN (and2 hx).2) hC h
  case lstore i => exact b_lstore hmi hd (and2 hx).1 (bltN (and2 hx).2) hC h
  case astore_n i => exact b_astore_n hmi hd (and2 hx).1 (bltN (and2 hx).2) hC h
  case istore_n i => exact b_istore_n hmi hd (and2 hx).1 (bltN (and2 hx).2) hC h
  case lstore_n i => exact b_lstore_n hmi hd (and2 hx).1 (bltN (and2 hx).2) hC h
  case iinc i v => exact b_iinc hmi hd (and2 hx).1 (bltN (and2 (and2 hx).2).1) (of_decide_eq_true (and2 (and2 hx).2).2) hC h
  case iconst v => exact b_iconst hmi hd (and2 hx).1 (of_decide_eq_true (and2 hx).2) hC h
  case bipush v => exact b_bipush hmi hd (and2 hx).1 (of_decide_eq_true (and2 hx).2) hC h
  case sipush v => exact b_sipush hmi hd (and2 hx).1 (of_decide_eq_true (and2 hx).2) hC h
  case lconst v => exact b_lconst hmi hd (and2 hx).1 (of_decide_eq_true (and2 hx).2) hC h
  case ldc i =>
    obtain ⟨h1, h2⟩ := and2 hx
    have h : (bif Nat.beq y 0 then C c0 s0 lo (.inr (.int z) :: st) σ else C c0 s0 lo (.inl (1100 + a) :: st) σ) := h
    have h2 : (bif Nat.beq y 0 then tb x (.constant mi.1.cls i z) else (match strT[a]? with | some x => decide (x.1 = mi.1.cls) && Nat.beq x.2.1 i | none => false)) = true := h2
    cases hy : Nat.beq y 0 with
    | true =>
      rw [hy] at h h2
      exact b_ldc hmi hd h1 (tb_g h2 rfl) hC h
    | false =>
      rw [hy] at h h2
      have h2 : (match strT[a]? with | some x => decide (x.1 = mi.1.cls) && Nat.beq x.2.1 i | none => false) = true := h2
      split at h2
      · rename_i t ht
        exact b_ldcS hmi hd h1 ht (of_decide_eq_true (and2 h2).1) (beqN (and2 h2).2) hC h
      · cases h2
  case ldc_w i =>
    obtain ⟨h1, h2⟩ := and2 hx
    have h : (bif Nat.beq y 0 then C c0 s0 lo (.inr (.int z) :: st) σ else C c0 s0 lo (.inl (1100 + a) :: st) σ) := h
    have h2 : (bif Nat.beq y 0 then tb x (.constant mi.1.cls i z) else (match strT[a]? with | some x => decide (x.1 = mi.1.cls) && Nat.beq x.2.1 i | none => false)) = true := h2
    cases hy : Nat.beq y 0 with
    | true =>
      rw [hy] at h h2
      exact b_ldc_w hmi hd h1 (tb_g h2 rfl) hC h
    | false =>
      rw [hy] at h h2
      have h2 : (match strT[a]? with | some x => decide (x.1 = mi.1.cls) && Nat.beq x.2.1 i | none => false) = true := h2
      split at h2
      · rename_i t ht
        exact b_ldcwS hmi hd h1 ht (of_decide_eq_true (and2 h2).1) (beqN (and2 h2).2) hC h
      · cases h2
  case ldc2_w i => exact b_ldc2_w hmi hd (and2 hx).1 (tb_g (and2 hx).2 rfl) hC h
  case getfield i =>
    obtain ⟨h1, h2⟩ := and2 hx
    have h2 : (match fldT[x]? with | some f => decide (f.1 = mi.1.cls) && Nat.beq f.2.1 i && Nat.beq f.2.2.1 (a / 128) && Nat.beq f.2.2.2.1 (a % 128) | none => false) = true := h2
    split at h2
    · rename_i f hf
      obtain ⟨h2, h6⟩ := and2 h2
      obtain ⟨h2, h5⟩ := and2 h2
      obtain ⟨h3, h4⟩ := and2 h2
      exact b_getfield hmi hd h1 (fldT_ok hf) (of_decide_eq_true h3) (beqN h4) (beqN h5) (beqN h6) hC h
    · cases h2
  case putfield i =>
    obtain ⟨h1, h2⟩ := and2 hx
    obtain ⟨h2, h7⟩ := and2 h2
    have h2 : (match fldT[x]? with | some f => decide (f.1 = mi.1.cls) && Nat.beq f.2.1 i && Nat.beq f.2.2.1 (a / 128) && Nat.beq f.2.2.2.1 (a % 128) | none => false) = true := h2
    have h7 : (match classes[a / 128]? with | some c => !(c.2.1 (a % 128)).2.2.2 | none => false) = true := h7
    split at h2
    · rename_i f hf
      obtain ⟨h2, h6⟩ := and2 h2
      obtain ⟨h2, h5⟩ := and2 h2
      obtain ⟨h3, h4⟩ := and2 h2
      exact b_putfield hmi hd h1 (fldT_ok hf) (of_decide_eq_true h3) (beqN h4) (beqN h5) (beqN h6) (fun c hc => by rw [hc] at h7; simpa using h7) hC h
    · cases h2
  case getstatic i =>
    obtain ⟨h1, h2⟩ := and2 hx
    have h2 : (match staT[x]? with | some f => decide (f.1 = mi.1.cls) && Nat.beq f.2.1 i && Nat.beq f.2.2.1 a | none => false) = true := h2
    split at h2
    · rename_i f hf
      obtain ⟨h2, h5⟩ := and2 h2
      obtain ⟨h3, h4⟩ := and2 h2
      exact b_getstatic hmi hd h1 (staT_ok hf) (of_decide_eq_true h3) (beqN h4) (beqN h5) hC h
    · cases h2
  case goto off => exact b_goto hmi hd (and2 hx).1 (of_decide_eq_true (and2 hx).2) hK h
  case ifCond c off => exact b_ifCond hmi hd (and2 hx).1 (of_decide_eq_true (and2 hx).2) hK hC h
  case if_icmp c off => exact b_if_icmp hmi hd (and2 hx).1 (of_decide_eq_true (and2 hx).2) hK hC h
  case ifnull off => exact b_ifnull hmi hd (and2 hx).1 (of_decide_eq_true (and2 hx).2) hK hC h
  case tableswitch df tlo thi offs => exact b_tableswitch hmi hd (of_decide_eq_true (and2 hx).1) (and2 hx).2 hK h
  case lookupswitch df ps => exact b_lookupswitch hmi hd (of_decide_eq_true (and2 hx).1) (and2 hx).2 hK h
  case ireturn => exact b_ireturn hmi hd (and2 hx).1 (and2 hx).2 h
  case lreturn => exact b_lreturn hmi hd (and2 hx).1 (of_decide_eq_true (and2 hx).2) h
  case areturn => exact b_areturn hmi hd (and2 hx).1 (of_decide_eq_true (and2 hx).2) h
  case return_ => exact b_return hmi hd (and2 hx).1 (of_decide_eq_true (and2 hx).2) h
  case invokevirtual i => exact b_inv hmi hd hx hC h
  case invokestatic i => exact b_ins hmi hd hx hC h
  all_goals exact h.elim
/-- a block: its instructions one behind the other -/
def wpB (w : Wd) (d k n : Nat) (K : Nat → Nat → Nat → Lo → List AV → Sg → Prop) (Q : Option AV → Sg → Prop) : List It → Nat → Nat → Nat → Lo → List AV → Sg → Prop
  | [], pc, c0, s0, lo, st, σ => K c0 s0 pc lo st σ
  | q :: r, _, c0, s0, lo, st, σ => wp1 w d k n c0 s0 K Q q lo st σ (fun c0 s0 lo st σ => wpB w d k n K Q r q.2.2.1 c0 s0 lo st σ)
def vlL (mi : MI) : Nat → List It → Bool
  | _, [] => true
  | pc, q :: r => vl mi pc q && vlL mi q.2.2.1 r
theorem wpB_ok {K : Nat → Nat → Nat → Lo → List AV → Sg → Prop} (hmi : mths[e]? = some mi) (hK : ∀ c0 s0 t lo st σ, K c0 s0 t lo st σ → Bk w d k n e c0 s0 Q t lo st σ) : ∀ (cs : List It) (pc c0 s0 : Nat) (lo : Lo) (st : List AV) (σ : Sg), vlL mi pc cs = true → wpB w d k n K Q cs pc c0 s0 lo st σ → Bk w d k n e c0 s0 Q pc lo st σ := by
  intro cs
  induction cs with
  | nil => intro pc c0 s0 lo st σ _ h; exact hK _ _ _ _ _ _ h
  | cons q r ih =>
    intro pc c0 s0 lo st σ hv h
    obtain ⟨hv1, hv2⟩ := and2 hv
    exact bk1 hmi hv1 hK (fun c0 s0 lo st σ h => ih _ _ _ _ _ _ hv2 h) h
def lk (pc : Nat) : List (Nat × List It) → List It
  | [] => []
  | q :: r => bif Nat.beq q.1 pc then q.2 else lk pc r
theorem lk_ok {pc : Nat} : ∀ (l : List (Nat × List It)), l.all (fun q => vlL mi q.1 q.2) = true → vlL mi pc (lk pc l) = true := by
  intro l
  induction l with
  | nil => intro _; rfl
  | cons q r ih =>
    intro h
    obtain ⟨h1, h2⟩ := and2 h
    show vlL mi pc (bif Nat.beq q.1 pc then q.2 else lk pc r) = true
    cases hb : Nat.beq q.1 pc with
    | true => have := beqN hb; subst this; exact h1
    | false => exact ih h2
/-- places from one on: ways go on into what they lead to, but not into heads (hs), which stay as places -/
def mk (bs : List Bool) (lo : Lo) : Lo := match bs, lo with
  | b :: bs, v :: lo => (bif b then v else none) :: mk bs lo
  | _, _ => []
theorem mk_get : ∀ (bs : List Bool) (lo : Lo) (i : Nat) (v : AV), (mk bs lo)[i]? = some (some v) → lo[i]? = some (some v) := by
  intro bs
  induction bs with
  | nil => intro lo i v h; cases lo <;> simp [mk] at h
  | cons b bs ih =>
    intro lo i v h
    cases lo with
    | nil => simp [mk] at h
    | cons u lo =>
      cases i with
      | zero =>
        have h : some (bif b then u else none) = some (some v) := h
        cases b with
        | true => exact h
        | false => cases h
      | succ i => exact ih lo i v h
theorem bk_mk {c0 s0 pc : Nat} {lo : Lo} {st : List AV} {σ : Sg} (bs : List Bool) (h : Bk w d k n e c0 s0 Q pc (mk bs lo) st σ) : Bk w d k n e c0 s0 Q pc lo st σ := by
  intro hd1 hc1 hs1 mi hmi p l ev s m args below meth c H locs ls C hK hR hS hl
  refine h hd1 hc1 hs1 mi hmi p l ev s m args below meth c H locs ls C hK hR hS (has_mono hl (fun q hq => ?_))
  obtain ⟨j, v, h1, h2, h3⟩ := asgF_inv _ _ _ hq
  have := asg_mem (w := w) (mk_get bs lo j v h2)
  obtain ⟨q1, q2⟩ := q
  dsimp only at h1 h3
  rw [h1, h3, Nat.zero_add]
  exact this
def mkK (bs : List Bool) (lo : Lo) (k : Lo → Prop) : Prop := match bs, lo with
  | true :: bs, v :: lo => mkK bs lo (fun lo' => k (v :: lo'))
  | false :: bs, _ :: lo => mkK bs lo (fun lo' => k (none :: lo'))
  | [], _ => k []
  | _ :: _, [] => k []
theorem mkK_eq : ∀ (bs : List Bool) (lo : Lo) (k : Lo → Prop), mkK bs lo k = k (mk bs lo) := by
  intro bs
  induction bs with
  | nil => intro lo k; cases lo <;> rfl
  | cons b bs ih =>
    intro lo k
    cases lo with
    | nil => cases b <;> rfl
    | cons v lo =>
      cases b with
      | true => show mkK bs lo _ = _; rw [ih]; rfl
      | false => show mkK bs lo _ = _; rw [ih]; rfl
def wpF (w : Wd) (d k n e : Nat) (cd : List (Nat × List It)) (hs : Nat → Option (List Bool)) (Q : Option AV → Sg → Prop) : Nat → Nat → Nat → Nat → Lo → List AV → Sg → Prop
  | 0, c0, s0, pc, lo, st, σ => Bk w d k n e c0 s0 Q pc lo st σ
  | f + 1, c0, s0, pc, lo, st, σ => wpB w d k n (fun c0 s0 t lo st σ => match hs t with | some bs => mkK bs lo (fun lo => Bk w d k n e c0 s0 Q t lo st σ) | none => wpF w d k n e cd hs Q f c0 s0 t lo st σ) Q (lk pc cd) pc c0 s0 lo st σ
theorem wpF_ok {cd : List (Nat × List It)} {hs : Nat → Option (List Bool)} (hmi : mths[e]? = some mi) (hcd : cd.all (fun q => vlL mi q.1 q.2) = true) : ∀ (f c0 s0 pc : Nat) (lo : Lo) (st : List AV) (σ : Sg), wpF w d k n e cd hs Q f c0 s0 pc lo st σ → Bk w d k n e c0 s0 Q pc lo st σ := by
  intro f
  induction f with
  | zero => intro c0 s0 pc lo st σ h; exact h
  | succ f ih =>
    intro c0 s0 pc lo st σ h
    refine wpB_ok hmi (fun c0 s0 t lo st σ h => ?_) (lk pc cd) pc c0 s0 lo st σ (lk_ok cd hcd) h
    cases hb : hs t with
    | some bs => rw [hb] at h; exact bk_mk bs (by rw [← mkK_eq bs lo (fun lo => Bk w d k n e c0 s0 Q t lo st σ)]; exact h)
    | none => rw [hb] at h; exact ih _ _ _ _ _ _ h
/-- locals at an entry -/
def loA : List AV → Lo
  | [] => []
  | v :: r => bif Nat.beq (catA v) 2 then some v :: none :: loA r else some v :: loA r
def lo0 (avs : List AV) (nL : Nat) : Lo := loA avs ++ List.replicate (nL - (loA avs).length) none
theorem loA_len : ∀ avs : List AV, (lg_sl (avs.map (enc w))).length = (loA avs).length := by
  intro avs
  induction avs with
  | nil => rfl
  | cons v r ih =>
    show (lg_sl (enc w v :: r.map (enc w))).length = (bif Nat.beq (catA v) 2 then some v :: none :: loA r else some v :: loA r : Lo).length
    unfold lg_sl at ih ⊢
    rw [List.flatMap_cons, List.length_append, ih, cat_enc]
    by_cases h : catA v = 2
    · rw [if_pos h, h]; simp; omega
    · have : Nat.beq (catA v) 2 = false := by rw [Bool.eq_false_iff]; intro h2; exact h (beqN h2)
      rw [if_neg h, this]; simp; omega
theorem asg_loA : ∀ (avs : List AV) (i m : Nat), ∀ q ∈ asgF w i (loA avs ++ List.replicate m none), q ∈ lv_args i (avs.map (enc w)) := by
  intro avs
  induction avs with
  | nil =>
    intro i m q hq
    exfalso
    revert i
    induction m with
    | zero => intro i hq; simp [loA, asgF] at hq
    | succ m ih => intro i hq; exact ih (i + 1) hq
  | cons v r ih =>
    intro i m q hq
    show q ∈ (i, enc w v) :: lv_args (if (enc w v).category = 2 then i + 2 else i + 1) (r.map (enc w))
    rw [cat_enc]
    by_cases h : catA v = 2
    · have e1 : loA (v :: r) = some v :: none :: loA r := by show (bif Nat.beq (catA v) 2 then _ else _) = _; rw [h]; rfl
      rw [e1] at hq
      rw [if_pos h]
      rcases List.mem_cons.mp hq with hq | hq
      · rw [hq]; exact List.mem_cons_self
      · exact List.mem_cons_of_mem _ (ih (i + 2) m q hq)
    · have hb : Nat.beq (catA v) 2 = false := by rw [Bool.eq_false_iff]; intro h2; exact h (beqN h2)
      have e1 : loA (v :: r) = some v :: loA r := by show (bif Nat.beq (catA v) 2 then _ else _) = _; rw [hb]; rfl
      rw [e1] at hq
      rw [if_neg h]
      rcases List.mem_cons.mp hq with hq | hq
      · rw [hq]; exact List.mem_cons_self
      · exact List.mem_cons_of_mem _ (ih (i + 1) m q hq)
/-- a method by its first place -/
theorem ok_of {avs : List AV} {lo : Lo} {σ : Sg} (hmi : mths[e]? = some mi) (hpl : plainName mi.1.cls = true) (hln : (loA avs).length ≤ mi.2.2.1) (hlo : lo0 avs mi.2.2.1 = lo) (hd : 1 ≤ d) (h : Bk w d k n e 0 0 Q 0 lo [] σ) : OkG w d k n e avs σ Q := by
  subst hlo
  intro mi' hmi' l
  cases hmi.symm.trans hmi'
  refine Met.ofW (cc := mi.2.1) (maxL := mi.2.2.1) (ret := mi.2.2.2) hpl rfl ?_
  intro p ev s m args below meth c s₁ B hml hv
  obtain ⟨rfl, hR, hK⟩ := hv
  have hts : ∀ q ∈ gtbl, q.before (avs.map (enc w)).toArray s = true := fun q hq => atoms_spec (ws := wsM mi) B.pre q (List.mem_cons_of_mem _ hq)
  have hlv := lv_entry (avs.map (enc w)) (n := mi.2.2.1) (by rw [loA_len]; exact hln)
  rw [lg_entry_eq]
  exact h hd (Nat.zero_le _) (Nat.zero_le _) mi hmi p l ev s m _ below meth c s.heap [] _ ⟨⟨B.exec, B.bytes, hml, findClass_of_methodNamed B.named, hts⟩, B.returns, B.notSynchronized⟩ hK hR va_S.rf (has_mono hlv (asg_loA avs 0 _))
end
