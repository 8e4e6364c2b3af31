/-! 036: statics, texts, ways, ends, calls -/
theorem sw_inv {x : Int32} {dflt : Nat} {K : Nat → Prop} : ∀ (l : List (Int32 × Nat)), swP x dflt K l → (∃ (j : Nat) (p : Int32 × Nat), l[j]? = some p ∧ x = p.1 ∧ (∀ i, i < j → ∀ p', l[i]? = some p' → ¬ x = p'.1) ∧ K p.2) ∨ ((∀ p ∈ l, ¬ x = p.1) ∧ K dflt) := by
  intro l
  induction l with
  | nil => intro h; exact Or.inr ⟨fun p hp => by simp at hp, h⟩
  | cons q r ih =>
    intro h
    have h : (x = q.1 → K q.2) ∧ (¬ x = q.1 → swP x dflt K r) := h
    by_cases e : x = q.1
    · exact Or.inl ⟨0, q, rfl, e, fun i hi => by omega, h.1 e⟩
    · rcases ih (h.2 e) with ⟨j, p, h1, h2, h3, h4⟩ | ⟨h1, h2⟩
      · refine Or.inl ⟨j + 1, p, by simpa using h1, h2, fun i hi p' hp' => ?_, h4⟩
        cases i with
        | zero => simp at hp'; subst hp'; exact e
        | succ i => exact h3 i (by omega) p' (by simpa using hp')
      · exact Or.inr ⟨fun p hp => by rcases List.mem_cons.mp hp with rfl | hp; exact e; exact h1 p hp, h2⟩
def tsOk (pc : Nat) (lo hi : Int) (offs : Array Int) (sw : List (Int32 × Nat)) : Bool := decide (sw.length = offs.size) && decide (hi = lo + offs.size - 1) && (List.range offs.size).all (fun j => match sw[j]?, offs[j]? with | some p, some o => decide (p.1.toInt = lo + j) && decide ((pc : Int) + o = p.2) | _, _ => false)
def lkOk (pc : Nat) (ps : Array (Int × Int)) (sw : List (Int32 × Nat)) : Bool := decide (sw.map (fun p => (p.1.toInt, (p.2 : Int) - pc)) = ps.toList) && (ps.toList.zip (ps.toList.drop 1)).all (fun (a, next) => a.1 < next.1)
theorem lk_off {x : Int32} {dflt : Int} {pc : Nat} : ∀ (sw : List (Int32 × Nat)), (∀ (j : Nat) (p : Int32 × Nat), sw[j]? = some p → x = p.1 → (∀ i, i < j → ∀ p', sw[i]? = some p' → ¬ x = p'.1) → Op.lookupswitch.offset (sw.map (fun p => (p.1.toInt, (p.2 : Int) - pc))) dflt x.toInt = (p.2 : Int) - pc) ∧ ((∀ p ∈ sw, ¬ x = p.1) → Op.lookupswitch.offset (sw.map (fun p => (p.1.toInt, (p.2 : Int) - pc))) dflt x.toInt = dflt) := by
  intro sw
  induction sw with
  | nil => exact ⟨fun j p h => by simp at h, fun _ => rfl⟩
  | cons q r ih =>
    refine ⟨fun j p h hx hb => ?_, fun h => ?_⟩
    · rw [List.map_cons, Op.lookupswitch.offset_cons]
      cases j with
      | zero => simp at h; subst h; rw [if_pos (by rw [hx])]
      | succ j =>
        have hq : ¬ x = q.1 := hb 0 (by omega) q rfl
        rw [if_neg (fun e => hq (Int32.toInt_inj.mp e).symm)]
        exact ih.1 j p (by simpa using h) hx (fun i hi p' hp' => hb (i + 1) (by omega) p' (by simpa using hp'))
    · rw [List.map_cons, Op.lookupswitch.offset_cons, if_neg (fun e => h q List.mem_cons_self (Int32.toInt_inj.mp e).symm)]
      exact ih.2 (fun p hp => h p (List.mem_cons_of_mem _ hp))
section
variable {w : Wd} {d k n e c0 s0 : Nat} {Q : Option AV → Sg → Prop} {mi : MI} {pc nx : Nat} {lo : Lo} {st : List AV} {σ : Sg}
/-- a way: the place goes on at another one, with fewer on the stack -/
theorem bk_way {st' : List AV} {t : Nat} (hmi : mths[e]? = some mi) (h : Bk w d k n e c0 s0 Q t lo st' σ)
    (row : ∀ (p : Program) (l : Launch) (ev : Env) (R : Room) (s : State) (m : MethodId) (args : Array Value) (below : List Frame) (meth : Method) (c : Code) (H : Heap) (locs : List Loc) (cells slots : Nat) (QQ : State → Prop) (ls : Array Slot), p.tables.exec = Jvm.exec → c.code = mi.2.1 →
      W p l ev R s m args below meth c H locs cells slots QQ (F0 m t ls (st'.map (enc w))) → W p l ev R s m args below meth c H locs cells slots QQ (F0 m pc ls (st.map (enc w)))) : Bk w d k n e c0 s0 Q pc lo st σ := by
  intro hd1 hc1 hs1 mi' hmi' p l ev s m args below meth c H locs ls C hK hR hS hl
  cases hmi.symm.trans hmi'
  exact row p l ev _ s m args below meth c H locs _ _ _ ls C.1.1 C.1.2.1 (h hd1 hc1 hs1 mi hmi p l ev s m args below meth c H locs ls C hK hR hS hl)
theorem bk_two {st' : List AV} {t : Nat} {P P' : Prop} (hmi : mths[e]? = some mi) (ht : P → Bk w d k n e c0 s0 Q t lo st' σ) (hf : P' → Bk w d k n e c0 s0 Q nx lo st' σ)
    (row : ∀ (p : Program) (l : Launch) (ev : Env) (R : Room) (s : State) (m : MethodId) (args : Array Value) (below : List Frame) (meth : Method) (c : Code) (H : Heap) (locs : List Loc) (cells slots : Nat) (QQ : State → Prop) (ls : Array Slot), p.tables.exec = Jvm.exec → c.code = mi.2.1 →
      (P → W p l ev R s m args below meth c H locs cells slots QQ (F0 m t ls (st'.map (enc w)))) → (P' → W p l ev R s m args below meth c H locs cells slots QQ (F0 m nx ls (st'.map (enc w)))) → W p l ev R s m args below meth c H locs cells slots QQ (F0 m pc ls (st.map (enc w)))) : Bk w d k n e c0 s0 Q pc lo st σ := by
  intro hd1 hc1 hs1 mi' hmi' p l ev s m args below meth c H locs ls C hK hR hS hl
  cases hmi.symm.trans hmi'
  exact row p l ev _ s m args below meth c H locs _ _ _ ls C.1.1 C.1.2.1 (fun q => ht q hd1 hc1 hs1 mi hmi p l ev s m args below meth c H locs ls C hK hR hS hl) (fun q => hf q hd1 hc1 hs1 mi hmi p l ev s m args below meth c H locs ls C hK hR hS hl)
theorem b_goto {K : Nat → Nat → Nat → Lo → List AV → Sg → Prop} {off : Int} {a : Nat} (hmi : mths[e]? = some mi) (hd : decode mi.2.1 pc = .ok (.goto off, nx - pc)) (hx : ln nx pc 3 = true) (ht : (pc : Int) + off = (a : Int)) (hK : ∀ c0 s0 t lo st σ, K c0 s0 t lo st σ → Bk w d k n e c0 s0 Q t lo st σ) (h : K c0 s0 a lo st σ) : Bk w d k n e c0 s0 Q pc lo st σ := by
  have hn := ln_eq hx; subst hn; rw [Nat.add_sub_cancel_left] at hd
  exact bk_way hmi (hK _ _ _ _ _ _ h) (fun p l ev R s m args below meth c H locs cells slots QQ ls h1 h2 kk => lv_goto h1 h2 hd ht kk)
theorem b_ifCond {K : Nat → Nat → Nat → Lo → List AV → Sg → Prop} {C : Nat → Nat → Lo → List AV → Sg → Prop} {cnd : Jvm.ClassFile.Cond} {off : Int} {a : Nat} (hmi : mths[e]? = some mi) (hd : decode mi.2.1 pc = .ok (.ifCond cnd off, nx - pc)) (hx : ln nx pc 3 = true) (ht : (pc : Int) + off = (a : Int)) (hK : ∀ c0 s0 t lo st σ, K c0 s0 t lo st σ → Bk w d k n e c0 s0 Q t lo st σ) (hC : ∀ c0 s0 lo st σ, C c0 s0 lo st σ → Bk w d k n e c0 s0 Q nx lo st σ) (h : p1i st (fun x r => (cc0 cnd x → K c0 s0 a lo r σ) ∧ (cn0 cnd x → C c0 s0 lo r σ))) : Bk w d k n e c0 s0 Q pc lo st σ := by
  have hn := ln_eq hx; subst hn; rw [Nat.add_sub_cancel_left] at hd
  obtain ⟨x, r, rfl, h'⟩ := p1i_inv h; clear h
  refine bk_two hmi (fun q => hK _ _ _ _ _ _ (h'.1 q)) (fun q => hC _ _ _ _ _ (h'.2 q)) (fun p l ev R s m args below meth c H locs cells slots QQ ls h1 h2 kt kf => ?_)
  cases cnd
  · exact lv_if_eq h1 h2 hd ht kt kf
  · exact lv_if_ne h1 h2 hd ht kt kf
  · exact lv_if_lt h1 h2 hd ht kt kf
  · exact lv_if_ge h1 h2 hd ht kt kf
  · exact lv_if_gt h1 h2 hd ht kt kf
  · exact lv_if_le h1 h2 hd ht kt kf
theorem b_if_icmp {K : Nat → Nat → Nat → Lo → List AV → Sg → Prop} {C : Nat → Nat → Lo → List AV → Sg → Prop} {cnd : Jvm.ClassFile.Cond} {off : Int} {a : Nat} (hmi : mths[e]? = some mi) (hd : decode mi.2.1 pc = .ok (.if_icmp cnd off, nx - pc)) (hx : ln nx pc 3 = true) (ht : (pc : Int) + off = (a : Int)) (hK : ∀ c0 s0 t lo st σ, K c0 s0 t lo st σ → Bk w d k n e c0 s0 Q t lo st σ) (hC : ∀ c0 s0 lo st σ, C c0 s0 lo st σ → Bk w d k n e c0 s0 Q nx lo st σ) (h : p2i st (fun x y r => (cc2 cnd x y → K c0 s0 a lo r σ) ∧ (cn2 cnd x y → C c0 s0 lo r σ))) : Bk w d k n e c0 s0 Q pc lo st σ := by
  have hn := ln_eq hx; subst hn; rw [Nat.add_sub_cancel_left] at hd
  obtain ⟨x, y, r, rfl, h'⟩ := p2i_inv h; clear h
  refine bk_two hmi (fun q => hK _ _ _ _ _ _ (h'.1 q)) (fun q => hC _ _ _ _ _ (h'.2 q)) (fun p l ev R s m args below meth c H locs cells slots QQ ls h1 h2 kt kf => ?_)
  cases cnd
  · exact lv_icmp_eq h1 h2 hd ht kt kf
  · exact lv_icmp_ne h1 h2 hd ht kt kf
  · exact lv_icmp_lt h1 h2 hd ht kt kf
  · exact lv_icmp_ge h1 h2 hd ht kt kf
  · exact lv_icmp_gt h1 h2 hd ht kt kf
  · exact lv_icmp_le h1 h2 hd ht kt kf
theorem b_ifnull {K : Nat → Nat → Nat → Lo → List AV → Sg → Prop} {C : Nat → Nat → Lo → List AV → Sg → Prop} {off : Int} {a : Nat} (hmi : mths[e]? = some mi) (hd : decode mi.2.1 pc = .ok (.ifnull off, nx - pc)) (hx : ln nx pc 3 = true) (ht : (pc : Int) + off = (a : Int)) (hK : ∀ c0 s0 t lo st σ, K c0 s0 t lo st σ → Bk w d k n e c0 s0 Q t lo st σ) (hC : ∀ c0 s0 lo st σ, C c0 s0 lo st σ → Bk w d k n e c0 s0 Q nx lo st σ)
    (h : (match st with
    | .inr .null :: r => K c0 s0 a lo r σ
    | .inr (.ref _) :: r => C c0 s0 lo r σ
    | .inl _ :: r => C c0 s0 lo r σ
    | _ => False)) : Bk w d k n e c0 s0 Q pc lo st σ := by
  have hn := ln_eq hx; subst hn; rw [Nat.add_sub_cancel_left] at hd
  split at h
  · exact bk_way hmi (hK _ _ _ _ _ _ h) (fun p l ev R s m args below meth c H locs cells slots QQ ls h1 h2 kk => lv_ifnullN h1 h2 hd ht kk)
  · exact bk_way hmi (hC _ _ _ _ _ h) (fun p l ev R s m args below meth c H locs cells slots QQ ls h1 h2 kk => lv_ifnull h1 h2 hd kk)
  · exact bk_way hmi (hC _ _ _ _ _ h) (fun p l ev R s m args below meth c H locs cells slots QQ ls h1 h2 kk => lv_ifnull h1 h2 hd kk)
  · exact h.elim
theorem b_tableswitch {K : Nat → Nat → Nat → Lo → List AV → Sg → Prop} {dflt tlo thi : Int} {offs : Array Int} {sw : List (Int32 × Nat)} {a : Nat} (hmi : mths[e]? = some mi) (hd : decode mi.2.1 pc = .ok (.tableswitch dflt tlo thi offs, nx - pc)) (ht : (pc : Int) + dflt = (a : Int)) (hs : tsOk pc tlo thi offs sw = true) (hK : ∀ c0 s0 t lo st σ, K c0 s0 t lo st σ → Bk w d k n e c0 s0 Q t lo st σ) (h : p1i st (fun x r => swP x a (fun t => K c0 s0 t lo r σ) sw)) : Bk w d k n e c0 s0 Q pc lo st σ := by
  obtain ⟨x, r, rfl, h'⟩ := p1i_inv h; clear h
  unfold tsOk at hs
  rw [Bool.and_eq_true, Bool.and_eq_true, decide_eq_true_eq, decide_eq_true_eq] at hs
  obtain ⟨⟨hlen, hhi⟩, hall⟩ := hs
  have hj : ∀ j, j < offs.size → ∃ p o, sw[j]? = some p ∧ offs[j]? = some o ∧ p.1.toInt = tlo + j ∧ (pc : Int) + o = p.2 := by
    intro j hj
    have := List.all_eq_true.mp hall j (List.mem_range.mpr hj)
    split at this
    · rename_i p o h1 h2
      rw [Bool.and_eq_true, decide_eq_true_eq, decide_eq_true_eq] at this
      exact ⟨p, o, h1, h2, this.1, this.2⟩
    · cases this
  rcases sw_inv sw h' with ⟨j, p, h1, h2, -, h4⟩ | ⟨h1, h2⟩
  · have hjl : j < offs.size := by rw [← hlen]; exact (List.getElem?_eq_some_iff.mp h1).1
    obtain ⟨p', o, g1, g2, g3, g4⟩ := hj j hjl
    cases h1.symm.trans g1
    refine bk_way hmi (hK _ _ _ _ _ _ h4) (fun pp l ev R s m args below meth c H locs cells slots QQ ls h1 h2' kk => ?_)
    have hx : x.toInt = tlo + j := by rw [h2]; exact g3
    exact lv_tableIn h1 h2' hd (by omega) (by omega) (off := o) (by rw [show (x.toInt - tlo).toNat = j by omega]; exact g2) g4 kk
  · refine bk_way hmi (hK _ _ _ _ _ _ h2) (fun pp l ev R s m args below meth c H locs cells slots QQ ls h1' h2' kk => ?_)
    refine lv_tableOut h1' h2' hd ?_ ht kk
    rcases Int.lt_or_le x.toInt tlo with q | q
    · exact Or.inl q
    · rcases Int.lt_or_le thi x.toInt with q2 | q2
      · exact Or.inr q2
      · exfalso
        obtain ⟨p', o, g1, g2, g3, g4⟩ := hj (x.toInt - tlo).toNat (by omega)
        refine h1 p' (List.mem_of_getElem? g1) (Int32.toInt_inj.mp ?_)
        rw [g3]; omega
theorem b_lookupswitch {K : Nat → Nat → Nat → Lo → List AV → Sg → Prop} {dflt : Int} {ps : Array (Int × Int)} {sw : List (Int32 × Nat)} {a : Nat} (hmi : mths[e]? = some mi) (hd : decode mi.2.1 pc = .ok (.lookupswitch dflt ps, nx - pc)) (ht : (pc : Int) + dflt = (a : Int)) (hs : lkOk pc ps sw = true) (hK : ∀ c0 s0 t lo st σ, K c0 s0 t lo st σ → Bk w d k n e c0 s0 Q t lo st σ) (h : p1i st (fun x r => swP x a (fun t => K c0 s0 t lo r σ) sw)) : Bk w d k n e c0 s0 Q pc lo st σ := by
  obtain ⟨x, r, rfl, h'⟩ := p1i_inv h; clear h
  unfold lkOk at hs
  rw [Bool.and_eq_true, decide_eq_true_eq] at hs
  rcases sw_inv sw h' with ⟨j, p, h1, h2, h3, h4⟩ | ⟨h1, h2⟩
  · refine bk_way hmi (hK _ _ _ _ _ _ h4) (fun pp l ev R s m args below meth c H locs cells slots QQ ls q1 q2 kk => ?_)
    exact lv_lookup (off := (p.2 : Int) - pc) q1 q2 hd hs.2 (by rw [← hs.1]; exact (lk_off sw).1 j p h1 h2 h3) (by omega) kk
  · refine bk_way hmi (hK _ _ _ _ _ _ h2) (fun pp l ev R s m args below meth c H locs cells slots QQ ls q1 q2 kk => ?_)
    exact lv_lookup q1 q2 hd hs.2 (by rw [← hs.1]; exact (lk_off sw).2 h1) ht kk
theorem b_getstatic {C : Nat → Nat → Lo → List AV → Sg → Prop} {i a : Nat} {f : String × Nat × Nat × Nat × Nat} (hmi : mths[e]? = some mi) (hd : decode mi.2.1 pc = .ok (.getstatic i, nx - pc)) (hx : ln nx pc 3 = true) (hf : staOk f = true) (hf1 : f.1 = mi.1.cls) (hf2 : f.2.1 = i) (hf3 : f.2.2.1 = a) (hC : ∀ c0 s0 lo st σ, C c0 s0 lo st σ → Bk w d k n e c0 s0 Q nx lo st σ) (h : C c0 s0 lo (.inl (1000 + a) :: st) σ) : Bk w d k n e c0 s0 Q pc lo st σ := by
  have hn := ln_eq hx; subst hn; rw [Nat.add_sub_cancel_left] at hd
  unfold staOk at hf
  split at hf
  · rename_i x hxx
    rw [hf3] at hxx
    rw [hf1, hf2] at hf
    refine bk_row hmi (hC _ _ _ _ _ h) (fun p l ev R s m args below meth c H locs cells slots QQ ls h1 h2 h3 h4 h5 h6 h7 h8 kk => ?_)
    have kk' : W p l ev R s m args below meth c H locs cells slots QQ (F0 m (pc + 3) ls (.ref (w.2.2.2.2 a) :: st.map (enc w))) := by
      have : adr w (1000 + a) = w.2.2.2.2 a := by rw [adr_ext (by omega), Nat.add_sub_cancel_left]
      rw [← this]; exact kk
    have hZ := (h6.2.2.2.1 _ _ hxx).1
    split at hf
    · exact va_gets h1 h2 hZ h7 h4 (h5 _ (tb_g hf rfl)) (fun _ q => q) hd kk'
    · exact va_getsN h1 h2 hZ h7 h4 ((h6.2.1 _ (tb_n hf rfl)).use rfl) (fun _ q => q) hd kk'
  · cases hf
theorem b_ireturn {fl : Nat} (hmi : mths[e]? = some mi) (hd : decode mi.2.1 pc = .ok (.ireturn, nx - pc)) (hx : ln nx pc 1 = true) (hr : (if fl = 0 then decide (mi.2.2.2 = some .int) else decide (mi.2.2.2 = some .boolean)) = true)
    (h : (match st with
    | [.inr (.int x)] => bif Nat.beq fl 0 then Q (some (.inr (.int x))) σ else (bif Nat.beq fl 1 then ((x = 0 ∨ x = 1) ∧ Q (some (.inr (.int x))) σ) else False)
    | _ => False)) : Bk w d k n e c0 s0 Q pc lo st σ := by
  have hn := ln_eq hx; subst hn; rw [Nat.add_sub_cancel_left] at hd
  split at h
  · rename_i x
    intro hd1 hc1 hs1 mi' hmi' p l ev s m args below meth c H locs ls C hK hR hS hl
    cases hmi.symm.trans hmi'
    have hq : Q (some (.inr (.int x))) σ → ∀ t : State, t.heap = H → s.WarmedH t.vm → qR w Q args s (.returned (some (.int x))) t := fun hQ t ht hW => ⟨⟨some (.inr (.int x)), σ, rfl, hQ, by rw [ht]; exact hR⟩, hS.F ht⟩
    refine W.widen hc1 hs1 ?_
    cases hb : Nat.beq fl 0 with
    | true =>
      rw [hb] at h
      rw [if_pos (Nat.eq_of_beq_eq_true hb), decide_eq_true_eq] at hr
      exact W.iret C.1.1 C.1.2.1 (by rw [C.2.1, hr]) (hq h) hS.2.2 hd C.2.2
    | false =>
      rw [hb] at h
      have h : (bif Nat.beq fl 1 then ((x = 0 ∨ x = 1) ∧ Q (some (.inr (.int x))) σ) else False) := h
      obtain ⟨hb1, h⟩ := bif_inv h
      have : fl = 1 := Nat.eq_of_beq_eq_true hb1
      rw [if_neg (by omega), decide_eq_true_eq] at hr
      exact W.zret C.1.1 C.1.2.1 (by rw [C.2.1, hr]) (by rcases h.1 with e | e <;> subst e <;> rfl) (hq h.2) hS.2.2 hd C.2.2
  · exact h.elim
theorem b_lreturn (hmi : mths[e]? = some mi) (hd : decode mi.2.1 pc = .ok (.lreturn, nx - pc)) (hx : ln nx pc 1 = true) (hr : mi.2.2.2 = some .long)
    (h : (match st with
    | [.inr (.long x)] => Q (some (.inr (.long x))) σ
    | _ => False)) : Bk w d k n e c0 s0 Q pc lo st σ := by
  have hn := ln_eq hx; subst hn; rw [Nat.add_sub_cancel_left] at hd
  split at h
  · rename_i x
    intro hd1 hc1 hs1 mi' hmi' p l ev s m args below meth c H locs ls C hK hR hS hl
    cases hmi.symm.trans hmi'
    refine W.widen hc1 hs1 ?_
    exact W.lret C.1.1 C.1.2.1 (by rw [C.2.1, hr]) (fun t ht hW => ⟨⟨some (.inr (.long x)), σ, rfl, h, by rw [ht]; exact hR⟩, hS.F ht⟩) hS.2.2 hd C.2.2
  · exact h.elim
theorem b_areturn {nm : String} (hmi : mths[e]? = some mi) (hd : decode mi.2.1 pc = .ok (.areturn, nx - pc)) (hx : ln nx pc 1 = true) (hr : mi.2.2.2 = some (.object nm))
    (h : (match st with
    | [.inr .null] => Q (some (.inr .null)) σ
    | [.inr (.ref a)] => Q (some (.inr (.ref a))) σ
    | _ => False)) : Bk w d k n e c0 s0 Q pc lo st σ := by
  have hn := ln_eq hx; subst hn; rw [Nat.add_sub_cancel_left] at hd
  split at h
  · intro hd1 hc1 hs1 mi' hmi' p l ev s m args below meth c H locs ls C hK hR hS hl
    cases hmi.symm.trans hmi'
    refine W.widen hc1 hs1 ?_
    exact W.aret C.1.1 C.1.2.1 (by rw [C.2.1, hr]) (Or.inl ⟨_, rfl⟩) (Or.inl rfl) (fun t ht hW => ⟨⟨some (.inr .null), σ, rfl, h, by rw [ht]; exact hR⟩, hS.F ht⟩) hS.2.2 hd C.2.2
  · rename_i a
    intro hd1 hc1 hs1 mi' hmi' p l ev s m args below meth c H locs ls C hK hR hS hl
    cases hmi.symm.trans hmi'
    refine W.widen hc1 hs1 ?_
    exact W.aret C.1.1 C.1.2.1 (by rw [C.2.1, hr]) (Or.inl ⟨_, rfl⟩) (Or.inr ⟨a, rfl⟩) (fun t ht hW => ⟨⟨some (.inr (.ref a)), σ, rfl, h, by rw [ht]; exact hR⟩, hS.F ht⟩) hS.2.2 hd C.2.2
  · exact h.elim
theorem b_return {st : List AV} (hmi : mths[e]? = some mi) (hd : decode mi.2.1 pc = .ok (.return_, nx - pc)) (hx : ln nx pc 1 = true) (hr : mi.2.2.2 = none)
    (h : (match st with
    | [] => Q none σ
    | _ => False)) : Bk w d k n e c0 s0 Q pc lo st σ := by
  have hn := ln_eq hx; subst hn; rw [Nat.add_sub_cancel_left] at hd
  split at h
  · intro hd1 hc1 hs1 mi' hmi' p l ev s m args below meth c H locs ls C hK hR hS hl
    cases hmi.symm.trans hmi'
    refine W.widen hc1 hs1 ?_
    exact W.vret C.1.1 C.1.2.1 (by rw [C.2.1, hr]) (fun t ht hW => ⟨⟨none, σ, rfl, h, by rw [ht]; exact hR⟩, hS.F ht⟩) hS.2.2 hd C.2.2
  · exact h.elim
end
