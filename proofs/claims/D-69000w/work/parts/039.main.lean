/-! 039: what must hold of an instruction as it stands; every instruction; blocks; methods -/
theorem ldcwString {p : Program} {l : Launch} {ev : Env} {R : Room} {s : State} {m : MethodId} {args : Array Value} {below : List Frame} {meth : Method} {c : Code} {T : State} {locs : List Loc} {cells slots : Nat}
    (X : Stand p l ev R s m args below meth c T locs cells slots) (hexec : p.tables.exec = Jvm.exec) {own text : String} {index : Nat} {a : Addr} (hown : s.vm.findClass own = some m.cls) {A : Array Value}
    (hconst : (Cond.stringRef own index text).before A s = true) (hev : (Term.string own index).eval A s none [] s = some (.ref a)) {g : JFrame} (hg : g.method = m) (hdg : decode c.code g.pc = .ok (.ldc_w index, 3)) :
    ∀ target, Steps p.tables ev below (T.setTop { g with pc := g.pc + 3, stack := .ref a :: g.stack }) target → Steps p.tables ev below (T.setTop g) target := by
  obtain ⟨k, cf, i, a', hk, hcf, hcp, -, hr, hev'⟩ := Cond.stringRef_spec hown hconst
  cases hev.symm.trans hev'
  obtain ⟨k', hk', he⟩ := X.warmed.alike.2.2 _ _ hk
  have hr' : k'.resolved[index]? = some (some (.string a)) := by
    rcases X.warmed.entry hk hk' index with h | ⟨h, -⟩
    · rw [h]; exact hr
    · rw [hr] at h; cases h
  intro target hrest
  subst hg
  jvm_step X.here [hexec, hdg, ldc_w.wp_string (e := ev) (s := T) (f := g) X.here.top hk' (by rw [he]; exact hcf) hcp hr']
  exact hrest
theorem va_ldcwS {p : Program} {l : Launch} {ev : Env} {R : Room} {s : State} {m : MethodId} {args : Array Value} {below : List Frame} {meth : Method} {c : Code} {H : Heap} {locs : List Loc} {cells slots : Nat} {QQ : State → Prop} {cc : ByteArray} {pc : Nat} {ls : Array Slot} {rest : List Value} (hexec : p.tables.exec = Jvm.exec) (hb : c.code = cc) {own tx : String} {index q : Nat} (hown : s.vm.findClass own = some m.cls) (hZ : vk_R own index tx q s) (hdg : decode cc pc = .ok (.ldc_w index, 3))
    (k : W p l ev R s m args below meth c H locs cells slots QQ (F0 m (pc + 3) ls (.ref q :: rest))) : W p l ev R s m args below meth c H locs cells slots QQ (F0 m pc ls rest) := by
  intro T hT X
  obtain ⟨t, a1, b1⟩ := k T hT X
  exact ⟨t, ldcwString X hexec hown (text := tx) (a := q) hZ.1 hZ.2 (g := F0 m pc ls rest) rfl (by rw [hb]; exact hdg) t a1, b1⟩
theorem strT_len : strT.length = 15 := by decide +kernel
section
variable {w : Wd} {d k n e c0 s0 : Nat} {Q : Option AV → Sg → Prop} {mi : MI} {pc nx : Nat} {lo : Lo} {st : List AV} {σ : Sg}
theorem ws_str {a v : Nat} {bs : List Int32} (h : (a, v, bs) ∈ σ.2.2) : ∃ q0 : Nat, (wsOf w σ)[q0]? = some (a, .inr (16, [.ref v, .int 0, .int 0, .int 0])) := by
  have hm : ((a, .inr (16, [.ref v, .int 0, .int 0, .int 0])) : Nat × va_E) ∈ wsOf w σ := List.mem_append_right _ (List.mem_flatMap.mpr ⟨_, h, List.mem_cons_self⟩)
  exact List.getElem?_of_mem hm
theorem recv_str {av : AV} (h : strR σ av) {s : State} {H : Heap} {locs : List Loc} (hK : Kn w s) (hR : Rel w σ H) (hS : va_S (AA w) s.heap H locs) : ∃ b : Nat, enc w av = .ref b ∧ ∃ cell : Cell, H[b]? = some cell ∧ cell.vm.isStatics = false ∧ s.vm.findClass "java/lang/String" = some cell.cls := by
  unfold strR at h
  split at h
  · rename_i a
    obtain ⟨hb, -⟩ := bif_inv h
    rw [Bool.and_eq_true] at hb
    have h1 : 1100 ≤ a := Nat.le_of_ble_eq_true hb.1
    have h2 : a < 1115 := by simpa [Nat.blt_eq] using hb.2
    have hlt : a - 1100 < strT.length := by rw [strT_len]; omega
    have hrv := vk_recv hK.2.2.2.2.2 hlt hS
    refine ⟨w.2.2.2.2 (100 + (a - 1100)), ?_, hrv⟩
    show Value.ref (adr w a) = _
    rw [adr_ext (by omega), show a - 1000 = 100 + (a - 1100) by omega]
  · rename_i a
    obtain ⟨v, bs, hm⟩ := h
    obtain ⟨q0, hq⟩ := ws_str (w := w) hm
    exact ⟨a, rfl, va_recv hK.1 hR.1 (ci := 16) (q := ("java/lang/String", F_16, 4)) rfl hq⟩
  · exact h.elim
theorem b_ldcS {C : Nat → Nat → Lo → List AV → Sg → Prop} {i a : Nat} {x : String × Nat × String × List Int32 × Nat} (hmi : mths[e]? = some mi) (hd : decode mi.2.1 pc = .ok (.ldc i, nx - pc)) (hx : ln nx pc 2 = true) (hs : strT[a]? = some x) (h1 : x.1 = mi.1.cls) (h2 : x.2.1 = i) (hC : ∀ c0 s0 lo st σ, C c0 s0 lo st σ → Bk w d k n e c0 s0 Q nx lo st σ) (h : C c0 s0 lo (.inl (1100 + a) :: st) σ) : Bk w d k n e c0 s0 Q pc lo st σ := by
  have hn := ln_eq hx; subst hn; rw [Nat.add_sub_cancel_left] at hd
  refine bk_row hmi (hC _ _ _ _ _ h) (fun p l ev R s m args below meth c H locs cells slots QQ ls q1 q2 q3 q4 q5 q6 q7 q8 kk => ?_)
  have hZ := q6.2.2.2.2.1 _ _ hs
  rw [h1, h2] at hZ
  refine va_ldcS q1 q2 q4 hZ hd ?_
  have : adr w (1100 + a) = w.2.2.2.2 (100 + a) := by rw [adr_ext (by omega), show 1100 + a - 1000 = 100 + a by omega]
  rw [← this]; exact kk
theorem b_ldcwS {C : Nat → Nat → Lo → List AV → Sg → Prop} {i a : Nat} {x : String × Nat × String × List Int32 × Nat} (hmi : mths[e]? = some mi) (hd : decode mi.2.1 pc = .ok (.ldc_w i, nx - pc)) (hx : ln nx pc 3 = true) (hs : strT[a]? = some x) (h1 : x.1 = mi.1.cls) (h2 : x.2.1 = i) (hC : ∀ c0 s0 lo st σ, C c0 s0 lo st σ → Bk w d k n e c0 s0 Q nx lo st σ) (h : C c0 s0 lo (.inl (1100 + a) :: st) σ) : Bk w d k n e c0 s0 Q pc lo st σ := by
  have hn := ln_eq hx; subst hn; rw [Nat.add_sub_cancel_left] at hd
  refine bk_row hmi (hC _ _ _ _ _ h) (fun p l ev R s m args below meth c H locs cells slots QQ ls q1 q2 q3 q4 q5 q6 q7 q8 kk => ?_)
  have hZ := q6.2.2.2.2.1 _ _ hs
  rw [h1, h2] at hZ
  refine va_ldcwS q1 q2 q4 hZ hd ?_
  have : adr w (1100 + a) = w.2.2.2.2 (100 + a) := by rw [adr_ext (by omega), show 1100 + a - 1000 = 100 + a by omega]
  rw [← this]; exact kk
theorem cp_row {ks kd sp dp n' : Nat} : (cpI σ ks kd sp dp n').1 kd = va_cpy (σ.1 ks) (σ.1 kd) sp dp n' := by
  funext b
  unfold cpI va_cpy
  by_cases h : dp ≤ b ∧ b < dp + n'
  · have h1 : Nat.ble dp b = true := Nat.ble_eq_true_of_le h.1
    have h2 : Nat.blt b (dp + n') = true := by simpa [Nat.blt_eq] using h.2
    simp [h1, h2, h]
  · have : (Nat.ble dp b && Nat.blt b (dp + n')) = false := by
      rw [Bool.eq_false_iff]; intro h3
      rw [Bool.and_eq_true] at h3
      exact h ⟨Nat.le_of_ble_eq_true h3.1, by simpa [Nat.blt_eq] using h3.2⟩
    simp [this, h]
theorem cpy_use {f : String × Nat × Nat} (h : cpyOk f = true) : Cond.methodLink f.1 f.2.1 arraycopyName ∈ gtbl ∧ Cond.native arraycopyName ∈ gtbl ∧ Cond.static arraycopyName ∈ gtbl ∧ Cond.initialized "java/lang/System" ∈ gtbl := by
  unfold cpyOk at h
  simp only [Bool.and_eq_true] at h
  obtain ⟨⟨⟨h1, h2⟩, h3⟩, h4⟩ := h
  exact ⟨tb_g h1 rfl, tb_g h2 rfl, tb_g h3 rfl, tb_g h4 rfl⟩
theorem b_copy {f : String × Nat × Nat} {i t z0 z1 ks kd : Nat} {n' dp sp : Int32} {r : List AV} (hmi : mths[e]? = some mi) (hd : decode mi.2.1 pc = .ok (.invokestatic i, 3)) (hf : cpyOk f = true) (hf1 : f.1 = mi.1.cls) (hf2 : f.2.1 = i) (hr : catS r ≤ 8) (hkd : kd < 1000) (hks : ks < 1000) (ht : t = 0 ∨ t = 1) (h0 : rowK ks = some (t, z0)) (h1 : rowK kd = some (t, z1)) (g1 : ¬ sp < 0) (g2 : ¬ dp < 0) (g3 : ¬ n' < 0) (g4 : sp.toNatClampNeg + n'.toNatClampNeg ≤ z0) (g5 : dp.toNatClampNeg + n'.toNatClampNeg ≤ z1) (g6 : ∀ i, i < n'.toNatClampNeg → fits (tyC t) (.int (σ.1 ks (sp.toNatClampNeg + i))) = true)
    (h : Bk w d k n e c0 s0 Q (pc + 3) lo r (cpI σ ks kd sp.toNatClampNeg dp.toNatClampNeg n'.toNatClampNeg)) : Bk w d k n e c0 s0 Q pc lo (.inr (.int n') :: .inr (.int dp) :: .inl kd :: .inr (.int sp) :: .inl ks :: r) σ := by
  rcases rowK_inv h0 with ⟨-, hk0, hq0⟩ | ⟨hn0, -⟩
  · rcases rowK_inv h1 with ⟨-, hk1, hq1⟩ | ⟨hn1, -⟩
    · have ht2 : t ≠ 2 := by omega
      refine bk_wr (x := .inl (w.2.2.2.1 t, (z1, .inl (va_cpy (σ.1 ks) (σ.1 kd) sp.toNatClampNeg dp.toNatClampNeg n'.toNatClampNeg)))) hmi hk1 (by rw [ent_arr hq1 ht2, cp_row]) (fun j hj => ent_cp hj) rfl h (fun p l ev R s m args below meth c H locs cells slots QQ ls q1 q2 q3 q4 q5 q6 q7 q8 q9 q10 kk => ?_)
      show W _ _ _ _ _ _ _ _ _ _ _ _ _ _ _ (F0 m pc ls (.int n' :: .int dp :: .ref (adr w kd) :: .int sp :: .ref (adr w ks) :: r.map (enc w)))
      rw [adr_own hkd, adr_own hks]
      obtain ⟨u1, u2, u3, u4⟩ := cpy_use hf
      rw [hf1, hf2] at u1
      refine va_copyi q1 q2 q3 q4 (q5 _ u1) (q5 _ u2) (q5 _ u3) (q5 _ u4) q6.1 q8.1 q8.2.1 q7 ks kd t t (ws_arr hq0 ht2) (ws_arr hq1 ht2) (tys_get w (rowT hq0)) (tys_get w (rowT hq0)) (by rcases ht with rfl | rfl <;> rfl) g1 g2 g3 g4 g5 g6 q9 ?_ hd kk
      rw [catS_sum]
      have : nativeFrameWords "java/lang/System" "arraycopy" 5 ≤ 40 := by decide
      omega
    · exact absurd hkd hn1
  · exact absurd hks hn0
def mthE : List Nat := [m_Math_max_III, m_Math_min_III, m_Math_max_JJJ, m_Math_min_JJJ]
theorem mx_code : Cond.code Lib.Math.max.name Lib.Math.max.code 2 (some .int) ∈ gtbl := mth_code (e := m_Math_max_III) (mi := (Lib.Math.max.name, Lib.Math.max.code, 2, some .int)) rfl (by decide)
theorem mn_code : Cond.code Lib.Math.min.name Lib.Math.min.code 2 (some .int) ∈ gtbl := mth_code (e := m_Math_min_III) (mi := (Lib.Math.min.name, Lib.Math.min.code, 2, some .int)) rfl (by decide)
theorem mxl_code : Cond.code Lib.MathLoose.max_long.x Lib.MathLoose.max_long.code 4 (some .long) ∈ gtbl := mth_code (e := m_Math_max_JJJ) (mi := (Lib.MathLoose.max_long.x, Lib.MathLoose.max_long.code, 4, some .long)) rfl (by decide)
theorem mnl_code : Cond.code Lib.MathLoose.min_long.x Lib.MathLoose.min_long.code 4 (some .long) ∈ gtbl := mth_code (e := m_Math_min_JJJ) (mi := (Lib.MathLoose.min_long.x, Lib.MathLoose.min_long.code, 4, some .long)) rfl (by decide)
/-- calls of Math's: the same as a row, with room -/
theorem bk_math {st' : List AV} (hmi : mths[e]? = some mi) (h : Bk w d k n e c0 s0 Q nx lo st' σ)
    (row : ∀ (p : Program) (l : Launch) (ev : Env) (R : Room) (s : State) (m : MethodId) (args : Array Value) (below : List Frame) (meth : Method) (c : Code) (H : Heap) (locs : List Loc) (cells slots : Nat) (QQ : State → Prop) (ls : Array Slot), p.tables.exec = Jvm.exec → c.code = mi.2.1 → c.maxLocals = ls.size → s.vm.findClass mi.1.cls = some m.cls → (∀ q ∈ gtbl, q.before args s = true) → 1 ≤ R.frames → 60 ≤ R.locals → cells ≤ R.cells → slots ≤ R.slots →
      W p l ev R s m args below meth c H locs cells slots QQ (F0 m nx ls (st'.map (enc w))) → W p l ev R s m args below meth c H locs cells slots QQ (F0 m pc ls (st.map (enc w)))) : Bk w d k n e c0 s0 Q pc lo st σ := by
  intro hd1 hc1 hs1 mi' hmi' p l ev s m args below meth c H locs ls C hK hR hS hl
  cases hmi.symm.trans hmi'
  exact row p l ev _ s m args below meth c H locs _ _ _ ls C.1.1 C.1.2.1 (by rw [C.1.2.2.1, hl.1]) C.1.2.2.2.1 C.1.2.2.2.2 hd1 (by show 60 ≤ 60 * d; omega) hc1 hs1 (h hd1 hc1 hs1 mi hmi p l ev s m args below meth c H locs ls C hK hR hS hl)
theorem cal_static {f : String × Nat × Nat × Nat × Nat × List Nat × MethodName} {mi0 : MI} (hf : calOk f = true) (hk : f.2.2.2.1 = 0) (hm : mths[f.2.2.1]? = some mi0) : Cond.methodLink f.1 f.2.1 mi0.1 ∈ gtbl ∧ Cond.static mi0.1 ∈ gtbl := by
  obtain ⟨mi, h1, h2⟩ := cal_use hf
  cases hm.symm.trans h1
  rcases h2 with ⟨-, -, h3, h4⟩ | ⟨h0, -⟩ | ⟨h0, -⟩ | ⟨h0, -⟩
  · exact ⟨h3, h4⟩
  · omega
  · omega
  · omega
theorem mt_init : Cond.initialized "java/lang/Math" ∈ gtbl := (mth_use (e := m_Math_max_III) (mi := (Lib.Math.max.name, Lib.Math.max.code, 2, some .int)) rfl (by decide)).1
theorem b_math {C : Nat → Nat → Lo → List AV → Sg → Prop} {f : String × Nat × Nat × Nat × Nat × List Nat × MethodName} {i a : Nat} (hmi : mths[e]? = some mi) (hd : decode mi.2.1 pc = .ok (.invokestatic i, 3)) (hcat : catS (st.drop 2) ≤ 8) (hf : calOk f = true) (hf1 : f.1 = mi.1.cls) (hf2 : f.2.1 = i) (hf4 : f.2.2.2.1 = 0) (hf3 : mthE[a]? = some f.2.2.1) (hC : ∀ c0 s0 lo st σ, C c0 s0 lo st σ → Bk w d k n e c0 s0 Q (pc + 3) lo st σ)
    (h : wpM c0 s0 a lo st σ C) : Bk w d k n e c0 s0 Q pc lo st σ := by
  unfold wpM at h
  split at h
  · obtain ⟨x, y, r, rfl, h'⟩ := p2i_inv h; clear h
    have hr : catS r ≤ 8 := hcat
    obtain ⟨u1, u2⟩ := cal_static (mi0 := (Lib.Math.max.name, Lib.Math.max.code, 2, some .int)) hf hf4 (by rw [← Option.some.inj hf3]; rfl)
    rw [hf1, hf2] at u1
    refine bk_math hmi (hC _ _ _ _ _ h') (fun p l ev R s m args below meth c H locs cells slots QQ ls q1 q2 q3 q4 q5 q6 q7 q8 q9 kk => ?_)
    exact va_mmax q1 q2 q3 q4 (q5 _ u1) (q5 _ u2) (q5 _ mt_init) (q5 _ mx_code) q6 (by rw [catS_sum]; omega) q8 q9 hd kk
  · obtain ⟨x, y, r, rfl, h'⟩ := p2i_inv h; clear h
    have hr : catS r ≤ 8 := hcat
    obtain ⟨u1, u2⟩ := cal_static (mi0 := (Lib.Math.min.name, Lib.Math.min.code, 2, some .int)) hf hf4 (by rw [← Option.some.inj hf3]; rfl)
    rw [hf1, hf2] at u1
    refine bk_math hmi (hC _ _ _ _ _ h') (fun p l ev R s m args below meth c H locs cells slots QQ ls q1 q2 q3 q4 q5 q6 q7 q8 q9 kk => ?_)
    exact va_mmin q1 q2 q3 q4 (q5 _ u1) (q5 _ u2) (q5 _ mt_init) (q5 _ mn_code) q6 (by rw [catS_sum]; omega) q8 q9 hd kk
  · obtain ⟨x, y, r, rfl, h'⟩ := p2l_inv h; clear h
    have hr : catS r ≤ 8 := hcat
    obtain ⟨u1, u2⟩ := cal_static (mi0 := (Lib.MathLoose.max_long.x, Lib.MathLoose.max_long.code, 4, some .long)) hf hf4 (by rw [← Option.some.inj hf3]; rfl)
    rw [hf1, hf2] at u1
    refine bk_math hmi (hC _ _ _ _ _ h') (fun p l ev R s m args below meth c H locs cells slots QQ ls q1 q2 q3 q4 q5 q6 q7 q8 q9 kk => ?_)
    exact va_mmax_long q1 q2 q3 q4 (q5 _ u1) (q5 _ u2) (q5 _ mt_init) (q5 _ mxl_code) q6 (by rw [catS_sum]; omega) q8 q9 hd kk
  · obtain ⟨x, y, r, rfl, h'⟩ := p2l_inv h; clear h
    have hr : catS r ≤ 8 := hcat
    obtain ⟨u1, u2⟩ := cal_static (mi0 := (Lib.MathLoose.min_long.x, Lib.MathLoose.min_long.code, 4, some .long)) hf hf4 (by rw [← Option.some.inj hf3]; rfl)
    rw [hf1, hf2] at u1
    refine bk_math hmi (hC _ _ _ _ _ h') (fun p l ev R s m args below meth c H locs cells slots QQ ls q1 q2 q3 q4 q5 q6 q7 q8 q9 kk => ?_)
    exact va_mmin_long q1 q2 q3 q4 (q5 _ u1) (q5 _ u2) (q5 _ mt_init) (q5 _ mnl_code) q6 (by rw [catS_sum]; omega) q8 q9 hd kk
  · exact h.elim
end
