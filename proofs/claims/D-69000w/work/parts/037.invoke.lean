/-! 037: calls -/
theorem chunk_use {A : List MI} {B : List (Nat × Nat)} (h : A.map (fun mi => some (Cond.code mi.1 mi.2.1 mi.2.2.1 mi.2.2.2)) = B.map (fun p => tbG p.1)) {i : Nat} {mi : MI} (hi : A[i]? = some mi) : Cond.code mi.1 mi.2.1 mi.2.2.1 mi.2.2.2 ∈ lw_tbl := by
  have h1 : (A.map (fun mi => some (Cond.code mi.1 mi.2.1 mi.2.2.1 mi.2.2.2)))[i]? = some (some (Cond.code mi.1 mi.2.1 mi.2.2.1 mi.2.2.2)) := by rw [List.getElem?_map, hi]; rfl
  rw [h, List.getElem?_map] at h1
  cases hB : B[i]? with
  | none => rw [hB] at h1; cases h1
  | some p =>
    rw [hB] at h1
    have h2 : tbG p.1 = some (Cond.code mi.1 mi.2.1 mi.2.2.1 mi.2.2.2) := Option.some.inj h1
    exact tb_mem (p := p.1) (decide_eq_true h2)
theorem mths_len : mths.length = 488 := by decide +kernel
theorem mthP_len : mthP.length = 488 := by decide +kernel
theorem mth_code {e : Nat} {mi : MI} (h : mths[e]? = some mi) (he : e < 487) : Cond.code mi.1 mi.2.1 mi.2.2.1 mi.2.2.2 ∈ gtbl := by
  have h1 : mths.dropLast[e]? = some mi := by rw [List.getElem?_dropLast, if_pos (by rw [mths_len]; omega)]; exact h
  have key : ∀ j : Nat, j ≤ e → e < j + 50 → ((mths.dropLast.drop j).take 50)[e - j]? = some mi := by
    intro j h2 h3
    rw [List.getElem?_take, if_pos (by omega), List.getElem?_drop, show j + (e - j) = e by omega]; exact h1
  have hm : Cond.code mi.1 mi.2.1 mi.2.2.1 mi.2.2.2 ∈ lw_tbl := by
    rcases (show e < 50 ∨ (50 ≤ e ∧ e < 100) ∨ (100 ≤ e ∧ e < 150) ∨ (150 ≤ e ∧ e < 200) ∨ (200 ≤ e ∧ e < 250) ∨ (250 ≤ e ∧ e < 300) ∨ (300 ≤ e ∧ e < 350) ∨ (350 ≤ e ∧ e < 400) ∨ (400 ≤ e ∧ e < 450) ∨ (450 ≤ e ∧ e < 500) by omega) with q | q | q | q | q | q | q | q | q | q
    · exact chunk_use mth_row_0 (key 0 (by omega) (by omega))
    · exact chunk_use mth_row_1 (key 50 (by omega) (by omega))
    · exact chunk_use mth_row_2 (key 100 (by omega) (by omega))
    · exact chunk_use mth_row_3 (key 150 (by omega) (by omega))
    · exact chunk_use mth_row_4 (key 200 (by omega) (by omega))
    · exact chunk_use mth_row_5 (key 250 (by omega) (by omega))
    · exact chunk_use mth_row_6 (key 300 (by omega) (by omega))
    · exact chunk_use mth_row_7 (key 350 (by omega) (by omega))
    · exact chunk_use mth_row_8 (key 400 (by omega) (by omega))
    · exact chunk_use mth_row_9 (key 450 (by omega) (by omega))
  exact List.mem_filter.mpr ⟨hm, rfl⟩
theorem mth_use {e : Nat} {mi : MI} (h : mths[e]? = some mi) (he : e < 487) : Cond.initialized mi.1.cls ∈ gtbl ∧ (plainName mi.1.cls = true ∨ (mi.1.cls = "java/lang/String" ∨ mi.1.cls = "java/lang/Math")) ∧ (mi.1.cls ≠ "java/lang/invoke/MethodHandle" ∧ mi.1.cls ≠ "java/lang/invoke/VarHandle") ∧ mi.2.2.1 ≤ 40 := by
  obtain ⟨p, hp⟩ : ∃ p, mthP[e]? = some p := ⟨_, List.getElem?_eq_getElem (by rw [mthP_len]; omega)⟩
  have hz : (mths.zip mthP)[e]? = some (mi, p) := by rw [List.getElem?_zip_eq_some]; exact ⟨h, hp⟩
  have hz2 : (mths.zip mthP).dropLast[e]? = some (mi, p) := by rw [List.getElem?_dropLast, if_pos (by rw [List.length_zip, mths_len, mthP_len]; omega)]; exact hz
  have hok : mthOk (mi, p) = true := List.all_eq_true.mp mth_chk _ (List.mem_of_getElem? hz2)
  unfold mthOk at hok
  simp only [Bool.and_eq_true, Bool.or_eq_true, decide_eq_true_eq] at hok
  obtain ⟨⟨⟨h1, h2⟩, h3⟩, h4⟩ := hok
  exact ⟨tb_g h1 rfl, h2, h3, h4⟩
theorem cal_use {f : String × Nat × Nat × Nat × Nat × List Nat × MethodName} (h : calOk f = true) : ∃ mi : MI, mths[f.2.2.1]? = some mi ∧
    ((f.2.2.2.1 = 0 ∧ (parseMethodDescriptor mi.1.desc).map (fun d => d.parameters.length) = some f.2.2.2.2.1 ∧ Cond.methodLink f.1 f.2.1 mi.1 ∈ gtbl ∧ Cond.static mi.1 ∈ gtbl) ∨
     (f.2.2.2.1 = 1 ∧ (parseMethodDescriptor mi.1.desc).map (fun d => d.parameters.length) = some f.2.2.2.2.1 ∧ Cond.methodLinkNest f.1 f.2.1 mi.1 "PlantKeeper" ∈ ntbl ∧ Cond.static mi.1 ∈ gtbl) ∨
     (f.2.2.2.1 = 2 ∧ (parseMethodDescriptor mi.1.desc).map (fun d => d.parameters.length) = some f.2.2.2.2.1 ∧ Cond.methodLink f.1 f.2.1 mi.1 ∈ gtbl ∧ Cond.instanceMethod mi.1 ∈ gtbl ∧ Cond.selects mi.1.cls mi.1 mi.1 ∈ gtbl) ∨
     (f.2.2.2.1 = 3 ∧ (parseMethodDescriptor f.2.2.2.2.2.2.desc).map (fun d => d.parameters.length) = some f.2.2.2.2.1 ∧ Cond.methodLink f.1 f.2.1 f.2.2.2.2.2.2 ∈ gtbl ∧ Cond.sameMethod f.2.2.2.2.2.2.cls f.2.2.2.2.2.2.cls f.2.2.2.2.2.2.name f.2.2.2.2.2.2.desc ∈ gtbl ∧ Cond.selects mi.1.cls f.2.2.2.2.2.2 mi.1 ∈ gtbl ∧ Cond.instanceMethod mi.1 ∈ gtbl ∧ Cond.declares f.2.2.2.2.2.2 ∈ ntbl ∧ (f.2.2.2.2.2.2.cls ≠ "java/lang/invoke/MethodHandle" ∧ f.2.2.2.2.2.2.cls ≠ "java/lang/invoke/VarHandle"))) := by
  unfold calOk at h
  split at h
  · rename_i mi p0 p1 hm hp
    refine ⟨mi, hm, ?_⟩
    rw [Bool.and_eq_true, decide_eq_true_eq] at h
    obtain ⟨h1, h2⟩ := h
    split at h2
    · rename_i h3
      rw [Bool.and_eq_true] at h2
      exact Or.inl ⟨h3, h1, tb_g h2.1 rfl, tb_g h2.2 rfl⟩
    · rw [Bool.and_eq_true, Bool.and_eq_true, decide_eq_true_eq] at h2
      exact Or.inr (Or.inl ⟨h2.1.1, h1, tb_n h2.1.2 rfl, tb_g h2.2 rfl⟩)
  · rename_i mi p0 p1 p2 hm hp
    refine ⟨mi, hm, ?_⟩
    simp only [Bool.and_eq_true, decide_eq_true_eq] at h
    obtain ⟨⟨⟨⟨h1, h2⟩, h3⟩, h4⟩, h5⟩ := h
    exact Or.inr (Or.inr (Or.inl ⟨h2, h1, tb_g h3 rfl, tb_g h4 rfl, tb_g h5 rfl⟩))
  · rename_i mi p0 p1 p2 p3 p4 hm hp
    refine ⟨mi, hm, ?_⟩
    simp only [Bool.and_eq_true, decide_eq_true_eq] at h
    obtain ⟨⟨⟨⟨⟨⟨⟨h1, h2⟩, h3⟩, h4⟩, h5⟩, h6⟩, h7⟩, h8⟩ := h
    exact Or.inr (Or.inr (Or.inr ⟨h2, h1, tb_g h3 rfl, tb_g h4 rfl, tb_g h5 rfl, tb_g h6 rfl, tb_n h7 rfl, h8⟩))
  · cases h
theorem pc_blind {w : Wd} {σ : Sg} {av : List Value} : FrameBlind (va_Pc av (fun U => Rel w σ U.heap ∧ Kn w U)) := by
  intro a U g mk h
  exact ⟨h.1, h.2.1, Kn.same (s := U) (U := U.calling g mk a) rfl rfl h.2.2⟩
theorem good_ws {mi : MI} {e : Nat} (h : mths[e]? = some mi) (he : e < 487) : GoodIn gtbl (wsM mi) := by
  intro q hq
  rcases List.mem_cons.mp hq with rfl | hq
  · exact gtbl_good _ (mth_code h he)
  · exact gtbl_good _ hq
section
variable {w : Wd} {d k n e c0 s0 : Nat} {Q : Option AV → Sg → Prop} {mi : MI} {pc nx : Nat} {lo : Lo} {st : List AV} {σ : Sg}
/-- behind a call: what it answered goes on the stack, the memory is what it left -/
theorem va_callG {p : Program} {l : Launch} {ev : Env} {R : Room} {s : State} {m : MethodId} {args : Array Value} {below : List Frame} {meth : Method} {c : Code} {H : Heap} {locs : List Loc} {cells slots mc ms : Nat} {QQ : State → Prop} {ls : Array Slot} {st0 rest : List Value} {a : Array Value} {Q0 : Option AV → Sg → Prop}
    (hr : va_Run p l ev R s m args below meth c H locs cells slots mc ms (F0 m pc ls st0) rest (qR w Q0 a) (AA w)) (hS : va_S (AA w) s.heap H locs)
    (kk : ∀ (v : Option AV) (σ' : Sg) (H1 : Heap) (locs1 : List Loc), Q0 v σ' → Rel w σ' H1 → va_S (AA w) s.heap H1 locs1 → W p l ev R s m args below meth c H1 locs1 (cells + mc) (slots + ms) QQ (F0 m (pc + 3) ls ((v.map (enc w)).toList ++ rest))) : W p l ev R s m args below meth c H locs cells slots QQ (F0 m pc ls st0) := by
  intro T hT X
  obtain ⟨v, st₀, t, T', L, h0, X', hL, e1, e2, ⟨⟨v', σ', hv, hp, hb⟩, hz, hk⟩, stp⟩ := hr T hT X
  have hv : v = v'.map (enc w) := Outcome.returned.inj hv
  subst hv
  rw [h0] at hz hk
  obtain ⟨t2, a1, b1⟩ := kk v' σ' T'.heap (locs ++ L) hp (by rw [e1]; exact hb)
    ⟨Nat.le_trans hS.1 (by rw [e1]; exact hz), fun q h1 h2 => by rw [e1, hk q (Nat.lt_of_lt_of_le h1 hS.1) h2]; exact hS.2.1 q h1 h2, fun q hq => by
      rcases List.mem_append.mp hq with h | h
      · exact hS.2.2 q h
      · exact hL q h⟩ T' rfl X'
  exact ⟨t2, stp t2 a1, b1⟩
theorem catS_sum (w : Wd) (r : List AV) : ((r.map (enc w)).map fun v => v.category).sum = catS r := by
  induction r with
  | nil => rfl
  | cons v r ih => rw [List.map_cons, List.map_cons, List.sum_cons, ih, cat_enc]; rfl
/-- the general call -/
theorem bk_call {Q0 : Option AV → Sg → Prop} {e' kc nc : Nat} {avs rest : List AV} (hmi : mths[e]? = some mi) (he' : e' < 487) (hst : st = avs.reverse ++ rest) (hcat : catS rest ≤ 8) (hOk : OkG w (d - 1) kc nc e' avs σ Q0) (hkc : c0 ≤ k → c0 + kc ≤ k) (hnc : s0 ≤ n → s0 + nc ≤ n)
    (hgo : ∀ v σ', Q0 v σ' → Bk w d k n e (c0 + kc) (s0 + nc) Q (pc + 3) lo (v.toList ++ rest) σ')
    (run : ∀ (mi' : MI), mths[e']? = some mi' → ∀ (p : Program) (l : Launch) (ev : Env) (s : State) (m : MethodId) (args : Array Value) (below : List Frame) (meth : Method) (c : Code) (H : Heap) (locs : List Loc) (ls : Array Slot), Cx mi p s m args meth c → Kn w s → Rel w σ H → va_S (AA w) s.heap H locs → ls.size = mi.2.2.1 →
      Met l mi'.1 (wsM mi') (rmD (d - 1) kc nc) (va_Pc (avs.map (enc w)) (fun U => Rel w σ U.heap ∧ Kn w U)) (qR w Q0) kc nc (AA w) → (rmD (d - 1) kc nc).frames + 1 ≤ (rmD d k n).frames → 8 + (mi'.2.2.1 + 11) + (rmD (d - 1) kc nc).locals ≤ (rmD d k n).locals → (∀ U : State, U.heap = H → s.WarmedH U.vm → va_Pc (avs.map (enc w)) (fun U => Rel w σ U.heap ∧ Kn w U) (avs.map (enc w)).toArray U) →
      2 * (F0 m pc ls (st.map (enc w))).monitorRoom + ((rest.map (enc w)).map fun v => v.category).sum ≤ 8 → (c0 + kc ≤ (rmD d k n).cells ∧ s0 + nc ≤ (rmD d k n).slots) →
      va_Run p l ev (rmD d k n) s m args below meth c H locs c0 s0 kc nc (F0 m pc ls (st.map (enc w))) (rest.map (enc w)) (qR w Q0 (avs.map (enc w)).toArray) (AA w))
    (hex : ∃ mi' : MI, mths[e']? = some mi') : Bk w d k n e c0 s0 Q pc lo st σ := by
  intro hd1 hc1 hs1 mi2 hmi2 p l ev s m args below meth c H locs ls C hK hR hS hl
  cases hmi.symm.trans hmi2
  obtain ⟨mi', hmi'⟩ := hex
  have hmax := (mth_use hmi' he').2.2.2
  refine va_callG (run mi' hmi' p l ev s m args below meth c H locs ls C hK hR hS hl.1 (hOk mi' hmi' l) ?_ ?_ ?_ ?_ ⟨hkc hc1, hnc hs1⟩) hS ?_
  · show d - 1 + 1 ≤ d; omega
  · show 8 + (mi'.2.2.1 + 11) + 60 * (d - 1) ≤ 60 * d; omega
  · intro U hU hW
    exact ⟨rfl, by rw [hU]; exact hR, hK.call hS hU hW⟩
  · exact lv_room (by rw [catS_sum]; exact hcat)
  · intro v σ' H1 locs1 hQ hR1 hS1
    have := hgo v σ' hQ hd1 (hkc hc1) (hnc hs1) mi hmi p l ev s m args below meth c H1 locs1 ls C hK hR1 hS1 hl
    rw [List.map_append] at this
    cases v with
    | none => exact this
    | some v => exact this
theorem recv_own {e' : Nat} {av : AV} (h : rcvB e' av = true) {mi' : MI} (hmi' : mths[e']? = some mi') {s : State} {H : Heap} (hK : Kn w s) (hR : Rel w σ H) : ∃ b : Nat, enc w av = .ref b ∧ ∃ cell : Cell, H[b]? = some cell ∧ cell.vm.isStatics = false ∧ s.vm.findClass mi'.1.cls = some cell.cls := by
  unfold rcvB at h
  split at h
  · rename_i a
    cases hb : Nat.blt a 1000 with
    | false => rw [hb] at h; cases h
    | true =>
      rw [hb] at h
      have h : (match kds[a]?, mths[e']? with
        | some (.inl q), some mi => (match classes[q.1]? with | some c => decide (c.1 = mi.1.cls) | none => false)
        | _, _ => false) = true := h
      have ha : a < 1000 := by simpa [Nat.blt_eq] using hb
      split at h
      · rename_i q mi2 hq hm2
        cases hmi'.symm.trans hm2
        split at h
        · rename_i cl hcl
          have hnm : cl.1 = mi'.1.cls := of_decide_eq_true h
          refine ⟨w.1 + a, by show Value.ref (adr w a) = _; rw [adr_own ha], ?_⟩
          have hws : (wsOf w σ)[a]? = some (w.1 + a, .inr (q.1, q.2.mapIdx (fun j c => objV w σ a j c))) := by rw [ws_get (kds_lt hq), ent_obj hq]
          have := va_recv hK.1 hR.1 hcl hws
          rw [hnm] at this
          exact this
        · cases h
      · cases h
  · cases h
end
