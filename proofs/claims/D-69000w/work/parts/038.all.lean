/-! 038: the arms of calls; what must hold of an instruction as it stands; the whole -/
section
variable {w : Wd} {d k n e c0 s0 : Nat} {Q : Option AV → Sg → Prop} {mi : MI} {pc nx : Nat} {lo : Lo} {st : List AV} {σ : Sg}
theorem run_static {f : String × Nat × Nat × Nat × Nat × List Nat × MethodName} {i e' kc nc : Nat} {avs rest : List AV} {Q0 : Option AV → Sg → Prop} (hf : calOk f = true) (hf1 : f.1 = mi.1.cls) (hf2 : f.2.1 = i) (hf3 : f.2.2.1 = e') (hf4 : f.2.2.2.1 = 0 ∨ f.2.2.2.1 = 1) (hf5 : f.2.2.2.2.1 = avs.length) (he' : e' < 487) (hst : st = avs.reverse ++ rest) (hd : decode mi.2.1 pc = .ok (.invokestatic i, 3)) :
    ∀ (mi' : MI), mths[e']? = some mi' → ∀ (p : Program) (l : Launch) (ev : Env) (s : State) (m : MethodId) (args : Array Value) (below : List Frame) (meth : Method) (c : Code) (H : Heap) (locs : List Loc) (ls : Array Slot), Cx mi p s m args meth c → Kn w s → Rel w σ H → va_S (AA w) s.heap H locs → ls.size = mi.2.2.1 →
      Met l mi'.1 (wsM mi') (rmD (d - 1) kc nc) (va_Pc (avs.map (enc w)) (fun U => Rel w σ U.heap ∧ Kn w U)) (qR w Q0) kc nc (AA w) → (rmD (d - 1) kc nc).frames + 1 ≤ (rmD d k n).frames → 8 + (mi'.2.2.1 + 11) + (rmD (d - 1) kc nc).locals ≤ (rmD d k n).locals → (∀ U : State, U.heap = H → s.WarmedH U.vm → va_Pc (avs.map (enc w)) (fun U => Rel w σ U.heap ∧ Kn w U) (avs.map (enc w)).toArray U) →
      2 * (F0 m pc ls (st.map (enc w))).monitorRoom + ((rest.map (enc w)).map fun v => v.category).sum ≤ 8 → (c0 + kc ≤ (rmD d k n).cells ∧ s0 + nc ≤ (rmD d k n).slots) →
      va_Run p l ev (rmD d k n) s m args below meth c H locs c0 s0 kc nc (F0 m pc ls (st.map (enc w))) (rest.map (enc w)) (qR w Q0 (avs.map (enc w)).toArray) (AA w) := by
  intro mi' hmi' p l ev s m args below meth c H locs ls C hK hR hS hsz hM hfr hlo hU hW hcs
  have hts := C.1.2.2.2.2
  obtain ⟨mi2, hmi2, hcase⟩ := cal_use hf
  rw [hf3] at hmi2
  cases hmi'.symm.trans hmi2
  rw [hf1, hf2, hf5] at hcase
  have hu := mth_use hmi' he'
  have hG := good_ws hmi' he'
  have hlen : (avs.map (enc w)).length = avs.length := List.length_map _
  have hstk : (F0 m pc ls (st.map (enc w))).stack = (avs.map (enc w)).reverse ++ rest.map (enc w) := by
    show st.map (enc w) = _
    rw [hst, List.map_append, List.map_reverse]
  rcases hcase with ⟨-, h1, h2, h3⟩ | ⟨-, h1, h2, h3⟩ | ⟨h0, -⟩ | ⟨h0, -⟩
  · refine va_runS C.1 hM ⟨callB_of avs.length hts hG rfl rfl rfl (hts _ hu.1) (hts _ h2) ⟨hu.2.2.1.1, hu.2.2.1.2, h1⟩ ⟨hfr, hlo⟩, hts _ h3⟩ ⟨pc_blind, hU⟩ rfl hlen hsz hstk hW hd hcs
  · refine va_runSN C.1 hM ⟨va_cnB avs.length hts hG rfl rfl rfl (hK.2.1 _ h2) (hts _ hu.1) ⟨hu.2.2.1.1, hu.2.2.1.2, h1⟩ ⟨hfr, hlo⟩, hts _ h3, trivial⟩ ⟨pc_blind, hU⟩ rfl hlen hsz hstk hW hd hcs
  · omega
  · omega
theorem run_virtual {f : String × Nat × Nat × Nat × Nat × List Nat × MethodName} {i e' kc nc : Nat} {av : AV} {avs rest : List AV} {Q0 : Option AV → Sg → Prop} (hf : calOk f = true) (hf1 : f.1 = mi.1.cls) (hf2 : f.2.1 = i) (hf3 : f.2.2.1 = e') (hf4 : f.2.2.2.1 = 2 ∨ f.2.2.2.1 = 3) (hf5 : f.2.2.2.2.1 = avs.length) (he' : e' < 487) (hst : st = (av :: avs).reverse ++ rest) (hd : decode mi.2.1 pc = .ok (.invokevirtual i, 3))
    (hrecv : ∀ (mi' : MI), mths[e']? = some mi' → ∀ (s : State) (H : Heap) (locs : List Loc), Kn w s → Rel w σ H → va_S (AA w) s.heap H locs → ∃ b : Nat, enc w av = .ref b ∧ ∃ cell : Cell, H[b]? = some cell ∧ cell.vm.isStatics = false ∧ s.vm.findClass mi'.1.cls = some cell.cls) :
    ∀ (mi' : MI), mths[e']? = some mi' → ∀ (p : Program) (l : Launch) (ev : Env) (s : State) (m : MethodId) (args : Array Value) (below : List Frame) (meth : Method) (c : Code) (H : Heap) (locs : List Loc) (ls : Array Slot), Cx mi p s m args meth c → Kn w s → Rel w σ H → va_S (AA w) s.heap H locs → ls.size = mi.2.2.1 →
      Met l mi'.1 (wsM mi') (rmD (d - 1) kc nc) (va_Pc ((av :: avs).map (enc w)) (fun U => Rel w σ U.heap ∧ Kn w U)) (qR w Q0) kc nc (AA w) → (rmD (d - 1) kc nc).frames + 1 ≤ (rmD d k n).frames → 8 + (mi'.2.2.1 + 11) + (rmD (d - 1) kc nc).locals ≤ (rmD d k n).locals → (∀ U : State, U.heap = H → s.WarmedH U.vm → va_Pc ((av :: avs).map (enc w)) (fun U => Rel w σ U.heap ∧ Kn w U) ((av :: avs).map (enc w)).toArray U) →
      2 * (F0 m pc ls (st.map (enc w))).monitorRoom + ((rest.map (enc w)).map fun v => v.category).sum ≤ 8 → (c0 + kc ≤ (rmD d k n).cells ∧ s0 + nc ≤ (rmD d k n).slots) →
      va_Run p l ev (rmD d k n) s m args below meth c H locs c0 s0 kc nc (F0 m pc ls (st.map (enc w))) (rest.map (enc w)) (qR w Q0 ((av :: avs).map (enc w)).toArray) (AA w) := by
  intro mi' hmi' p l ev s m args below meth c H locs ls C hK hR hS hsz hM hfr hlo hU hW hcs
  have hts := C.1.2.2.2.2
  obtain ⟨mi2, hmi2, hcase⟩ := cal_use hf
  rw [hf3] at hmi2
  cases hmi'.symm.trans hmi2
  rw [hf1, hf2, hf5] at hcase
  have hu := mth_use hmi' he'
  have hG := good_ws hmi' he'
  obtain ⟨b, hb, hcell⟩ := hrecv mi' hmi' s H locs hK hR hS
  rw [List.map_cons, hb] at hM hU ⊢
  have hlen : (avs.map (enc w)).length = avs.length := List.length_map _
  have hstk : (F0 m pc ls (st.map (enc w))).stack = (avs.map (enc w)).reverse ++ .ref b :: rest.map (enc w) := by
    show st.map (enc w) = _
    rw [hst, List.reverse_cons, List.map_append, List.map_append, List.map_reverse, List.append_assoc, ← hb]
    rfl
  rcases hcase with ⟨h0, -⟩ | ⟨h0, -⟩ | ⟨-, h1, h2, h3, h4⟩ | ⟨-, h1, h2, h3, h4, h5, h6, h7⟩
  · omega
  · omega
  · exact va_runV C.1 hM ⟨callB_of avs.length hts hG rfl rfl rfl (hts _ hu.1) (hts _ h2) ⟨hu.2.2.1.1, hu.2.2.1.2, h1⟩ ⟨hfr, hlo⟩, hts _ h3, hts _ h4⟩ ⟨pc_blind, hcell, hU⟩ rfl hlen hsz hstk hW hd hcs
  · have hx : f.2.2.2.2.2.2 = ⟨f.2.2.2.2.2.2.cls, f.2.2.2.2.2.2.name, f.2.2.2.2.2.2.desc⟩ := rfl
    refine va_runU C.1 hM (va_cwA avs.length hts ?_ rfl rfl rfl (hK.2.1 _ h6) ⟨h7.1, h7.2, h1⟩ ⟨hfr, hlo⟩) ⟨pc_blind, hcell, hU⟩ rfl hlen hsz hstk hW hd hcs
    intro q hq
    rcases List.mem_append.mp hq with h | h
    · refine gtbl_good _ ?_
      simp only [List.mem_cons, List.not_mem_nil, or_false] at h
      rcases h with rfl | rfl | rfl | rfl | rfl
      · exact h2
      · exact h3
      · exact h4
      · exact h5
      · exact hu.1
    · exact hG _ h
theorem take_rev {st : List AV} (y : Nat) : st = ((st.take y).reverse).reverse ++ st.drop y := by rw [List.reverse_reverse, List.take_append_drop]
theorem take_cons {st : List AV} {y : Nat} (h : y + 1 ≤ st.length) : (st.take (y + 1)).reverse = st.getD y (.inr .null) :: (st.take y).reverse := by
  rw [List.take_succ, List.reverse_append, List.getD_eq_getElem?_getD, List.getElem?_eq_getElem (by omega)]
  rfl
end
