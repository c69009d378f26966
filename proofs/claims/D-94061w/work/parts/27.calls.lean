/-! SOUNDNESS of calls, of ends -/
abbrev MIt : Type := MethodName × ByteArray × Nat × Option FieldType × List (Nat × Nat × Nat × Nat)
/-- the words of a method's contract -/
def wsM (i : MIt) : List Cond := match i.2.2.2.2 with
  | [] => ws_ i.1 i.2.1 i.2.2.1 i.2.2.2.1
  | h :: t => wsW_ i.1 i.2.1 i.2.2.1 i.2.2.2.1 (h :: t)
theorem ocl_inj {y y' pc pc' : Nat} {a a' r r' : List Value} (h : o_cl y a r pc = o_cl y' a' r' pc') : y = y' ∧ a = a' ∧ r = r' ∧ pc = pc' := by
  unfold o_cl at h
  cases h
  exact ⟨rfl, rfl, rfl, rfl⟩
theorem osk_cl {y pc : Nat} {a r : List Value} (h : o_sk = o_cl y a r pc) : False := by
  unfold o_sk o_cl at h
  cases h
/-- what a call leads to: any contract of the callee can be run -/
def CallTo (MI : Nat → MIt) (cc : ByteArray) (own : String) (nL : Nat) (rt : Option FieldType) (ini : Bool) (pc : Nat) (y' : Nat) (σ : HS) (as rest : List Value) : Prop :=
  ∀ (D : va_G) (dA : Nat → ClassId) (sp : Nat → Nat) (B : Nat) (xs : Nat → Int32) (L : Nat) (us : Nat → Option Nat) (p : Program) (l : Launch) (e : Env) (R : Room) (s : State) (m : MethodId) (args : Array Value) (below : List Frame) (meth : Method) (c : Code), CX D dA sp B xs L us cc own nL rt ini p l R s m args meth c →
  ∀ (lv : Array Slot) (H : Heap) (locs : List Loc) (cells slots : Nat), lv.size = nL → PH D dA sp B xs L us σ H → va_S (fun q => B ≤ q) s.heap H locs →
  ∀ (rm : Room) (Pc : Array Value → State → Prop) (Qc : Array Value → State → Outcome → State → Prop) (XC : String → Addr → State → State → Prop) (mc ms : Nat) (free : Addr → Prop), vx_Met l (MI y').1 (wsM (MI y')) rm Pc Qc XC mc ms free → rm.cells = mc → rm.slots = ms → rm.frames + 1 ≤ R.frames ∧ 8 + ((MI y').2.2.1 + 11) + rm.locals ≤ R.locals → FrameBlind Pc →
  (∀ U : State, U.heap = H → s.WarmedH U.vm → Pc ((as.map (rr sp B)).toArray) U) → cells + mc ≤ R.cells ∧ slots + ms ≤ R.slots →
  vx_Run p l e R s m args below meth c H locs cells slots mc ms (F0 m pc lv ((as.reverse ++ rest).map (rr sp B))) (rest.map (rr sp B)) (Qc ((as.map (rr sp B)).toArray)) XC free
def Sc (MI : Nat → MIt) (cc : ByteArray) (own : String) (nL : Nat) (rt : Option FieldType) (ini : Bool) (pc : Nat) (A : SI) : Prop :=
  ∀ (ls st : List Value) (σ : HS) (y' : Nat) (as rest : List Value) (pc' : Nat), A pc ls st σ = o_cl y' as rest pc' → pc' = pc + 3 ∧ st = as.reverse ++ rest ∧ wsum as ≤ (MI y').2.2.1 ∧ CallTo MI cc own nL rt ini pc y' σ as rest
section SC
variable {MI : Nat → MIt} {cc : ByteArray} {own : String} {nL : Nat} {rt : Option FieldType} {ini : Bool} {pc : Nat}
theorem ct_S {y' n idx : Nat} {yn : MethodName} {b : ByteArray} {ML : Nat} {r : Option FieldType} {σ : HS} {as rest : List Value} (hM : MI y' = (yn, b, ML, r, [])) (hn : as.length = n) (hw : wsum rest ≤ 8)
    (h1 : Cond.methodLink own idx yn ∈ lw_all) (h2 : Cond.static yn ∈ lw_all) (h3 : Cond.initialized yn.cls ∈ lw_all) (h4 : Cond.code yn b ML r ∈ lw_all) (hd : yn.cls ≠ "java/lang/invoke/MethodHandle" ∧ yn.cls ≠ "java/lang/invoke/VarHandle" ∧ (parseMethodDescriptor yn.desc).map (fun d => d.parameters.length) = some n) (hdg : decode cc pc = .ok (.invokestatic idx, 3)) : CallTo MI cc own nL rt ini pc y' σ as rest := by
  intro D dA sp B xs L us p l e R s m args below meth c hC lv H locs cells slots hlv hP hS rm Pc Qc XC mc ms free hMet hrc hrs hR hbl hPc hf
  rw [hM] at hMet hR
  obtain ⟨hx, hb, hml, -, -, hown, hts, -⟩ := hC
  exact vx_runS ⟨hx, hb, hml, hown, hts⟩ hMet (va_cwS n hts (lw_S h1 h2 h3 h4) rfl hrc hrs hd hR) ⟨hbl, hPc⟩ rfl (by rw [List.length_map]; exact hn) hlv (by rw [List.map_append, List.map_reverse]) (by show 2 * 0 + _ ≤ 8; rw [rr_cats]; omega) hdg hf
theorem ct_SX {y' n idx : Nat} {yn : MethodName} {b : ByteArray} {ML : Nat} {r : Option FieldType} {h0 : Nat × Nat × Nat × Nat} {σ : HS} {as rest : List Value} (hM : MI y' = (yn, b, ML, r, [h0])) (hn : as.length = n) (hw : wsum rest ≤ 8)
    (h1 : Cond.methodLink own idx yn ∈ lw_all) (h2 : Cond.static yn ∈ lw_all) (h3 : Cond.initialized yn.cls ∈ lw_all) (h4 : Cond.codeWith yn b ML r [h0] ∈ lw_all) (hd : yn.cls ≠ "java/lang/invoke/MethodHandle" ∧ yn.cls ≠ "java/lang/invoke/VarHandle" ∧ (parseMethodDescriptor yn.desc).map (fun d => d.parameters.length) = some n) (hdg : decode cc pc = .ok (.invokestatic idx, 3)) : CallTo MI cc own nL rt ini pc y' σ as rest := by
  intro D dA sp B xs L us p l e R s m args below meth c hC lv H locs cells slots hlv hP hS rm Pc Qc XC mc ms free hMet hrc hrs hR hbl hPc hf
  rw [hM] at hMet hR
  obtain ⟨hx, hb, hml, -, -, hown, hts, -⟩ := hC
  exact vx_runSX ⟨hx, hb, hml, hown, hts⟩ hMet (vx_cwSW n hts (lw_SW h1 h2 h3 h4) rfl hrc hrs hd hR) ⟨hbl, hPc⟩ rfl (by rw [List.length_map]; exact hn) hlv (by rw [List.map_append, List.map_reverse]) (by show 2 * 0 + _ ≤ 8; rw [rr_cats]; omega) hdg hf
theorem st_obj {sp : Nat → Nat} {B a : Nat} {as rest : List Value} : (((.ref a :: as).reverse ++ rest).map (rr sp B)) = (as.map (rr sp B)).reverse ++ .ref (rho sp B a) :: rest.map (rr sp B) := by
  simp [rr]
/-- the object of a call -/
theorem PH_recv {D : va_G} {dA : Nat → ClassId} {sp : Nat → Nat} {B : Nat} {xs : Nat → Int32} {L : Nat} {us : Nat → Option Nat} {s : State} {σ : HS} {H : Heap} {a ci N : Nat} {C : String} {T : u_T} (hR : RK D dA sp B xs L us s) (hP : PH D dA sp B xs L us σ H) (ha : tof σ a = ci + 1) (h9 : ci < 99) (hc : vwCl[ci]? = some (C, T, N)) : ∃ cell : Cell, H[rho sp B a]? = some cell ∧ cell.vm.isStatics = false ∧ s.vm.findClass C = some cell.cls :=
  va_recv (q := (C, T, N)) hR.1 hP.1 hc (PH_obj hP ha h9)
/-- a call through an object: by its own link -/
theorem ct_V {y' n idx a ci N : Nat} {C : String} {T : u_T} {yn : MethodName} {b : ByteArray} {ML : Nat} {r : Option FieldType} {σ : HS} {as rest : List Value} (hM : MI y' = (yn, b, ML, r, [])) (hn : as.length = n) (hw : wsum rest ≤ 8) (ha : tof σ a = ci + 1) (h9 : ci < 99) (hc : vwCl[ci]? = some (C, T, N))
    (h1 : Cond.methodLink own idx yn ∈ lw_all) (h2 : Cond.instanceMethod yn ∈ lw_all) (h3 : Cond.selects C yn yn ∈ lw_all ∨ (C, yn) ∈ nwS) (h4 : Cond.initialized yn.cls ∈ lw_all) (h5 : Cond.code yn b ML r ∈ lw_all) (hd : yn.cls ≠ "java/lang/invoke/MethodHandle" ∧ yn.cls ≠ "java/lang/invoke/VarHandle" ∧ (parseMethodDescriptor yn.desc).map (fun d => d.parameters.length) = some n) (hdg : decode cc pc = .ok (.invokevirtual idx, 3)) : CallTo MI cc own nL rt ini pc y' σ (.ref a :: as) rest := by
  intro D dA sp B xs L us p l e R s m args below meth c hC lv H locs cells slots hlv hP hS rm Pc Qc XC mc ms free hMet hrc hrs hR hbl hPc hf
  rw [hM] at hMet hR
  obtain ⟨hx, hb, hml, -, -, hown, hts, hRK, -⟩ := hC
  have hse : (Cond.selects C yn yn).before args s = true := by
    rcases h3 with h | h
    · exact hts _ h
    · exact va_Nw.use rfl (hRK.2.1.2.2.2.2.2.1 _ h)
  exact vx_runV ⟨hx, hb, hml, hown, hts⟩ hMet ⟨callB_of n hts (lw_meth h5) rfl hrc hrs (hts _ h4) (hts _ h1) hd hR, hts _ h2, hse⟩ ⟨hbl, PH_recv hRK hP ha h9 hc, hPc⟩ rfl (by rw [List.length_map]; exact hn) hlv st_obj (by show 2 * 0 + _ ≤ 8; rw [rr_cats]; omega) hdg hf
/-- the same, of a String constant -/
theorem ct_T {y' n idx a : Nat} {yn : MethodName} {b : ByteArray} {ML : Nat} {r : Option FieldType} {σ : HS} {as rest : List Value} (hM : MI y' = (yn, b, ML, r, [])) (hn : as.length = n) (hw : wsum rest ≤ 8) (ha : 2 ≤ a ∧ a < 42)
    (h1 : Cond.methodLink own idx yn ∈ lw_all) (h2 : Cond.instanceMethod yn ∈ lw_all) (h3 : Cond.selects "java/lang/String" yn yn ∈ lw_all) (h4 : Cond.initialized yn.cls ∈ lw_all) (h5 : Cond.code yn b ML r ∈ lw_all) (hd : yn.cls ≠ "java/lang/invoke/MethodHandle" ∧ yn.cls ≠ "java/lang/invoke/VarHandle" ∧ (parseMethodDescriptor yn.desc).map (fun d => d.parameters.length) = some n) (hdg : decode cc pc = .ok (.invokevirtual idx, 3)) : CallTo MI cc own nL rt ini pc y' σ (.ref a :: as) rest := by
  intro D dA sp B xs L us p l e R s m args below meth c hC lv H locs cells slots hlv hP hS rm Pc Qc XC mc ms free hMet hrc hrs hR hbl hPc hf
  rw [hM] at hMet hR
  obtain ⟨hx, hb, hml, -, -, hown, hts, hRK, -⟩ := hC
  obtain ⟨q, hq⟩ := stL_at ha
  obtain ⟨-, g2, -⟩ := hRK.2.2.1 _ _ hq
  rw [show 2 + (a - 2) = a by omega] at g2
  obtain ⟨cell, c1, c2, c3, -⟩ := g2.kept hS.2.1
  exact vx_runV ⟨hx, hb, hml, hown, hts⟩ hMet ⟨callB_of n hts (lw_meth h5) rfl hrc hrs (hts _ h4) (hts _ h1) hd hR, hts _ h2, hts _ h3⟩ ⟨hbl, ⟨cell, by rw [show rho sp B a = sp a from if_pos (by omega)]; exact c1, c2, c3⟩, hPc⟩ rfl (by rw [List.length_map]; exact hn) hlv st_obj (by show 2 * 0 + _ ≤ 8; rw [rr_cats]; omega) hdg hf
/-- with handlers -/
theorem ct_VX {y' n idx a ci N : Nat} {C : String} {T : u_T} {yn : MethodName} {b : ByteArray} {ML : Nat} {r : Option FieldType} {h0 : Nat × Nat × Nat × Nat} {σ : HS} {as rest : List Value} (hM : MI y' = (yn, b, ML, r, [h0])) (hn : as.length = n) (hw : wsum rest ≤ 8) (ha : tof σ a = ci + 1) (h9 : ci < 99) (hc : vwCl[ci]? = some (C, T, N))
    (h1 : Cond.methodLink own idx yn ∈ lw_all) (h2 : Cond.instanceMethod yn ∈ lw_all) (h3 : Cond.selects C yn yn ∈ lw_all) (h4 : Cond.initialized C ∈ lw_all) (h5 : Cond.codeWith yn b ML r [h0] ∈ lw_all) (hd : yn.cls = C ∧ yn.cls ≠ "java/lang/invoke/MethodHandle" ∧ yn.cls ≠ "java/lang/invoke/VarHandle" ∧ (parseMethodDescriptor yn.desc).map (fun d => d.parameters.length) = some n) (hdg : decode cc pc = .ok (.invokevirtual idx, 3)) : CallTo MI cc own nL rt ini pc y' σ (.ref a :: as) rest := by
  intro D dA sp B xs L us p l e R s m args below meth c hC lv H locs cells slots hlv hP hS rm Pc Qc XC mc ms free hMet hrc hrs hR hbl hPc hf
  rw [hM] at hMet hR
  obtain ⟨hx, hb, hml, -, -, hown, hts, hRK, -⟩ := hC
  exact vx_runVX ⟨hx, hb, hml, hown, hts⟩ hMet (vx_cwVW n hts (lw_VW h1 h2 h3 h4 h5) rfl hrc hrs hd hR) ⟨hbl, PH_recv hRK hP ha h9 hc, hPc⟩ rfl (by rw [List.length_map]; exact hn) hlv st_obj (by show 2 * 0 + _ ≤ 8; rw [rr_cats]; omega) hdg hf
/-- a nest mate's private method -/
theorem ct_VN {y' n idx a ci N : Nat} {C host : String} {T : u_T} {yn : MethodName} {b : ByteArray} {ML : Nat} {r : Option FieldType} {σ : HS} {as rest : List Value} (hM : MI y' = (yn, b, ML, r, [])) (hn : as.length = n) (hw : wsum rest ≤ 8) (ha : tof σ a = ci + 1) (h9 : ci < 99) (hc : vwCl[ci]? = some (C, T, N))
    (h1 : (own, idx, yn, host) ∈ nwM) (h2 : Cond.instanceMethod yn ∈ lw_all) (h3 : Cond.selects C yn yn ∈ lw_all) (h4 : Cond.initialized yn.cls ∈ lw_all) (h5 : Cond.code yn b ML r ∈ lw_all) (hd : yn.cls ≠ "java/lang/invoke/MethodHandle" ∧ yn.cls ≠ "java/lang/invoke/VarHandle" ∧ (parseMethodDescriptor yn.desc).map (fun d => d.parameters.length) = some n) (hdg : decode cc pc = .ok (.invokevirtual idx, 3)) : CallTo MI cc own nL rt ini pc y' σ (.ref a :: as) rest := by
  intro D dA sp B xs L us p l e R s m args below meth c hC lv H locs cells slots hlv hP hS rm Pc Qc XC mc ms free hMet hrc hrs hR hbl hPc hf
  rw [hM] at hMet hR
  obtain ⟨hx, hb, hml, -, -, hown, hts, hRK, -⟩ := hC
  exact vx_runVN ⟨hx, hb, hml, hown, hts⟩ hMet ⟨va_cnB n hts (lw_meth h5) rfl hrc hrs (hRK.2.1.2.1 _ h1) (hts _ h4) hd hR, hts _ h2, hts _ h3⟩ ⟨hbl, PH_recv hRK hP ha h9 hc, hPc⟩ rfl (by rw [List.length_map]; exact hn) hlv st_obj (by show 2 * 0 + _ ≤ 8; rw [rr_cats]; omega) hdg hf
theorem ct_SN {y' n idx : Nat} {host : String} {yn : MethodName} {b : ByteArray} {ML : Nat} {r : Option FieldType} {σ : HS} {as rest : List Value} (hM : MI y' = (yn, b, ML, r, [])) (hn : as.length = n) (hw : wsum rest ≤ 8)
    (h1 : (own, idx, yn, host) ∈ nwM) (h2 : Cond.static yn ∈ lw_all) (h4 : Cond.initialized yn.cls ∈ lw_all) (h5 : Cond.code yn b ML r ∈ lw_all) (hd : yn.cls ≠ "java/lang/invoke/MethodHandle" ∧ yn.cls ≠ "java/lang/invoke/VarHandle" ∧ (parseMethodDescriptor yn.desc).map (fun d => d.parameters.length) = some n) (hdg : decode cc pc = .ok (.invokestatic idx, 3)) : CallTo MI cc own nL rt ini pc y' σ as rest := by
  intro D dA sp B xs L us p l e R s m args below meth c hC lv H locs cells slots hlv hP hS rm Pc Qc XC mc ms free hMet hrc hrs hR hbl hPc hf
  rw [hM] at hMet hR
  obtain ⟨hx, hb, hml, -, -, hown, hts, hRK, -⟩ := hC
  exact vx_runSN ⟨hx, hb, hml, hown, hts⟩ hMet ⟨va_cnB n hts (lw_meth h5) rfl hrc hrs (hRK.2.1.2.1 _ h1) (hts _ h4) hd hR, hts _ h2, trivial⟩ ⟨hbl, hPc⟩ rfl (by rw [List.length_map]; exact hn) hlv (by rw [List.map_append, List.map_reverse]) (by show 2 * 0 + _ ≤ 8; rw [rr_cats]; omega) hdg hf
/-- inherited: x is what the call names, y what is run -/
theorem ct_U {y' n idx a ci N : Nat} {C owner : String} {T : u_T} {x yn : MethodName} {b : ByteArray} {ML : Nat} {r : Option FieldType} {σ : HS} {as rest : List Value} (hM : MI y' = (yn, b, ML, r, [])) (hn : as.length = n) (hw : wsum rest ≤ 8) (ha : tof σ a = ci + 1) (h9 : ci < 99) (hc : vwCl[ci]? = some (C, T, N))
    (h1 : Cond.methodLink own idx x ∈ lw_all) (h2 : Cond.sameMethod x.cls owner x.name x.desc ∈ lw_all) (h3 : Cond.selects C x yn ∈ lw_all) (h4 : Cond.instanceMethod yn ∈ lw_all) (h5 : Cond.initialized yn.cls ∈ lw_all) (h6 : Cond.code yn b ML r ∈ lw_all) (hy : yn = ⟨owner, x.name, x.desc⟩ ∨ (⟨owner, x.name, x.desc⟩ : MethodName) ∈ nwD) (hd : owner ≠ "java/lang/invoke/MethodHandle" ∧ owner ≠ "java/lang/invoke/VarHandle" ∧ (parseMethodDescriptor x.desc).map (fun d => d.parameters.length) = some n) (hdg : decode cc pc = .ok (.invokevirtual idx, 3)) : CallTo MI cc own nL rt ini pc y' σ (.ref a :: as) rest := by
  intro D dA sp B xs L us p l e R s m args below meth c hC lv H locs cells slots hlv hP hS rm Pc Qc XC mc ms free hMet hrc hrs hR hbl hPc hf
  rw [hM] at hMet hR
  obtain ⟨hx, hb, hml, -, -, hown, hts, hRK, -⟩ := hC
  have hG : GoodIn lw_all (va_wsU own idx C owner x yn (ws_ yn b ML r)) := by
    refine lw_app ?_ (lw_meth h6)
    intro w hw
    simp only [List.mem_cons, List.not_mem_nil, or_false] at hw
    rcases hw with e | e | e | e | e
    · rw [e]; exact h1
    · rw [e]; exact h2
    · rw [e]; exact h3
    · rw [e]; exact h4
    · rw [e]; exact h5
  have cw : va_CU R s args own C owner idx x yn b ML r (ws_ yn b ML r) rm mc ms n := by
    rcases hy with h | h
    · exact va_cwU n hts hG rfl hrc hrs h hd hR
    · exact va_cwA n hts hG rfl hrc hrs (hRK.2.1.2.2.2.2.2.2 _ h) hd hR
  exact vx_runU ⟨hx, hb, hml, hown, hts⟩ hMet cw ⟨hbl, PH_recv hRK hP ha h9 hc, hPc⟩ rfl (by rw [List.length_map]; exact hn) hlv st_obj (by show 2 * 0 + _ ≤ 8; rw [rr_cats]; omega) hdg hf
/-- a constructor -/
theorem ct_I {y' n idx a : Nat} {yn : MethodName} {b : ByteArray} {ML : Nat} {σ : HS} {as rest : List Value} (hM : MI y' = (yn, b, ML, none, [])) (hn : as.length = n) (hw : wsum rest ≤ 8)
    (h1 : Cond.methodLink own idx yn ∈ lw_all ∨ ∃ host, (own, idx, yn, host) ∈ nwM) (h2 : Cond.instanceMethod yn ∈ lw_all) (h4 : Cond.initialized yn.cls ∈ lw_all) (h5 : Cond.code yn b ML none ∈ lw_all) (hi : yn.name = "<init>") (hd : yn.cls ≠ "java/lang/invoke/MethodHandle" ∧ yn.cls ≠ "java/lang/invoke/VarHandle" ∧ (parseMethodDescriptor yn.desc).map (fun d => d.parameters.length) = some n) (hdg : decode cc pc = .ok (.invokespecial idx, 3)) : CallTo MI cc own nL rt ini pc y' σ (.ref a :: as) rest := by
  intro D dA sp B xs L us p l e R s m args below meth c hC lv H locs cells slots hlv hP hS rm Pc Qc XC mc ms free hMet hrc hrs hR hbl hPc hf
  rw [hM] at hMet hR
  obtain ⟨hx, hb, hml, -, -, hown, hts, hRK, -⟩ := hC
  rcases h1 with h1 | ⟨host, h1⟩
  · exact vx_runI ⟨hx, hb, hml, hown, hts⟩ hMet (cwI n hts (lw_meth h5) rfl hrc hrs (hts _ h4) (hts _ h1) (hts _ h2) hi hd hR) ⟨hbl, hPc⟩ rfl (by rw [List.length_map]; exact hn) hlv st_obj (by show 2 * 0 + _ ≤ 8; rw [rr_cats]; omega) hdg hf
  · exact vx_runIN ⟨hx, hb, hml, hown, hts⟩ hMet ⟨va_cnB n hts (lw_meth h5) rfl hrc hrs (hRK.2.1.2.1 _ h1) (hts _ h4) hd hR, hi, hts _ h2⟩ ⟨hbl, hPc⟩ rfl (by rw [List.length_map]; exact hn) hlv st_obj (by show 2 * 0 + _ ≤ 8; rw [rr_cats]; omega) hdg hf
/-! the actions -/
theorem rev_td {n : Nat} {st : List Value} : st = (st.take n).reverse.reverse ++ st.drop n := by rw [List.reverse_reverse, List.take_append_drop]
theorem rev_len {n : Nat} {st : List Value} (h : n ≤ st.length) : (st.take n).reverse.length = n := by rw [List.length_reverse, List.length_take]; omega
theorem sc_S {y' n w : Nat} (hw : w = (MI y').2.2.1) (h : ∀ (σ : HS) (as rest : List Value), as.length = n → wsum rest ≤ 8 → CallTo MI cc own nL rt ini pc y' σ as rest) : Sc MI cc own nL rt ini pc (a_cS y' n w) := by
  intro ls st σ y2 as rest pc' hA
  unfold a_cS at hA
  split at hA
  · rename_i hg
    obtain ⟨rfl, rfl, rfl, rfl⟩ := ocl_inj hA
    exact ⟨rfl, rev_td, by rw [← hw]; exact hg.2, h _ _ _ (rev_len hg.1.1) hg.1.2⟩
  · exact (osk_cl hA).elim
theorem sc_I {y' n w : Nat} (hw : w = (MI y').2.2.1) (h : ∀ (σ : HS) (a : Nat) (as rest : List Value), as.length + 1 = n → wsum rest ≤ 8 → CallTo MI cc own nL rt ini pc y' σ (.ref a :: as) rest) : Sc MI cc own nL rt ini pc (a_cI y' n w) := by
  intro ls st σ y2 as rest pc' hA
  unfold a_cI at hA
  split at hA
  · rename_i hg
    have e1 := rev_len hg.1.1
    have e2 : st = (st.take n).reverse.reverse ++ st.drop n := rev_td
    have e3 := hg.2
    revert e1 e2 e3 hA
    generalize (st.take n).reverse = q
    intro hA e1 e2 e3
    split at hA
    · obtain ⟨rfl, rfl, rfl, rfl⟩ := ocl_inj hA
      exact ⟨rfl, e2, by rw [← hw]; exact e3, h _ _ _ _ e1 hg.1.2⟩
    · exact (osk_cl hA).elim
  · exact (osk_cl hA).elim
theorem sc_V {tab : List (Nat × Nat)} {n w : Nat} (hw : ∀ k y', tab.lookup k = some y' → w ≤ (MI y').2.2.1) (h : ∀ (k y' : Nat), tab.lookup k = some y' → ∀ (σ : HS) (a : Nat) (as rest : List Value), tof σ a = k → as.length + 1 = n → wsum rest ≤ 8 → CallTo MI cc own nL rt ini pc y' σ (.ref a :: as) rest) : Sc MI cc own nL rt ini pc (a_cV tab n w) := by
  intro ls st σ y2 as rest pc' hA
  unfold a_cV at hA
  split at hA
  · rename_i hg
    have e1 := rev_len hg.1.1
    have e2 : st = (st.take n).reverse.reverse ++ st.drop n := rev_td
    have e3 := hg.2
    revert e1 e2 e3 hA
    generalize (st.take n).reverse = q
    intro hA e1 e2 e3
    split at hA
    · rename_i a as2
      cases ht : tab.lookup (tof σ a) with
      | none => rw [ht] at hA; exact (osk_cl hA).elim
      | some y3 =>
        rw [ht] at hA
        obtain ⟨rfl, rfl, rfl, rfl⟩ := ocl_inj hA
        exact ⟨rfl, e2, Nat.le_trans e3 (hw _ _ ht), h _ _ ht _ _ _ _ rfl e1 hg.1.2⟩
    · exact (osk_cl hA).elim
  · exact (osk_cl hA).elim
theorem sc_T {y' n w : Nat} (hw : w = (MI y').2.2.1) (h : ∀ (σ : HS) (a : Nat) (as rest : List Value), (2 ≤ a ∧ a < 42) → as.length + 1 = n → wsum rest ≤ 8 → CallTo MI cc own nL rt ini pc y' σ (.ref a :: as) rest) : Sc MI cc own nL rt ini pc (a_cT y' n w) := by
  intro ls st σ y2 as rest pc' hA
  unfold a_cT at hA
  split at hA
  · rename_i hg
    have e1 := rev_len hg.1.1
    have e2 : st = (st.take n).reverse.reverse ++ st.drop n := rev_td
    have e3 := hg.2
    revert e1 e2 e3 hA
    generalize (st.take n).reverse = q
    intro hA e1 e2 e3
    split at hA
    · split at hA
      · rename_i hr
        obtain ⟨rfl, rfl, rfl, rfl⟩ := ocl_inj hA
        exact ⟨rfl, e2, by rw [← hw]; exact e3, h _ _ _ _ hr e1 hg.1.2⟩
      · exact (osk_cl hA).elim
    · exact (osk_cl hA).elim
  · exact (osk_cl hA).elim
end SC
