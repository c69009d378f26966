/-! SOUNDNESS: new cells, arraycopy -/
section SNN1
variable {D : va_G} {dA : Nat → ClassId} {sp : Nat → Nat} {B : Nat} {xs : Nat → Int32} {L : Nat} {us : Nat → Option Nat}
theorem q_new {σ : HS} {H H1 : Heap} {q : Nat} {e : va_E} (h : PH D dA sp B xs L us σ H) (hP : va_P D vwCl (wld dA sp B σ ++ [(q, e)]) H1) (hD : va_D (fun q => B ≤ q) (wld dA sp B σ ++ [(q, e)])) (hz : H1.size ≤ H.size + 1) : q = B + (nxt σ - 100) := by
  obtain ⟨-, h2, h3, -⟩ := h
  have hlast : (wld dA sp B σ ++ [(q, e)])[nxt σ - 100]? = some (q, e) := by
    rw [List.getElem?_append_right (by rw [wld_len]; omega), wld_len, Nat.sub_self]
    rfl
  have hlt := (hP _ _ hlast).lt
  have hA : B ≤ q := hD.2 _ _ hlast
  have hlt : q < H1.size := hlt
  by_cases hq : q < H.size
  · exfalso
    have hi : q - B < nxt σ - 100 := by omega
    have hold : (wld dA sp B σ ++ [(q, e)])[q - B]? = some (q, cel dA sp B σ (100 + (q - B))) := by
      rw [List.getElem?_append_left (by rw [wld_len]; exact hi)]
      have := wld_at (dA := dA) (sp := sp) (B := B) (σ := σ) (a := 100 + (q - B)) (by omega) (by omega)
      rw [show 100 + (q - B) - 100 = q - B by omega, show rho sp B (100 + (q - B)) = q by rw [rho, if_neg (by omega)]; omega] at this
      exact this
    have := hD.1 _ _ _ _ hold hlast rfl
    omega
  · omega
theorem ra_eq {s : State} {a b : ClassId} {ty : FieldType} (h1 : va_RA s a ty) (h2 : va_RA s b ty) : a = b := by
  cases ty with
  | object C =>
    obtain ⟨k1, c1, -, -, -, e1⟩ := h1
    obtain ⟨k2, c2, -, -, -, e2⟩ := h2
    exact Option.some.inj (e1.symm.trans e2)
  | _ => exact Option.some.inj (Eq.trans (Eq.symm h1) h2)
theorem tyL_new {s : State} {cA : ClassId} {t q : Nat} {ty : FieldType} (hK : va_K D vwCl (tyL dA) s) (hK1 : va_K D vwCl (tyL dA ++ [(cA, ty)]) s) (ht : atL[t]? = some (ty, q)) : cA = dA t := by
  refine ra_eq (s := s) (ty := ty) ?_ (hK.2 _ _ (tyL_at ht)).2
  have hl : (tyL dA ++ [(cA, ty)])[(tyL dA).length]? = some (cA, ty) := by
    rw [List.getElem?_append_right (Nat.le_refl _), Nat.sub_self]
    rfl
  exact (hK1.2 _ _ hl).2
end SNN1
def dvk (q : Nat) : Value := match q with
  | 0 => .int 0
  | 1 => .long 0
  | _ => .null
theorem fval_new (sp : Nat → Nat) (B q : Nat) (σ : HS) (t n w j : Nat) : fval sp B q (hnew σ t n w) (nxt σ) j = dvk q := by
  match q with
  | 0 =>
    show Value.int (iof (hnew σ t n w) (nxt σ) j) = .int 0
    rw [iof_hnew, if_pos rfl]
  | 1 =>
    show Value.long (lof (hnew σ t n w) (nxt σ) j) = .long 0
    rw [lof_hnew, if_pos rfl]
  | q + 2 =>
    show rr sp B (rv (rof (hnew σ t n w) (nxt σ) j)) = .null
    rw [rof_hnew, if_pos rfl]
    rfl
section SNN
variable {cc : ByteArray} {own : String} {nL : Nat} {rt : Option FieldType} {ini : Bool} {pc : Nat}
theorem sn_new {idx ci N : Nat} {C : String} {T : u_T} {ty0 : Nat → FieldType} (hc : vwCl[ci]? = some (C, T, N)) (h9 : ci < 99) (hin : ∀ w ∈ u_ws C T N, w ∈ lw_all) (hty : ∀ k, k < N → parseFieldDescriptor (T k).2.2.1 = some (ty0 k)) (hdv : ∀ j, j < N → defaultValue (ty0 j) = dvk ((fkL.getD ci []).getD j 9)) (hN : (fkL.getD ci []).length = N)
    (h1 : Cond.classLink own idx C ∈ lw_all) (h2 : Cond.instantiable C N ∈ lw_all) (h3 : Cond.initialized C ∈ lw_all) (hd : decode cc pc = .ok (.new idx, 3)) : Sn cc own nL rt ini pc (a_new (ci + 1) N) := by
  refine ⟨fun ls st σ pc' ls' st' σ' hA => ?_, ?_⟩
  · unfold a_new at hA
    obtain ⟨rfl, rfl, rfl, rfl⟩ := onx_inj hA
    exact ⟨Nat.le_succ _, Nat.le_add_right _ _⟩
  · intro D dA sp B xs L us p l e R s m args below meth c hC ls st σ pc' ls' st' σ' hA lv H locs cells slots Q hl hP hS hz hcc hss kk
    unfold a_new at hA
    obtain ⟨rfl, rfl, rfl, hσ⟩ := onx_inj hA
    have e1 : nxt σ' - nxt σ = 1 := by rw [← hσ]; exact Nat.add_sub_cancel_left _ _
    have e2 : slt σ' - slt σ = N := by rw [← hσ]; exact Nat.add_sub_cancel_left _ _
    rw [e1] at kk hcc
    rw [e2] at kk hss
    obtain ⟨hx, hb, -, -, -, hown, hts, hR, -, -, -, hBs⟩ := hC
    refine va_new (ci := ci) (C := C) (T := T) (N := N) (fs := flds sp B ci σ' (nxt σ)) hx hb hts hin ty0 hty hown (hts _ h1) (hts _ h2) (hts _ h3) hR.1 hP.1 (wld_D dA sp B σ) hS (fun q hq => Nat.le_trans hBs hq) hc ?_ hcc hss hd (fun q H1 hP1 hD1 hS1 => W_sz fun hz1 => ?_)
    · intro j hj
      obtain ⟨q, hq⟩ : ∃ q, (fkL.getD ci [])[j]? = some q := ⟨_, List.getElem?_eq_getElem (by rw [hN]; exact hj)⟩
      rw [hdv j hj, List.getD_eq_getElem?_getD, hq, Option.getD_some]
      unfold vp_V
      rw [List.getD_eq_getElem?_getD, flds_get hq, Option.getD_some, ← hσ]
      exact (fval_new sp B q σ _ _ _ j).symm
    · have hq := q_new hP hP1 hD1 (by omega)
      subst hq
      have ec : cel dA sp B σ' (nxt σ) = .inr (ci, flds sp B ci σ' (nxt σ)) := by
        rw [cel_obj (c := ci + 1) (by rw [← hσ, tof_hnew, if_pos rfl]) (by omega), Nat.add_sub_cancel]
      have hP2 : PH D dA sp B xs L us σ' H1 := PH_new (s := s) (cells := cells) hP hσ.symm (by omega) hz (by rw [ec]; exact hP1) hz1
      have := kk lv H1 locs hl hP2 hS1
      rw [show ((.ref (nxt σ) :: st) : List Value).map (rr sp B) = .ref (B + (nxt σ - 100)) :: st.map (rr sp B) by rw [List.map_cons]; simp [rr, rho_nxt hP, hP.2.1]] at this
      exact this
/-- new of an array: what its first contents are -/
theorem sn_newX {t q n : Nat} {ty : FieldType} {cnt : (Nat → Int32) ⊕ (Nat → Int64) ⊕ (Nat → UInt32) ⊕ (Nat → UInt64) ⊕ (Nat → Option Nat)} (ht : atL[t]? = some (ty, q)) (hq0 : ∀ (sp : Nat → Nat) (B : Nat) (σ : HS) (k : Nat), contA sp B q (hnew σ (100 + t) k k) (nxt σ) = cnt)
    (hrow : ∀ (D : va_G) (dA : Nat → ClassId) (sp : Nat → Nat) (B : Nat) (xs : Nat → Int32) (L : Nat) (us : Nat → Option Nat) (p : Program) (l : Launch) (e : Env) (R : Room) (s : State) (m : MethodId) (args : Array Value) (below : List Frame) (meth : Method) (c : Code), CX D dA sp B xs L us cc own nL rt ini p l R s m args meth c →
      ∀ (σ : HS) (lv : Array Slot) (H : Heap) (locs : List Loc) (cells slots : Nat) (Q : State → Prop) (v : Int32) (rest : List Value), PH D dA sp B xs L us σ H → va_S (fun q => B ≤ q) s.heap H locs → ¬ v < 0 → v.toNatClampNeg ≤ 1000000 → cells + 1 ≤ R.cells → slots + v.toNatClampNeg ≤ R.slots →
      (∀ (q : Nat) (cA : ClassId) (H1 : Heap), va_K D vwCl (tyL dA ++ [(cA, ty)]) s → va_P D vwCl (wld dA sp B σ ++ [(q, .inl (cA, v.toNatClampNeg, cnt))]) H1 → va_D (fun q => B ≤ q) (wld dA sp B σ ++ [(q, .inl (cA, v.toNatClampNeg, cnt))]) → va_S (fun q => B ≤ q) s.heap H1 locs → W p l e R s m args below meth c H1 locs (cells + 1) (slots + v.toNatClampNeg) Q (F0 m (pc + n) lv (.ref q :: rest))) →
      W p l e R s m args below meth c H locs cells slots Q (F0 m pc lv (.int v :: rest))) : Sn cc own nL rt ini pc (a_newa (100 + t) n) := by
  have key : ∀ (ls st : List Value) (σ : HS) (pc' : Nat) (ls' st' : List Value) (σ' : HS), a_newa (100 + t) n pc ls st σ = o_nx pc' ls' st' σ' → ∃ v st2, st = .int v :: st2 ∧ ¬ v < 0 ∧ v.toNatClampNeg ≤ 1000000 ∧ pc' = pc + n ∧ ls' = ls ∧ st' = .ref (nxt σ) :: st2 ∧ σ' = hnew σ (100 + t) v.toNatClampNeg v.toNatClampNeg := by
    intro ls st σ pc' ls' st' σ' hA
    unfold a_newa at hA
    split at hA
    · split at hA
      · rename_i hg
        obtain ⟨rfl, rfl, rfl, rfl⟩ := onx_inj hA
        exact ⟨_, _, rfl, hg.1, hg.2, rfl, rfl, rfl, rfl⟩
      · exact (osk_nx hA).elim
    · exact (osk_nx hA).elim
  refine ⟨fun ls st σ pc' ls' st' σ' hA => ?_, ?_⟩
  · obtain ⟨v, st2, -, -, -, -, -, -, rfl⟩ := key _ _ _ _ _ _ _ hA
    exact ⟨Nat.le_succ _, Nat.le_add_right _ _⟩
  · intro D dA sp B xs L us p l e R s m args below meth c hC ls st σ pc' ls' st' σ' hA lv H locs cells slots Q hl hP hS hz hcc hss kk
    obtain ⟨v, st2, rfl, hv, hb, rfl, rfl, rfl, hσ⟩ := key _ _ _ _ _ _ _ hA
    have e1 : nxt σ' - nxt σ = 1 := by rw [hσ]; exact Nat.add_sub_cancel_left _ _
    have e2 : slt σ' - slt σ = v.toNatClampNeg := by rw [hσ]; exact Nat.add_sub_cancel_left _ _
    rw [e1] at kk hcc
    rw [e2] at kk hss
    refine hrow D dA sp B xs L us p l e R s m args below meth c hC σ lv H locs cells slots Q v (st2.map (rr sp B)) hP hS hv hb hcc hss (fun q cA H1 hK1 hP1 hD1 hS1 => W_sz fun hz1 => ?_)
    have hq := q_new hP hP1 hD1 (by omega)
    subst hq
    have hcA := tyL_new hC.2.2.2.2.2.2.2.1.1 hK1 ht
    subst hcA
    have ec : cel dA sp B σ' (nxt σ) = .inl (dA t, v.toNatClampNeg, cnt) := by
      rw [cel_arr (t := t) (by rw [hσ, tof_hnew, if_pos rfl]) ht, hσ, nof_hnew, if_pos rfl, hq0]
    have hP2 : PH D dA sp B xs L us σ' H1 := PH_new (s := s) (cells := cells) hP hσ (by omega) hz (by rw [ec]; exact hP1) hz1
    have := kk lv H1 locs hl hP2 hS1
    rw [show ((.ref (nxt σ) :: st2) : List Value).map (rr sp B) = .ref (B + (nxt σ - 100)) :: st2.map (rr sp B) by rw [List.map_cons]; simp [rr, rho_nxt hP, hP.2.1]] at this
    exact this
theorem contA_i (sp : Nat → Nat) (B t k : Nat) (σ : HS) : contA sp B 0 (hnew σ t k k) (nxt σ) = .inl (fun _ => 0) := by
  have h : iof (hnew σ t k k) (nxt σ) = fun _ => 0 := by
    funext j
    rw [iof_hnew, if_pos rfl]
  show Sum.inl (iof (hnew σ t k k) (nxt σ)) = _
  rw [h]
theorem contA_l (sp : Nat → Nat) (B t k : Nat) (σ : HS) : contA sp B 1 (hnew σ t k k) (nxt σ) = .inr (.inl (fun _ => 0)) := by
  have h : lof (hnew σ t k k) (nxt σ) = fun _ => 0 := by
    funext j
    rw [lof_hnew, if_pos rfl]
  show Sum.inr (Sum.inl (lof (hnew σ t k k) (nxt σ))) = _
  rw [h]
theorem contA_r (sp : Nat → Nat) (B t k : Nat) (σ : HS) : contA sp B 2 (hnew σ t k k) (nxt σ) = .inr (.inr (.inr (.inr (fun _ => none)))) := by
  have h : (fun j => (rof (hnew σ t k k) (nxt σ) j).map (rho sp B)) = fun _ => none := by
    funext j
    rw [rof_hnew, if_pos rfl]
    rfl
  show Sum.inr (Sum.inr (Sum.inr (Sum.inr (fun j => (rof (hnew σ t k k) (nxt σ) j).map (rho sp B))))) = _
  rw [h]
theorem sn_newaI (h1 : Cond.arrayClass .int ∈ lw_all) (hd : decode cc pc = .ok (.newarray .int, 2)) : Sn cc own nL rt ini pc (a_newa 100 2) :=
  sn_newX (t := 0) (q := 0) rfl (fun sp B σ k => contA_i sp B _ k σ) (fun D dA sp B xs L us p l e R s m args below meth c hC σ lv H locs cells slots Q v rest hP hS hv hb hcc hss kk => va_newa (atype := .int) hC.1 hC.2.1 (hC.2.2.2.2.2.2.1 _ h1) rfl hC.2.2.2.2.2.2.2.1.1 hP.1 (wld_D dA sp B σ) hS (fun q hq => Nat.le_trans hC.2.2.2.2.2.2.2.2.2.2.2 hq) (a0 := (v.toNatClampNeg, .inl (fun _ => 0))) (fun _ => rfl) hv rfl (by show v.toNatClampNeg * 4 ≤ _; omega) hcc hss hd kk)
theorem sn_newaB (h1 : Cond.arrayClass .byte ∈ lw_all) (hd : decode cc pc = .ok (.newarray .byte, 2)) : Sn cc own nL rt ini pc (a_newa 101 2) :=
  sn_newX (t := 1) (q := 0) rfl (fun sp B σ k => contA_i sp B _ k σ) (fun D dA sp B xs L us p l e R s m args below meth c hC σ lv H locs cells slots Q v rest hP hS hv hb hcc hss kk => va_newa (atype := .byte) hC.1 hC.2.1 (hC.2.2.2.2.2.2.1 _ h1) rfl hC.2.2.2.2.2.2.2.1.1 hP.1 (wld_D dA sp B σ) hS (fun q hq => Nat.le_trans hC.2.2.2.2.2.2.2.2.2.2.2 hq) (a0 := (v.toNatClampNeg, .inl (fun _ => 0))) (fun _ => rfl) hv rfl (by show v.toNatClampNeg * 1 ≤ _; omega) hcc hss hd kk)
theorem sn_newaZ (h1 : Cond.arrayClass .boolean ∈ lw_all) (hd : decode cc pc = .ok (.newarray .boolean, 2)) : Sn cc own nL rt ini pc (a_newa 102 2) :=
  sn_newX (t := 2) (q := 0) rfl (fun sp B σ k => contA_i sp B _ k σ) (fun D dA sp B xs L us p l e R s m args below meth c hC σ lv H locs cells slots Q v rest hP hS hv hb hcc hss kk => va_newa (atype := .boolean) hC.1 hC.2.1 (hC.2.2.2.2.2.2.1 _ h1) rfl hC.2.2.2.2.2.2.2.1.1 hP.1 (wld_D dA sp B σ) hS (fun q hq => Nat.le_trans hC.2.2.2.2.2.2.2.2.2.2.2 hq) (a0 := (v.toNatClampNeg, .inl (fun _ => 0))) (fun _ => rfl) hv rfl (by show v.toNatClampNeg * 1 ≤ _; omega) hcc hss hd kk)
theorem sn_newaL (h1 : Cond.arrayClass .long ∈ lw_all) (hd : decode cc pc = .ok (.newarray .long, 2)) : Sn cc own nL rt ini pc (a_newa 103 2) :=
  sn_newX (t := 3) (q := 1) rfl (fun sp B σ k => contA_l sp B _ k σ) (fun D dA sp B xs L us p l e R s m args below meth c hC σ lv H locs cells slots Q v rest hP hS hv hb hcc hss kk => va_newa (atype := .long) hC.1 hC.2.1 (hC.2.2.2.2.2.2.1 _ h1) rfl hC.2.2.2.2.2.2.2.1.1 hP.1 (wld_D dA sp B σ) hS (fun q hq => Nat.le_trans hC.2.2.2.2.2.2.2.2.2.2.2 hq) (a0 := (v.toNatClampNeg, .inr (.inl (fun _ => 0)))) (fun _ => rfl) hv rfl (by show v.toNatClampNeg * 8 ≤ _; omega) hcc hss hd kk)
theorem sn_newaQ {t idx : Nat} {C : String} (ht : atL[t]? = some (.object C, 2)) (h1 : Cond.classLink own idx C ∈ lw_all) (h2 : C ∈ aoL) (hd : decode cc pc = .ok (.anewarray idx, 3)) : Sn cc own nL rt ini pc (a_newa (100 + t) 3) :=
  sn_newX (t := t) (q := 2) ht (fun sp B σ k => contA_r sp B _ k σ) (fun D dA sp B xs L us p l e R s m args below meth c hC σ lv H locs cells slots Q v rest hP hS hv hb hcc hss kk => va_newq hC.1 hC.2.1 hC.2.2.2.2.2.1 (hC.2.2.2.2.2.2.1 _ h1) (hC.2.2.2.2.2.2.2.1.2.1.2.2.2.1 _ h2) hC.2.2.2.2.2.2.2.1.1 hP.1 (wld_D dA sp B σ) hS (fun q hq => Nat.le_trans hC.2.2.2.2.2.2.2.2.2.2.2 hq) hv rfl (by omega) hcc hss hd kk)
theorem nfw_ac : nativeFrameWords "java/lang/System" "arraycopy" 5 ≤ 100 := by decide +kernel
theorem sn_cpI {idx : Nat} (h1 : Cond.methodLink own idx arraycopyName ∈ lw_all) (h2 : Cond.native arraycopyName ∈ lw_all) (h3 : Cond.static arraycopyName ∈ lw_all) (h4 : Cond.initialized "java/lang/System" ∈ lw_all) (hd : decode cc pc = .ok (.invokestatic idx, 3)) : Sn cc own nL rt ini pc (a_cpI 100) := by
  have key : ∀ (ls st : List Value) (σ : HS) (pc' : Nat) (ls' st' : List Value) (σ' : HS), a_cpI 100 pc ls st σ = o_nx pc' ls' st' σ' → ∃ n dp a q b, st = .int n :: .int dp :: .ref a :: .int q :: .ref b :: st' ∧ (((tof σ a = 100 ∧ tof σ b = 100) ∧ wsum st' ≤ 8) ∧ ¬ q < 0 ∧ ¬ dp < 0 ∧ ¬ n < 0 ∧ q.toNatClampNeg + n.toNatClampNeg ≤ nof σ b ∧ dp.toNatClampNeg + n.toNatClampNeg ≤ nof σ a) ∧ pc' = pc + 3 ∧ ls' = ls ∧ σ' = iall σ a (va_cpy (iof σ b) (iof σ a) q.toNatClampNeg dp.toNatClampNeg n.toNatClampNeg) := by
    intro ls st σ pc' ls' st' σ' hA
    unfold a_cpI at hA
    split at hA
    · split at hA
      · rename_i hg
        obtain ⟨rfl, rfl, rfl, rfl⟩ := onx_inj hA
        exact ⟨_, _, _, _, _, rfl, hg, rfl, rfl, rfl⟩
      · exact (osk_nx hA).elim
    · exact (osk_nx hA).elim
  refine ⟨fun ls st σ pc' ls' st' σ' hA => ?_, ?_⟩
  · obtain ⟨n, dp, a, q, b, -, -, -, -, rfl⟩ := key _ _ _ _ _ _ _ hA
    exact ⟨Nat.le_refl _, Nat.le_refl _⟩
  · intro D dA sp B xs L us p l e R s m args below meth c hC ls st σ pc' ls' st' σ' hA lv H locs cells slots Q hl hP hS hz hcc hss kk
    obtain ⟨n, dp, a, q, b, rfl, ⟨⟨⟨ha, hb'⟩, hw⟩, g1, g2, g3, g4, g5⟩, rfl, rfl, hσ⟩ := key _ _ _ _ _ _ _ hA
    obtain ⟨hx, hb, hml, -, -, hown, hts, hR, -, -, hRr, -⟩ := hC
    have hn := nfw_ac
    refine va_copyi hx hb (by rw [hml]; exact hl.2.1.symm) hown (hts _ h1) (hts _ h2) (hts _ h3) (hts _ h4) hR.1 hP.1 (wld_D dA sp B σ) hS _ _ 0 0 (PH_arr hP (t := 0) hb' rfl) (PH_arr hP (t := 0) ha rfl) (tyL_at (t := 0) rfl) (tyL_at (t := 0) rfl) rfl g1 g2 g3 g4 g5 (fun _ _ => rfl) (by omega) (by rw [rr_cats]; omega) hd (fun H1 locs1 hP1 _ hS1 => W_sz fun hz1 => ?_)
    have hn' : nxt σ' = nxt σ := by rw [hσ]; rfl
    have hP2 : PH D dA sp B xs L us σ' H1 := by
      refine PH_put hP (a := a) (by omega) hz hn' (fun _ => by rw [hσ]; rfl) (fun _ => by rw [hσ]; rfl) (fun z hz' => ⟨by funext j; rw [hσ, iof_iall, if_neg hz'], by rw [hσ]; rfl, by rw [hσ]; rfl⟩) ?_ hz1
      have ei : iof σ' a = va_cpy (iof σ b) (iof σ a) q.toNatClampNeg dp.toNatClampNeg n.toNatClampNeg := by funext j; rw [hσ, iof_iall, if_pos rfl]
      have et : tof σ' a = 100 + 0 := by rw [hσ]; exact ha
      have en : nof σ' a = nof σ a := by rw [hσ]; rfl
      rw [cel_arr et rfl, en]
      simp only [contA]
      rw [ei]
      exact hP1
    have := kk lv H1 locs1 hl hP2 hS1
    rwa [show nxt σ' - nxt σ = 0 by rw [hn']; exact Nat.sub_self _, show slt σ' - slt σ = 0 by rw [hσ]; exact Nat.sub_self _] at this
theorem sn_cpR {idx t ci N : Nat} {C : String} {T : u_T} (ht : atL[t]? = some (.object C, 2)) (hc : vwCl[ci]? = some (C, T, N)) (h9 : ci < 99) (h1 : Cond.methodLink own idx arraycopyName ∈ lw_all) (h2 : Cond.native arraycopyName ∈ lw_all) (h3 : Cond.static arraycopyName ∈ lw_all) (h4 : Cond.initialized "java/lang/System" ∈ lw_all) (hd : decode cc pc = .ok (.invokestatic idx, 3)) : Sn cc own nL rt ini pc (a_cpR (100 + t) (ci + 1)) := by
  have key : ∀ (ls st : List Value) (σ : HS) (pc' : Nat) (ls' st' : List Value) (σ' : HS), a_cpR (100 + t) (ci + 1) pc ls st σ = o_nx pc' ls' st' σ' → ∃ n dp a q b, st = .int n :: .int dp :: .ref a :: .int q :: .ref b :: st' ∧ (((tof σ a = 100 + t ∧ tof σ b = 100 + t) ∧ wsum st' ≤ 8) ∧ ¬ q < 0 ∧ ¬ dp < 0 ∧ ¬ n < 0 ∧ q.toNatClampNeg + n.toNatClampNeg ≤ nof σ b ∧ dp.toNatClampNeg + n.toNatClampNeg ≤ nof σ a) ∧ ((List.range n.toNatClampNeg).all fun i => match rof σ b (q.toNatClampNeg + i) with | none => true | some y => tof σ y == ci + 1) = true ∧ pc' = pc + 3 ∧ ls' = ls ∧ σ' = rall σ a (va_cpy (rof σ b) (rof σ a) q.toNatClampNeg dp.toNatClampNeg n.toNatClampNeg) := by
    intro ls st σ pc' ls' st' σ' hA
    unfold a_cpR at hA
    split at hA
    · split at hA
      · rename_i hg
        obtain ⟨rfl, rfl, rfl, rfl⟩ := onx_inj hA
        exact ⟨_, _, _, _, _, rfl, hg.1, hg.2, rfl, rfl, rfl⟩
      · exact (osk_nx hA).elim
    · exact (osk_nx hA).elim
  refine ⟨fun ls st σ pc' ls' st' σ' hA => ?_, ?_⟩
  · obtain ⟨n, dp, a, q, b, -, -, -, -, -, rfl⟩ := key _ _ _ _ _ _ _ hA
    exact ⟨Nat.le_refl _, Nat.le_refl _⟩
  · intro D dA sp B xs L us p l e R s m args below meth c hC ls st σ pc' ls' st' σ' hA lv H locs cells slots Q hl hP hS hz hcc hss kk
    obtain ⟨n, dp, a, q, b, rfl, ⟨⟨⟨ha, hb'⟩, hw⟩, g1, g2, g3, g4, g5⟩, hall, rfl, rfl, hσ⟩ := key _ _ _ _ _ _ _ hA
    obtain ⟨hx, hb, hml, -, -, hown, hts, hR, -, -, hRr, -⟩ := hC
    have hn := nfw_ac
    refine va_copyq (C := C) hx hb (by rw [hml]; exact hl.2.1.symm) hown (hts _ h1) (hts _ h2) (hts _ h3) (hts _ h4) hR.1 hP.1 (wld_D dA sp B σ) hS _ _ t t (PH_arr hP hb' ht) (PH_arr hP ha ht) (tyL_at ht) (tyL_at ht) g1 g2 g3 g4 g5 ?_ ?_ (by omega) (by rw [rr_cats]; omega) hd (fun H1 locs1 hP1 _ hS1 => W_sz fun hz1 => ?_)
    · intro i hi y hy
      cases hr : rof σ b (q.toNatClampNeg + i) with
      | none => rw [hr] at hy; cases hy
      | some y0 =>
        rw [hr] at hy
        cases hy
        have h5 := List.all_eq_true.mp hall i (List.mem_range.mpr hi)
        rw [hr] at h5
        have h6 : tof σ y0 = ci + 1 := by simpa using h5
        exact va_recv (q := (C, T, N)) hR.1 hP.1 hc (PH_obj hP h6 h9)
    · intro comp c0 e1 e2
      cases Option.some.inj (e1.symm.trans e2)
      exact va_asg _ _
    have hn' : nxt σ' = nxt σ := by rw [hσ]; rfl
    have hP2 : PH D dA sp B xs L us σ' H1 := by
      refine PH_put hP (a := a) (by omega) hz hn' (fun _ => by rw [hσ]; rfl) (fun _ => by rw [hσ]; rfl) (fun z hz' => ⟨by rw [hσ]; rfl, by rw [hσ]; rfl, by funext j; rw [hσ, rof_rall, if_neg hz']⟩) ?_ hz1
      have ei : (fun j => (rof σ' a j).map (rho sp B)) = va_cpy (fun j => (rof σ b j).map (rho sp B)) (fun j => (rof σ a j).map (rho sp B)) q.toNatClampNeg dp.toNatClampNeg n.toNatClampNeg := by
        funext j
        rw [hσ, rof_rall, if_pos rfl]
        unfold va_cpy
        split <;> rfl
      have et : tof σ' a = 100 + t := by rw [hσ]; exact ha
      have en : nof σ' a = nof σ a := by rw [hσ]; rfl
      rw [cel_arr et ht, en]
      simp only [contA]
      rw [ei]
      exact hP1
    have := kk lv H1 locs1 hl hP2 hS1
    rwa [show nxt σ' - nxt σ = 0 by rw [hn']; exact Nat.sub_self _, show slt σ' - slt σ = 0 by rw [hσ]; exact Nat.sub_self _] at this
end SNN
