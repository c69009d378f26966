/-! SOUNDNESS of the actions on cells -/
theorem W_sz {p : Program} {l : Launch} {e : Env} {R : Room} {s : State} {m : MethodId} {args : Array Value} {below : List Frame} {meth : Method} {c : Code} {H : Heap} {locs : List Loc} {cells slots : Nat} {Q : State → Prop} {g : JFrame}
    (h : H.size ≤ s.heap.size + cells → W p l e R s m args below meth c H locs cells slots Q g) : W p l e R s m args below meth c H locs cells slots Q g := fun T hT X => h (by rw [← hT]; exact X.heapSize) T hT X
theorem wld_size {D : va_G} {dA : Nat → ClassId} {sp : Nat → Nat} {B : Nat} {σ : HS} {H : Heap} (h : va_P D vwCl (wld dA sp B σ) H) (h1 : 100 < nxt σ) : B + (nxt σ - 100) ≤ H.size := by
  have e := wld_at (dA := dA) (sp := sp) (B := B) (σ := σ) (a := nxt σ - 1) (by omega) (by omega)
  have := (h _ _ e).lt
  rw [show rho sp B (nxt σ - 1) = B + (nxt σ - 1 - 100) from if_neg (by omega)] at this
  omega
section SNH
variable {D : va_G} {dA : Nat → ClassId} {sp : Nat → Nat} {B : Nat} {xs : Nat → Int32} {L : Nat} {us : Nat → Option Nat}
theorem PH_at {σ : HS} {H : Heap} {a : Nat} (h : PH D dA sp B xs L us σ H) (ha : tof σ a ≠ 0) : (wld dA sp B σ)[a - 100]? = some (rho sp B a, cel dA sp B σ a) := by
  obtain ⟨h1, h2⟩ := h.2.2.1.2 a ha
  exact wld_at h1 h2
/-- one cell has changed, no other thing -/
theorem PH_put {σ σ' : HS} {H H1 : Heap} {s : State} {cells a : Nat} (h : PH D dA sp B xs L us σ H) (ha : tof σ a ≠ 0) (hz : H.size = s.heap.size + cells) (hn : nxt σ' = nxt σ) (ht : ∀ b, tof σ' b = tof σ b) (hnf : ∀ b, nof σ' b = nof σ b)
    (hc : ∀ b, b ≠ a → iof σ' b = iof σ b ∧ lof σ' b = lof σ b ∧ rof σ' b = rof σ b)
    (hP : va_P D vwCl ((wld dA sp B σ).set (a - 100) (rho sp B a, cel dA sp B σ' a)) H1) (hz1 : H1.size ≤ s.heap.size + cells) : PH D dA sp B xs L us σ' H1 := by
  obtain ⟨h1, h2, h3, h4, h5, h6⟩ := h
  obtain ⟨a1, a2⟩ := h3.2 a ha
  rw [wld_set a1 a2 hn (fun b hb => cel_congr (hc b hb).1 (hc b hb).2.1 (hc b hb).2.2 (ht b) (hnf b))] at hP
  have hlo := wld_size hP (by omega)
  refine ⟨hP, by rw [hn] at hlo ⊢; omega, ⟨by rw [hn]; exact h3.1, fun b hb => ?_⟩, by rw [hnf]; exact h4, fun j hj => ?_, ?_⟩
  · rw [hn]; exact h3.2 b (by rw [← ht]; exact hb)
  · rw [(hc 0 (by omega)).1]; exact h5 j hj
  · rw [(hc 1 (by omega)).2.2]; exact h6
theorem PH_iput {σ : HS} {H H1 : Heap} {s : State} {cells a k : Nat} {v : Int32} (h : PH D dA sp B xs L us σ H) (ha : tof σ a ≠ 0) (hz : H.size = s.heap.size + cells)
    (hP : va_P D vwCl ((wld dA sp B σ).set (a - 100) (rho sp B a, cel dA sp B (iput σ a k v) a)) H1) (hz1 : H1.size ≤ s.heap.size + cells) : PH D dA sp B xs L us (iput σ a k v) H1 :=
  PH_put h ha hz rfl (fun _ => rfl) (fun _ => rfl) (fun b hb => ⟨by funext j; rw [iof_iput, if_neg (fun z => hb z.1)], rfl, rfl⟩) hP hz1
theorem PH_lput {σ : HS} {H H1 : Heap} {s : State} {cells a k : Nat} {v : Int64} (h : PH D dA sp B xs L us σ H) (ha : tof σ a ≠ 0) (hz : H.size = s.heap.size + cells)
    (hP : va_P D vwCl ((wld dA sp B σ).set (a - 100) (rho sp B a, cel dA sp B (lput σ a k v) a)) H1) (hz1 : H1.size ≤ s.heap.size + cells) : PH D dA sp B xs L us (lput σ a k v) H1 :=
  PH_put h ha hz rfl (fun _ => rfl) (fun _ => rfl) (fun b hb => ⟨rfl, by funext j; rw [lof_lput, if_neg (fun z => hb z.1)], rfl⟩) hP hz1
theorem PH_rput {σ : HS} {H H1 : Heap} {s : State} {cells a k : Nat} {v : Option Nat} (h : PH D dA sp B xs L us σ H) (ha : tof σ a ≠ 0) (hz : H.size = s.heap.size + cells)
    (hP : va_P D vwCl ((wld dA sp B σ).set (a - 100) (rho sp B a, cel dA sp B (rput σ a k v) a)) H1) (hz1 : H1.size ≤ s.heap.size + cells) : PH D dA sp B xs L us (rput σ a k v) H1 :=
  PH_put h ha hz rfl (fun _ => rfl) (fun _ => rfl) (fun b hb => ⟨rfl, rfl, by funext j; rw [rof_rput, if_neg (fun z => hb z.1)]⟩) hP hz1
end SNH
/-- a field that is read: entry idx of own's pool, place k (of kind q) of the class ci -/
def FG (own : String) (idx ci k q : Nat) : Prop := ∃ (C : String) (T : u_T) (N : Nat) (ref : String), vwCl[ci]? = some (C, T, N) ∧ ci < 99 ∧ (∀ w ∈ u_ws C T N, w ∈ lw_all) ∧ k < N ∧ (fkL.getD ci [])[k]? = some q ∧
  (Cond.fieldLink own idx ref (T k).2.1 (T k).2.2.1 ∈ lw_all ∨ ∃ host, (own, idx, ref, (T k).2.1, (T k).2.2.1, host) ∈ nwF) ∧ (ref = (T k).1 ∨ Cond.sameField ref (T k).1 (T k).2.1 (T k).2.2.1 ∈ lw_all)
/-- Two fields of one class have two names, or both are final and two classes declare them. -/
def NM (T : u_T) (N : Nat) : Prop := ∀ a, a < N → ∀ b, b < N → a ≠ b → (T a).2.1 ≠ (T b).2.1 ∨ ((T a).2.2.2 = true ∧ (T b).2.2.2 = true ∧ (T a).1 ≠ (T b).1)
theorem NM_of {T : u_T} {N : Nat} (h : ∀ a, a < N → ∀ b, b < N → a ≠ b → (T a).2.1 ≠ (T b).2.1) : NM T N := fun a ha b hb hne => Or.inl (h a ha b hb hne)
theorem NM_apart {s : State} {args : Array Value} {D : va_G} {cl : List vw_C} {tys : List (ClassId × FieldType)} {C : String} {T : u_T} {N ci : Nat} {Ts : List Cond} (hts : ∀ w ∈ Ts, w.before args s = true) (hin : ∀ w ∈ u_ws C T N, w ∈ Ts) (ty : Nat → FieldType) (hty : ∀ k, k < N → parseFieldDescriptor (T k).2.2.1 = some (ty k)) (hnm : NM T N) (hK : va_K D cl tys s) (hc : cl[ci]? = some (C, T, N)) :
    ∀ x y, x < N → y < N → x ≠ y → (D.2 ci) x ≠ (D.2 ci) y := by
  intro x y hx hy hne
  obtain ⟨hS, -⟩ := hK.1 ci _ hc
  obtain ⟨_, _, _, fa, hia, ea⟩ := hS x hx
  obtain ⟨_, _, _, fb, hib, eb⟩ := hS y hy
  rw [← ea, ← eb]
  rcases hnm x hx y hy hne with h | ⟨h1, h2, h3⟩
  · refine u_apart (u_lays hts hin hx) (u_lays hts hin hy) hia hib ?_
    rw [(State.fieldFound?_type hia (hty x hx)).1, (State.fieldFound?_type hib (hty y hy)).1]
    exact h
  · have la := hts _ (hin _ (u_in_lay hx))
    have lb := hts _ (hin _ (u_in_lay hy))
    unfold u_lay at la lb
    rw [if_pos h1] at la
    rw [if_pos h2] at lb
    obtain ⟨c1, k1, c1', k1', i1, f1, a1, -, a3, -, -, -, a7, -, d1, a9, a10, -⟩ := Cond.laysFinal_spec la
    obtain ⟨c2, k2, c2', k2', i2, f2, b1, -, b3, -, -, -, b7, -, d2, b9, b10, -⟩ := Cond.laysFinal_spec lb
    cases a1.symm.trans b1
    cases hia.symm.trans a3
    cases hib.symm.trans b3
    intro hs
    rw [hs] at a9
    cases a9.symm.trans b9
    obtain ⟨ka, ka1, ka2⟩ := Vm.findClass_spec a7
    obtain ⟨kb, kb1, kb2⟩ := Vm.findClass_spec b7
    cases ka1.symm.trans (State.fieldFound?_spec hia).1
    cases kb1.symm.trans (State.fieldFound?_spec hib).1
    exact h3 (ka2.symm.trans (a10.symm.trans (b10.trans kb2)))
/-- a field that is written -/
def FP (own : String) (ini : Bool) (idx ci k q : Nat) (ty : FieldType) : Prop := ∃ (C : String) (T : u_T) (N : Nat) (ref : String) (ty0 : Nat → FieldType), vwCl[ci]? = some (C, T, N) ∧ ci < 99 ∧ (∀ w ∈ u_ws C T N, w ∈ lw_all) ∧ k < N ∧ (fkL.getD ci [])[k]? = some q ∧
  ((Cond.fieldLink own idx ref (T k).2.1 (T k).2.2.1 ∈ lw_all ∧ ((T k).2.2.2 = false ∨ ((T k).2.2.2 = true ∧ ini = true ∧ (T k).1 = own))) ∨ ((T k).2.2.2 = false ∧ ∃ host, (own, idx, ref, (T k).2.1, (T k).2.2.1, host) ∈ nwF)) ∧ (ref = (T k).1 ∨ Cond.sameField ref (T k).1 (T k).2.1 (T k).2.2.1 ∈ lw_all) ∧
  (∀ k, k < N → parseFieldDescriptor (T k).2.2.1 = some (ty0 k)) ∧ NM T N ∧ parseFieldDescriptor (T k).2.2.1 = some ty
section SNF
variable {D : va_G} {dA : Nat → ClassId} {sp : Nat → Nat} {B : Nat} {xs : Nat → Int32} {L : Nat} {us : Nat → Option Nat}
variable {cc : ByteArray} {own : String} {nL : Nat} {rt : Option FieldType} {ini : Bool} {pc : Nat}
variable {p : Program} {l : Launch} {e : Env} {R : Room} {s : State} {m : MethodId} {args : Array Value} {below : List Frame} {meth : Method} {c : Code} {H : Heap} {locs : List Loc} {cells slots : Nat} {Q : State → Prop}
theorem W_get {idx ci k q a : Nat} {σ : HS} {lv : Array Slot} {rest : List Value} (hC : CX D dA sp B xs L us cc own nL rt ini p l R s m args meth c) (hF : FG own idx ci k q) (hP : PH D dA sp B xs L us σ H) (ha : tof σ a = ci + 1) (hd : decode cc pc = .ok (.getfield idx, 3))
    (kk : W p l e R s m args below meth c H locs cells slots Q (F0 m (pc + 3) lv (fval sp B q σ a k :: rest))) : W p l e R s m args below meth c H locs cells slots Q (F0 m pc lv (.ref (rho sp B a) :: rest)) := by
  obtain ⟨C, T, N, ref, f1, f0, f2, f3, f4, f5, f6⟩ := hF
  obtain ⟨hx, hb, -, -, -, hown, hts, hR, -⟩ := hC
  have hsame : ∀ x, s.fieldFound? (T k).1 (T k).2.1 (T k).2.2.1 = some x → s.fieldFound? ref (T k).2.1 (T k).2.2.1 = some x := by
    rcases f6 with h | h
    · rw [h]; exact fun _ z => z
    · exact u_same (hts _ h)
  have hat := PH_at hP (show tof σ a ≠ 0 by omega)
  rw [cel_obj ha (by omega), Nat.add_sub_cancel] at hat
  rcases f5 with h | ⟨host, h⟩
  · exact va_get (C := C) (T := T) (N := N) hx hb hts f2 hown hR.1 hP.1 _ hat f1 k f3 (hts _ h) hsame (flds_get f4) hd kk
  · exact va_getN (C := C) (T := T) (N := N) (host := host) hx hb hts f2 hown hR.1 hP.1 _ hat f1 k f3 (va_Nw.use rfl (hR.2.1.1 _ h)) hsame (flds_get f4) hd kk
theorem W_put {idx ci k q a : Nat} {ty : FieldType} {v : Value} {σ σ' : HS} {lv : Array Slot} {rest : List Value} (hC : CX D dA sp B xs L us cc own nL rt ini p l R s m args meth c) (hF : FP own ini idx ci k q ty) (hP : PH D dA sp B xs L us σ H) (hS : va_S (fun q => B ≤ q) s.heap H locs) (hz : H.size = s.heap.size + cells) (ha : tof σ a = ci + 1) (hv : narrow ty v = v ∧ fits ty v = true)
    (hn : nxt σ' = nxt σ) (ht : ∀ b, tof σ' b = tof σ b) (hnf : ∀ b, nof σ' b = nof σ b) (hc : ∀ b, b ≠ a → iof σ' b = iof σ b ∧ lof σ' b = lof σ b ∧ rof σ' b = rof σ b) (hfl : flds sp B ci σ' a = (flds sp B ci σ a).set k v) (hd : decode cc pc = .ok (.putfield idx, 3))
    (kk : ∀ (H1 : Heap) (locs1 : List Loc), PH D dA sp B xs L us σ' H1 → va_S (fun q => B ≤ q) s.heap H1 locs1 → W p l e R s m args below meth c H1 locs1 cells slots Q (F0 m (pc + 3) lv rest)) : W p l e R s m args below meth c H locs cells slots Q (F0 m pc lv (v :: .ref (rho sp B a) :: rest)) := by
  obtain ⟨C, T, N, ref, ty0, f1, f0, f2, f3, f4, f5, f6, f7, f8, f9⟩ := hF
  obtain ⟨hx, hb, -, -, -, hown, hts, hR, -, hini, -⟩ := hC
  have hsame : ∀ x, s.fieldFound? (T k).1 (T k).2.1 (T k).2.2.1 = some x → s.fieldFound? ref (T k).2.1 (T k).2.2.1 = some x := by
    rcases f6 with h | h
    · rw [h]; exact fun _ z => z
    · exact u_same (hts _ h)
  have hat := PH_at hP (show tof σ a ≠ 0 by omega)
  rw [cel_obj ha (by omega), Nat.add_sub_cancel] at hat
  have hl : k < (flds sp B ci σ a).length := by rw [flds_len]; exact (List.getElem?_eq_some_iff.mp f4).1
  have kk' : ∀ (H1 : Heap) (locs1 : List Loc), va_P D vwCl ((wld dA sp B σ).set (a - 100) (rho sp B a, .inr (ci, (flds sp B ci σ a).set k v))) H1 → va_D (fun q => B ≤ q) ((wld dA sp B σ).set (a - 100) (rho sp B a, .inr (ci, (flds sp B ci σ a).set k v))) → va_S (fun q => B ≤ q) s.heap H1 locs1 → W p l e R s m args below meth c H1 locs1 cells slots Q (F0 m (pc + 3) lv rest) := by
    intro H1 locs1 hP1 _ hS1
    refine W_sz fun hz1 => kk H1 locs1 (PH_put hP (by omega) hz hn ht hnf hc ?_ hz1) hS1
    rw [cel_obj (show tof σ' a = ci + 1 by rw [ht]; exact ha) (by omega), Nat.add_sub_cancel, hfl]
    exact hP1
  have hap := NM_apart hts f2 ty0 f7 f8 hR.1 f1
  obtain ⟨r, h1, cell, q1, q2, q3, q4⟩ := hP.1 _ _ hat
  have hr : r = (C, T, N) := Option.some.inj (h1.symm.trans f1)
  subst hr
  obtain ⟨hSl, hfc, kC, hkC, hkind⟩ := hR.1.1 ci _ f1
  obtain ⟨cf, kf, fi, f, hi, hsl⟩ := hSl k f3
  have hlay := hts _ (f2 _ (u_in_lay f3))
  unfold u_lay at hlay
  have hst := (u_facts hfc hkC (u_lays hts f2 f3) hi).1
  have hsz : (D.2 ci k) < cell.slots.size := k2_hasslot (q4 k f3)
  have kk2 : ∀ H' : Heap, H'[rho sp B a]? = some (cell.setSlot (D.2 ci k) v) → H'.size = H.size → (∀ q, q ≠ rho sp B a → H'[q]? = H[q]?) → W p l e R s m args below meth c H' (locs ++ [⟨rho sp B a, D.2 ci k⟩]) cells slots Q (F0 m (pc + 3) lv rest) := fun H' e1 e2 e3 =>
    kk' H' _ (hP.1.set (wld_D dA sp B σ) hat ⟨_, f1, t_OB.to (V := updV (vp_V (flds sp B ci σ a)) k v) ⟨_, e1, q2, q3, t_set q4 hap f3 v⟩ (fun j _ => vp_updV_set hl v j)⟩ e3) ((wld_D dA sp B σ).set hat) (hS.put e2 e3 ((wld_D dA sp B σ).2 _ _ hat))
  rcases f5 with ⟨h, hf | ⟨hf, hini2, hdecl⟩⟩ | ⟨hf, host, h⟩
  · rw [if_neg (by rw [hf]; decide)] at hlay
    have h6 := u_store hfc hkC hkind hlay hi f9 hv.1 hv.2
    refine W.putK hx hb (f := f) ⟨hown, hts _ h, ⟨_, _, _, hsame _ hi⟩, hst⟩ (by rw [q2]; exact h6) q1 q3 (by rw [hsl]; exact hsz) rfl rfl hd fun H' e1 e2 e3 => ?_
    rw [hsl] at e1 ⊢
    exact kk2 H' e1 e2 e3
  · rw [if_pos hf] at hlay
    have hcf : m.cls = cf := by
      obtain ⟨_, _, c', _, _, _, -, -, hf', -, -, -, hown2, -⟩ := Cond.laysFinal_spec hlay
      have e1 : c' = cf := by have := hi.symm.trans hf'; simp at this; exact this.1.symm
      rw [hdecl] at hown2
      rw [← e1]; exact Option.some.inj (hown.symm.trans hown2)
    have h6 := u_fits hfc hkC hkind (Or.inr hlay) hi f9 hv.1 hv.2
    refine W.putFinK hx hb hown (hts _ h) (hsame _ hi) hst hcf (hini hini2) (by rw [q2]; exact h6) q1 q3 (by rw [hsl]; exact hsz) rfl rfl hd fun H' e1 e2 e3 => ?_
    rw [hsl] at e1 ⊢
    exact kk2 H' e1 e2 e3
  · rw [if_neg (by rw [hf]; decide)] at hlay
    have h6 := u_store hfc hkC hkind hlay hi f9 hv.1 hv.2
    refine va_WputK hx hb (f := f) hown (va_Nw.use rfl (hR.2.1.1 _ h)) (hsame _ hi) hst (by rw [q2]; exact h6) q1 q3 (by rw [hsl]; exact hsz) rfl rfl hd fun H' e1 e2 e3 => ?_
    rw [hsl] at e1 ⊢
    exact kk2 H' e1 e2 e3
end SNF
section SNG
variable {cc : ByteArray} {own : String} {nL : Nat} {rt : Option FieldType} {ini : Bool} {pc : Nat}
theorem sn_gI {idx c1 c2 k : Nat} (h1 : FG own idx c1 k 0) (h2 : FG own idx c2 k 0) (hd : decode cc pc = .ok (.getfield idx, 3)) : Sn cc own nL rt ini pc (a_gI (c1 + 1) (c2 + 1) k) := by
  refine Sn.pure fun ls st σ pc' ls' st' σ' hA => ?_
  unfold a_gI at hA
  split at hA
  · split at hA
    · rename_i hg
      obtain ⟨rfl, rfl, rfl, rfl⟩ := onx_inj hA
      refine ⟨rfl, fun D dA sp B xs L us p l e R s m args below meth c hC lv H locs cells slots Q hl hP hS kk => ?_⟩
      rcases hg with hg | hg
      · exact W_get hC h1 hP hg hd (kk lv hl)
      · exact W_get hC h2 hP hg hd (kk lv hl)
    · exact (osk_nx hA).elim
  · exact (osk_nx hA).elim
theorem sn_gL {idx c1 c2 k : Nat} (h1 : FG own idx c1 k 1) (h2 : FG own idx c2 k 1) (hd : decode cc pc = .ok (.getfield idx, 3)) : Sn cc own nL rt ini pc (a_gL (c1 + 1) (c2 + 1) k) := by
  refine Sn.pure fun ls st σ pc' ls' st' σ' hA => ?_
  unfold a_gL at hA
  split at hA
  · split at hA
    · rename_i hg
      obtain ⟨rfl, rfl, rfl, rfl⟩ := onx_inj hA
      refine ⟨rfl, fun D dA sp B xs L us p l e R s m args below meth c hC lv H locs cells slots Q hl hP hS kk => ?_⟩
      rcases hg with hg | hg
      · exact W_get hC h1 hP hg hd (kk lv hl)
      · exact W_get hC h2 hP hg hd (kk lv hl)
    · exact (osk_nx hA).elim
  · exact (osk_nx hA).elim
theorem sn_gR {idx c1 c2 k : Nat} (h1 : FG own idx c1 k 2) (h2 : FG own idx c2 k 2) (hd : decode cc pc = .ok (.getfield idx, 3)) : Sn cc own nL rt ini pc (a_gR (c1 + 1) (c2 + 1) k) := by
  refine Sn.pure fun ls st σ pc' ls' st' σ' hA => ?_
  unfold a_gR at hA
  split at hA
  · split at hA
    · rename_i hg
      obtain ⟨rfl, rfl, rfl, rfl⟩ := onx_inj hA
      refine ⟨rfl, fun D dA sp B xs L us p l e R s m args below meth c hC lv H locs cells slots Q hl hP hS kk => ?_⟩
      rcases hg with hg | hg
      · exact W_get hC h1 hP hg hd (kk lv hl)
      · exact W_get hC h2 hP hg hd (kk lv hl)
    · exact (osk_nx hA).elim
  · exact (osk_nx hA).elim
theorem sn_pI {idx c1 c2 k : Nat} (h1 : FP own ini idx c1 k 0 .int) (h2 : FP own ini idx c2 k 0 .int) (hd : decode cc pc = .ok (.putfield idx, 3)) : Sn cc own nL rt ini pc (a_pI (c1 + 1) (c2 + 1) k) := by
  have key : ∀ (ls st : List Value) (σ : HS) (pc' : Nat) (ls' st' : List Value) (σ' : HS), a_pI (c1 + 1) (c2 + 1) k pc ls st σ = o_nx pc' ls' st' σ' → ∃ v a, st = .int v :: .ref a :: st' ∧ (tof σ a = c1 + 1 ∨ tof σ a = c2 + 1) ∧ pc' = pc + 3 ∧ ls' = ls ∧ σ' = iput σ a k v := by
    intro ls st σ pc' ls' st' σ' hA
    unfold a_pI at hA
    split at hA
    · split at hA
      · rename_i hg
        obtain ⟨rfl, rfl, rfl, rfl⟩ := onx_inj hA
        exact ⟨_, _, rfl, hg, rfl, rfl, rfl⟩
      · exact (osk_nx hA).elim
    · exact (osk_nx hA).elim
  refine ⟨fun ls st σ pc' ls' st' σ' hA => ?_, ?_⟩
  · obtain ⟨v, a, -, -, -, -, rfl⟩ := key _ _ _ _ _ _ _ hA
    exact ⟨Nat.le_refl _, Nat.le_refl _⟩
  · intro D dA sp B xs L us p l e R s m args below meth c hC ls st σ pc' ls' st' σ' hA lv H locs cells slots Q hl hP hS hz hc hs kk
    obtain ⟨v, a, rfl, hg, rfl, rfl, rfl⟩ := key _ _ _ _ _ _ _ hA
    have kk' : ∀ (H1 : Heap) (locs1 : List Loc), PH D dA sp B xs L us (iput σ a k v) H1 → va_S (fun q => B ≤ q) s.heap H1 locs1 → W p l e R s m args below meth c H1 locs1 cells slots Q (F0 m (pc + 3) lv (st'.map (rr sp B))) := fun H1 locs1 g1 g2 => by
      have := kk lv H1 locs1 hl g1 g2
      rwa [show nxt (iput σ a k v) - nxt σ = 0 from Nat.sub_self _, show slt (iput σ a k v) - slt σ = 0 from Nat.sub_self _] at this
    rcases hg with hg | hg
    · have hF := h1
      obtain ⟨C, T, N, ref, ty0, f1, f0, f2, f3, f4, -⟩ := h1
      exact W_put (σ' := iput σ a k v) hC hF hP hS hz hg ⟨rfl, rfl⟩ rfl (fun _ => rfl) (fun _ => rfl) (fun b hb => ⟨by funext j; rw [iof_iput, if_neg (fun z => hb z.1)], rfl, rfl⟩) (flds_iput f4) hd kk'
    · have hF := h2
      obtain ⟨C, T, N, ref, ty0, f1, f0, f2, f3, f4, -⟩ := h2
      exact W_put (σ' := iput σ a k v) hC hF hP hS hz hg ⟨rfl, rfl⟩ rfl (fun _ => rfl) (fun _ => rfl) (fun b hb => ⟨by funext j; rw [iof_iput, if_neg (fun z => hb z.1)], rfl, rfl⟩) (flds_iput f4) hd kk'
theorem sn_pZ {idx c1 c2 k : Nat} (h1 : FP own ini idx c1 k 0 .boolean) (h2 : FP own ini idx c2 k 0 .boolean) (hd : decode cc pc = .ok (.putfield idx, 3)) : Sn cc own nL rt ini pc (a_pZ (c1 + 1) (c2 + 1) k) := by
  have key : ∀ (ls st : List Value) (σ : HS) (pc' : Nat) (ls' st' : List Value) (σ' : HS), a_pZ (c1 + 1) (c2 + 1) k pc ls st σ = o_nx pc' ls' st' σ' → ∃ v a, st = .int v :: .ref a :: st' ∧ (tof σ a = c1 + 1 ∨ tof σ a = c2 + 1) ∧ (v = 0 ∨ v = 1) ∧ pc' = pc + 3 ∧ ls' = ls ∧ σ' = iput σ a k v := by
    intro ls st σ pc' ls' st' σ' hA
    unfold a_pZ at hA
    split at hA
    · split at hA
      · rename_i hg
        obtain ⟨rfl, rfl, rfl, rfl⟩ := onx_inj hA
        exact ⟨_, _, rfl, hg.1, hg.2, rfl, rfl, rfl⟩
      · exact (osk_nx hA).elim
    · exact (osk_nx hA).elim
  refine ⟨fun ls st σ pc' ls' st' σ' hA => ?_, ?_⟩
  · obtain ⟨v, a, -, -, -, -, -, rfl⟩ := key _ _ _ _ _ _ _ hA
    exact ⟨Nat.le_refl _, Nat.le_refl _⟩
  · intro D dA sp B xs L us p l e R s m args below meth c hC ls st σ pc' ls' st' σ' hA lv H locs cells slots Q hl hP hS hz hc hs kk
    obtain ⟨v, a, rfl, hg, hv, rfl, rfl, rfl⟩ := key _ _ _ _ _ _ _ hA
    have hvv : narrow .boolean (.int v) = .int v ∧ fits .boolean (.int v) = true := by rcases hv with rfl | rfl <;> exact ⟨rfl, rfl⟩
    have kk' : ∀ (H1 : Heap) (locs1 : List Loc), PH D dA sp B xs L us (iput σ a k v) H1 → va_S (fun q => B ≤ q) s.heap H1 locs1 → W p l e R s m args below meth c H1 locs1 cells slots Q (F0 m (pc + 3) lv (st'.map (rr sp B))) := fun H1 locs1 g1 g2 => by
      have := kk lv H1 locs1 hl g1 g2
      rwa [show nxt (iput σ a k v) - nxt σ = 0 from Nat.sub_self _, show slt (iput σ a k v) - slt σ = 0 from Nat.sub_self _] at this
    rcases hg with hg | hg
    · have hF := h1
      obtain ⟨C, T, N, ref, ty0, f1, f0, f2, f3, f4, -⟩ := h1
      exact W_put (σ' := iput σ a k v) hC hF hP hS hz hg hvv rfl (fun _ => rfl) (fun _ => rfl) (fun b hb => ⟨by funext j; rw [iof_iput, if_neg (fun z => hb z.1)], rfl, rfl⟩) (flds_iput f4) hd kk'
    · have hF := h2
      obtain ⟨C, T, N, ref, ty0, f1, f0, f2, f3, f4, -⟩ := h2
      exact W_put (σ' := iput σ a k v) hC hF hP hS hz hg hvv rfl (fun _ => rfl) (fun _ => rfl) (fun b hb => ⟨by funext j; rw [iof_iput, if_neg (fun z => hb z.1)], rfl, rfl⟩) (flds_iput f4) hd kk'
theorem sn_pL {idx c1 c2 k : Nat} (h1 : FP own ini idx c1 k 1 .long) (h2 : FP own ini idx c2 k 1 .long) (hd : decode cc pc = .ok (.putfield idx, 3)) : Sn cc own nL rt ini pc (a_pL (c1 + 1) (c2 + 1) k) := by
  have key : ∀ (ls st : List Value) (σ : HS) (pc' : Nat) (ls' st' : List Value) (σ' : HS), a_pL (c1 + 1) (c2 + 1) k pc ls st σ = o_nx pc' ls' st' σ' → ∃ v a, st = .long v :: .ref a :: st' ∧ (tof σ a = c1 + 1 ∨ tof σ a = c2 + 1) ∧ pc' = pc + 3 ∧ ls' = ls ∧ σ' = lput σ a k v := by
    intro ls st σ pc' ls' st' σ' hA
    unfold a_pL at hA
    split at hA
    · split at hA
      · rename_i hg
        obtain ⟨rfl, rfl, rfl, rfl⟩ := onx_inj hA
        exact ⟨_, _, rfl, hg, rfl, rfl, rfl⟩
      · exact (osk_nx hA).elim
    · exact (osk_nx hA).elim
  refine ⟨fun ls st σ pc' ls' st' σ' hA => ?_, ?_⟩
  · obtain ⟨v, a, -, -, -, -, rfl⟩ := key _ _ _ _ _ _ _ hA
    exact ⟨Nat.le_refl _, Nat.le_refl _⟩
  · intro D dA sp B xs L us p l e R s m args below meth c hC ls st σ pc' ls' st' σ' hA lv H locs cells slots Q hl hP hS hz hc hs kk
    obtain ⟨v, a, rfl, hg, rfl, rfl, rfl⟩ := key _ _ _ _ _ _ _ hA
    have kk' : ∀ (H1 : Heap) (locs1 : List Loc), PH D dA sp B xs L us (lput σ a k v) H1 → va_S (fun q => B ≤ q) s.heap H1 locs1 → W p l e R s m args below meth c H1 locs1 cells slots Q (F0 m (pc + 3) lv (st'.map (rr sp B))) := fun H1 locs1 g1 g2 => by
      have := kk lv H1 locs1 hl g1 g2
      rwa [show nxt (lput σ a k v) - nxt σ = 0 from Nat.sub_self _, show slt (lput σ a k v) - slt σ = 0 from Nat.sub_self _] at this
    rcases hg with hg | hg
    · have hF := h1
      obtain ⟨C, T, N, ref, ty0, f1, f0, f2, f3, f4, -⟩ := h1
      exact W_put (σ' := lput σ a k v) hC hF hP hS hz hg ⟨rfl, rfl⟩ rfl (fun _ => rfl) (fun _ => rfl) (fun b hb => ⟨rfl, by funext j; rw [lof_lput, if_neg (fun z => hb z.1)], rfl⟩) (flds_lput f4) hd kk'
    · have hF := h2
      obtain ⟨C, T, N, ref, ty0, f1, f0, f2, f3, f4, -⟩ := h2
      exact W_put (σ' := lput σ a k v) hC hF hP hS hz hg ⟨rfl, rfl⟩ rfl (fun _ => rfl) (fun _ => rfl) (fun b hb => ⟨rfl, by funext j; rw [lof_lput, if_neg (fun z => hb z.1)], rfl⟩) (flds_lput f4) hd kk'
theorem sn_pR {idx c1 c2 k : Nat} {t1 t2 : FieldType} (h1 : FP own ini idx c1 k 2 t1) (h2 : FP own ini idx c2 k 2 t2) (q1 : ∀ r, narrow t1 (va_rf r) = va_rf r ∧ fits t1 (va_rf r) = true) (q2 : ∀ r, narrow t2 (va_rf r) = va_rf r ∧ fits t2 (va_rf r) = true) (hd : decode cc pc = .ok (.putfield idx, 3)) : Sn cc own nL rt ini pc (a_pR (c1 + 1) (c2 + 1) k) := by
  have key : ∀ (ls st : List Value) (σ : HS) (pc' : Nat) (ls' st' : List Value) (σ' : HS), a_pR (c1 + 1) (c2 + 1) k pc ls st σ = o_nx pc' ls' st' σ' → ∃ v a, st = rv v :: .ref a :: st' ∧ (tof σ a = c1 + 1 ∨ tof σ a = c2 + 1) ∧ pc' = pc + 3 ∧ ls' = ls ∧ σ' = rput σ a k v := by
    intro ls st σ pc' ls' st' σ' hA
    unfold a_pR at hA
    split at hA
    · split at hA
      · rename_i hg
        obtain ⟨rfl, rfl, rfl, rfl⟩ := onx_inj hA
        exact ⟨some _, _, rfl, hg, rfl, rfl, rfl⟩
      · exact (osk_nx hA).elim
    · split at hA
      · rename_i hg
        obtain ⟨rfl, rfl, rfl, rfl⟩ := onx_inj hA
        exact ⟨none, _, rfl, hg, rfl, rfl, rfl⟩
      · exact (osk_nx hA).elim
    · exact (osk_nx hA).elim
  refine ⟨fun ls st σ pc' ls' st' σ' hA => ?_, ?_⟩
  · obtain ⟨v, a, -, -, -, -, rfl⟩ := key _ _ _ _ _ _ _ hA
    exact ⟨Nat.le_refl _, Nat.le_refl _⟩
  · intro D dA sp B xs L us p l e R s m args below meth c hC ls st σ pc' ls' st' σ' hA lv H locs cells slots Q hl hP hS hz hc hs kk
    obtain ⟨v, a, rfl, hg, rfl, rfl, rfl⟩ := key _ _ _ _ _ _ _ hA
    have kk' : ∀ (H1 : Heap) (locs1 : List Loc), PH D dA sp B xs L us (rput σ a k v) H1 → va_S (fun q => B ≤ q) s.heap H1 locs1 → W p l e R s m args below meth c H1 locs1 cells slots Q (F0 m (pc + 3) lv (st'.map (rr sp B))) := fun H1 locs1 g1 g2 => by
      have := kk lv H1 locs1 hl g1 g2
      rwa [show nxt (rput σ a k v) - nxt σ = 0 from Nat.sub_self _, show slt (rput σ a k v) - slt σ = 0 from Nat.sub_self _] at this
    have e1 : (rv v :: Value.ref a :: st').map (rr sp B) = va_rf (v.map (rho sp B)) :: .ref (rho sp B a) :: st'.map (rr sp B) := by rw [List.map_cons, rr_rv]; rfl
    rw [e1]
    rcases hg with hg | hg
    · have hF := h1
      obtain ⟨C, T, N, ref, ty0, f1, f0, f2, f3, f4, -⟩ := h1
      exact W_put (σ' := rput σ a k v) hC hF hP hS hz hg (q1 _) rfl (fun _ => rfl) (fun _ => rfl) (fun b hb => ⟨rfl, rfl, by funext j; rw [rof_rput, if_neg (fun z => hb z.1)]⟩) (by rw [flds_rput f4, rr_rv]) hd kk'
    · have hF := h2
      obtain ⟨C, T, N, ref, ty0, f1, f0, f2, f3, f4, -⟩ := h2
      exact W_put (σ' := rput σ a k v) hC hF hP hS hz hg (q2 _) rfl (fun _ => rfl) (fun _ => rfl) (fun b hb => ⟨rfl, rfl, by funext j; rw [rof_rput, if_neg (fun z => hb z.1)]⟩) (by rw [flds_rput f4, rr_rv]) hd kk'
end SNG
