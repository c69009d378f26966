/-! THE LAW'S START: what holds all through (RK), out of the tables' words and of what the Statement gives -/
set_option maxRecDepth 100000
section START
variable {s : State} {args : Array Value}
theorem sr_prim {ty : FieldType} (h : (Cond.arrayClass ty).before args s = true) : ∃ cA, ArrOfT s cA ty ∧ s.vm.findClass ("[" ++ ty.toString) = some cA := by
  obtain ⟨c, k, comp, h1, h2, h3⟩ := Cond.arrayClass_spec h
  exact ⟨c, fun N z => ⟨(fun k h => by cases h), k, h2, comp, h3⟩, h1⟩
theorem sr_obj {C : String} (h : (Cond.arrayOver (.object C)).before args s = true) : ∃ cA, ArrOfT s cA (.object C) ∧ va_RA s cA (.object C) := by
  obtain ⟨comp, c, k, h1, -, h3, h4, h5⟩ := Cond.arrayOver_spec h
  exact ⟨c, fun N z => ⟨(fun k h => by cases h), k, h3, comp, h4⟩, k, comp, h3, h4, h1, h5⟩
theorem sr_arr {t : FieldType} (h : (Cond.arrayOver (.array t)).before args s = true) : ∃ cA, ArrOfT s cA (.array t) ∧ va_RA s cA (.array t) := by
  obtain ⟨comp, c, k, h1, h3, h4, h5⟩ := Cond.arrayOver_specA h
  exact ⟨c, fun N z => ⟨(fun k h => by cases h), k, h3, comp, h4⟩, h5⟩
theorem sr_atl (hts : ∀ w ∈ lw_tbl, w.before args s = true) : ∀ q ∈ atL, ∃ cA, ArrOfT s cA q.1 ∧ va_RA s cA q.1 :=
  List.forall_mem_cons.mpr ⟨sr_prim (hts _ (lw_all_tbl q358)), List.forall_mem_cons.mpr ⟨sr_prim (hts _ (lw_all_tbl q219)), List.forall_mem_cons.mpr ⟨sr_prim (hts _ (lw_all_tbl q500)), List.forall_mem_cons.mpr ⟨sr_prim (hts _ (lw_all_tbl q1513)), List.forall_mem_cons.mpr ⟨sr_arr (hts _ q421), List.forall_mem_cons.mpr ⟨sr_obj (hts _ q313), List.forall_mem_cons.mpr ⟨sr_obj (hts _ q315), List.forall_mem_cons.mpr ⟨sr_obj (hts _ q221), List.forall_mem_cons.mpr ⟨sr_obj (hts _ q362), List.forall_mem_cons.mpr ⟨sr_obj (hts _ q360), List.forall_mem_cons.mpr ⟨sr_obj (hts _ q501), List.forall_mem_cons.mpr ⟨sr_obj (hts _ q451), fun _ h => absurd h List.not_mem_nil⟩⟩⟩⟩⟩⟩⟩⟩⟩⟩⟩⟩
theorem sr_cls (hts : ∀ w ∈ lw_all, w.before args s = true) : ∀ q ∈ vwCl, ∃ (cC : ClassId) (iS : Nat → Nat), u_Kn s q.1 q.2.1 q.2.2 cC iS :=
  List.forall_mem_cons.mpr ⟨u_known hts in_X1 (hts _ q144), List.forall_mem_cons.mpr ⟨u_known hts in_X2 (hts _ q152), List.forall_mem_cons.mpr ⟨u_known hts in_X4 (hts _ q249), List.forall_mem_cons.mpr ⟨u_known hts in_X5 (hts _ q301), List.forall_mem_cons.mpr ⟨u_known hts in_X6 (hts _ q307), List.forall_mem_cons.mpr ⟨u_known hts in_X7 (hts _ q363), List.forall_mem_cons.mpr ⟨u_known hts in_X8 (hts _ q415), List.forall_mem_cons.mpr ⟨u_known hts in_X10 (hts _ q432), List.forall_mem_cons.mpr ⟨u_known hts in_X11 (hts _ q453), List.forall_mem_cons.mpr ⟨u_known hts in_X12 (hts _ q465), List.forall_mem_cons.mpr ⟨u_known hts in_X13 (hts _ q1380), List.forall_mem_cons.mpr ⟨u_known hts in_X15 (hts _ q768), List.forall_mem_cons.mpr ⟨u_known hts in_X16 (hts _ q820), List.forall_mem_cons.mpr ⟨u_known hts in_X17 (hts _ q937), List.forall_mem_cons.mpr ⟨u_known hts in_X19 (hts _ q1195), List.forall_mem_cons.mpr ⟨u_known hts in_X20 (hts _ q1221), List.forall_mem_cons.mpr ⟨u_known hts in_X21 (hts _ q1238), List.forall_mem_cons.mpr ⟨u_known hts in_X22 (hts _ q1258), List.forall_mem_cons.mpr ⟨u_known hts in_X23 (hts _ q1272), List.forall_mem_cons.mpr ⟨u_known hts (fun w h => absurd h List.not_mem_nil) (hts _ q1339), fun _ h => absurd h List.not_mem_nil⟩⟩⟩⟩⟩⟩⟩⟩⟩⟩⟩⟩⟩⟩⟩⟩⟩⟩⟩⟩
theorem sr_K (hts : ∀ w ∈ lw_tbl, w.before args s = true) : ∃ (D : va_G) (dA : Nat → ClassId), va_K D vwCl (tyL dA) s := by
  have hta : ∀ w ∈ lw_all, w.before args s = true := fun w h => hts w (lw_all_tbl h)
  have h1 : ∀ t : Nat, ∃ cA : ClassId, t < atL.length → ArrOfT s cA (atL.getD t (.int, 0)).1 ∧ va_RA s cA (atL.getD t (.int, 0)).1 := by
    intro t
    by_cases ht : t < atL.length
    · obtain ⟨cA, h⟩ := sr_atl hts _ (List.getElem_mem ht)
      refine ⟨cA, fun _ => ?_⟩
      rw [List.getD_eq_getElem?_getD, List.getElem?_eq_getElem ht]
      exact h
    · exact ⟨0, fun h => absurd h ht⟩
  have h2 : ∀ t : Nat, ∃ x : ClassId × (Nat → Nat), ∀ q, vwCl[t]? = some q → u_Kn s q.1 q.2.1 q.2.2 x.1 x.2 := by
    intro t
    by_cases ht : t < vwCl.length
    · obtain ⟨cC, iS, h⟩ := sr_cls hta _ (List.getElem_mem ht)
      refine ⟨(cC, iS), fun q hq => ?_⟩
      rw [List.getElem?_eq_getElem ht] at hq
      cases hq
      exact h
    · exact ⟨(0, fun _ => 0), fun q hq => absurd (List.getElem?_eq_some_iff.mp hq).1 ht⟩
  refine ⟨(fun t => (Classical.choose (h2 t)).1, fun t => (Classical.choose (h2 t)).2), fun t => Classical.choose (h1 t), fun c q hq => Classical.choose_spec (h2 c) q hq, fun k q hk => ?_⟩
  have hl : k < atL.length := by
    have := (List.getElem?_eq_some_iff.mp hk).1
    unfold tyL at this
    rwa [List.length_map, List.length_range] at this
  unfold tyL at hk
  rw [List.getElem?_map, List.getElem?_range hl, Option.map_some] at hk
  cases hk
  exact Classical.choose_spec (h1 k) hl
theorem sel_priv {C : String} {y y0 : MethodName} (hy : y.cls ≠ "java/lang/invoke/MethodHandle" ∧ y.cls ≠ "java/lang/invoke/VarHandle") (hpriv : (Cond.privateMethod y).before args s = true) (hinst : (Cond.instanceMethod y).before args s = true) (he : y0.cls = y.cls) (hs : (Cond.selects C y0 y0).before args s = true) : (Cond.selects C y y).before args s = true := by
  obtain ⟨mk, methM, hnamed, hmethM, -, -⟩ := Cond.instanceMethod_spec hinst
  have hfound : s.methodFound? y.cls y.name y.desc = some mk := State.methodFound?_of_named hnamed hy
  have hfc := findClass_of_methodNamed hnamed
  simp only [Cond.before, Cond.holds, Cond.value] at hs ⊢
  cases hC : s.vm.findClass C with
  | none => simp [hC] at hs
  | some c =>
    cases hf0 : s.methodFound? y0.cls y0.name y0.desc with
    | none => simp [hC, hf0] at hs
    | some r0 =>
      cases hn0 : s.methodNamed? y0 with
      | none => simp [hC, hf0, hn0] at hs
      | some m0 =>
        have hm : m0.cls = mk.cls := Option.some.inj ((findClass_of_methodNamed hn0).symm.trans (he ▸ hfc))
        have hsel : selectMethod {} s.vm c mk = .method mk := selectMethod_private hmethM (Cond.privateMethod_at hpriv mk methM hnamed hmethM)
        simp only [hC, hf0, hn0] at hs
        have h2 : (s.vm.classes[m0.cls]?).any (!·.isInterface) = true := by
          cases hq : selectMethod {} s.vm c r0 <;> simp_all
        simp only [hfound, hnamed, hsel]
        rw [hm] at h2
        simp [h2]
theorem sr_N (hts : ∀ w ∈ lw_tbl, w.before args s = true) : RN s :=
  ⟨fun q hq => va_Nw.of rfl (hts _ (nwF_ok q hq)), fun q hq => va_Nw.of rfl (hts _ (nwM_ok q hq)), fun q hq => va_Nw.of rfl (hts _ (nwC_ok q hq)), fun C hC => va_AO.of (hts _ (aoL_ok C hC)), hts _ q421,
    fun q hq => by
      obtain ⟨h1, h2, h3, y0, h4, h5⟩ := nwS_ok q hq
      exact va_Nw.of rfl (sel_priv h3 (hts _ h1) (hts _ h2) h4 (hts _ h5)), fun q hq => va_Nw.of rfl (hts _ (nwD_ok q hq))⟩
theorem sr_str {own tx : String} {k : Nat} {byt : List Int32} {A : Nat → Prop} (hw : ∀ w ∈ nzW own k byt, w.before args s = true) (hr : (Cond.stringRef own k tx).before args s = true) (hl : byt.length < 100) (hA : ∀ a : Nat, a < s.heap.size → ¬ A a) :
    ∃ x : Nat × Nat, vk_R own k tx x.1 s ∧ va_O "java/lang/String" x.1 A s s.heap ∧ va_OF "java/lang/String" "coder" "B" (.int 0) x.1 A s s.heap ∧ va_OF "java/lang/String" "value" "[B" (.ref x.2) x.1 A s s.heap ∧ va_T .byte x.2 byt.length (fun j => .int (byt.getD j 0)) A s s.heap := by
  have hm : ∀ j : Nat, j < byt.length → (Cond.eq (.elem (.field (.string own k) "java/lang/String" "value" "[B") (.int (Int32.ofNat j))) (.int (byt.getD j 0))) ∈ nzW own k byt := fun j hj =>
    List.mem_cons_of_mem _ (List.mem_cons_of_mem _ (List.mem_cons_of_mem _ (List.mem_cons_of_mem _ (List.mem_map.mpr ⟨j, List.mem_range.mpr hj, rfl⟩))))
  have i0 : ∀ i : Nat, i < 1 → i = 0 := fun i h => by omega
  obtain ⟨adK, adV, hS, hev⟩ := vk_Sof (N := 1) (tm := fun _ => Term.string own k) (len := [byt.length]) (byt := [byt]) (A := A) (s := s) (args := args)
    (fun i hi => by rw [i0 i hi]; show byt.length < _; omega)
    (fun i _ => hw _ List.mem_cons_self) (fun i _ => hw _ (List.mem_cons_of_mem _ List.mem_cons_self)) (fun i _ => hw _ (List.mem_cons_of_mem _ (List.mem_cons_of_mem _ List.mem_cons_self)))
    (fun i hi => by rw [i0 i hi]; exact hw _ (List.mem_cons_of_mem _ (List.mem_cons_of_mem _ (List.mem_cons_of_mem _ List.mem_cons_self))))
    (fun i hi j hj => by rw [i0 i hi] at hj ⊢; exact hw _ (hm j hj))
    (fun i j hi hj hne => absurd ((i0 i hi).trans (i0 j hj).symm) hne) hA
  obtain ⟨h1, h2, h3, h4⟩ := hS.1 0 (by omega)
  exact ⟨(adK 0, adV 0), ⟨hr, hev 0 (by omega)⟩, h1, h2, h3, h4⟩
theorem sr_sta {C n d : String} {A : Nat → Prop} (hl : (Cond.laysStatic C n d).before args s = true) (hini : (Cond.initialized C).before args s = true) (h : (Cond.isRef (.static C n d)).before args s = true) (hA : ∀ a : Nat, a < s.heap.size → ¬ A a) : ∃ o : Option Nat, va_Z C n d (rv o) A s s.heap := by
  rcases va_Zqof hl hini h hA with h | ⟨t, h⟩
  · exact ⟨none, h⟩
  · exact ⟨some t, h⟩
/-- the cells' addresses -/
def spF (b : Nat) (aK aV : Nat → Nat) (z : Nat → Nat) : Nat → Nat := fun a => if a = 0 then b else if a < 42 then aK (a - 2) else if a < 82 then aV (a - 42) else z (a - 90)
theorem sr_RK {b L : Nat} {xs : Nat → Int32} (hts : ∀ w ∈ lw_tbl, w.before args s = true) (hnz : ∀ w ∈ nzF, w.before args s = true) (hX : va_X b L xs s s.heap) (hb : b < s.heap.size) :
    ∃ (D : va_G) (dA : Nat → ClassId) (sp : Nat → Nat) (us : Nat → Option Nat), RK D dA sp s.heap.size xs L us s ∧ sp 0 = b := by
  obtain ⟨D, dA, hK⟩ := sr_K hts
  have hA : ∀ a : Nat, a < s.heap.size → ¬ (s.heap.size ≤ a) := fun a h => by omega
  have hstr : ∀ i : Nat, ∃ x : Nat × Nat, ∀ q, stL_[i]? = some q → vk_R q.1 q.2.1 q.2.2 x.1 s ∧ va_O "java/lang/String" x.1 (fun q => s.heap.size ≤ q) s s.heap ∧ va_OF "java/lang/String" "coder" "B" (.int 0) x.1 (fun q => s.heap.size ≤ q) s s.heap ∧
      va_OF "java/lang/String" "value" "[B" (.ref x.2) x.1 (fun q => s.heap.size ≤ q) s s.heap ∧ va_T .byte x.2 (lenS.getD i 0) (fun j => .int ((bytS.getD i []).getD j 0)) (fun q => s.heap.size ≤ q) s s.heap := by
    intro i
    by_cases hi : i < 40
    · cases hq : stL_[i]? with
      | none => exact ⟨(0, 0), fun q h => by cases h⟩
      | some q =>
        obtain ⟨g1, g2, g3, g4⟩ := st_ok i hi q hq
        rw [g3] at g4
        obtain ⟨x, hx⟩ := sr_str (fun w hw => hnz w (g2 w hw)) (hts _ g1) g4 hA
        refine ⟨x, fun q' hq' => ?_⟩
        cases hq'
        rw [g3]
        exact hx
    · exact ⟨(0, 0), fun q h => absurd (List.getElem?_eq_some_iff.mp h).1 hi⟩
  obtain ⟨o0, h0⟩ := sr_sta (hts _ q176) (hts _ (lw_all_tbl q110)) (hnz _ nz_us) hA
  obtain ⟨o1, h1⟩ := sr_sta (hts _ q178) (hts _ (lw_all_tbl q110)) (hnz _ nz_ss) hA
  obtain ⟨o2, h2⟩ := sr_sta (hts _ q711) (hts _ (lw_all_tbl q126)) (hnz _ nz_sf) hA
  have hrv : ∀ (sp : Nat → Nat) (o : Option Nat) (k : Nat), k < 100 → (∀ t, o = some t → sp k = t) → rr sp s.heap.size (rv (o.map (fun _ => k))) = rv o := by
    intro sp o k hk h
    cases o with
    | none => rfl
    | some t =>
      show Value.ref (rho sp s.heap.size k) = Value.ref t
      unfold rho
      rw [if_pos hk, h t rfl]
  refine ⟨D, dA, spF b (fun i => (Classical.choose (hstr i)).1) (fun i => (Classical.choose (hstr i)).2) (fun i => if i = 0 then o0.getD 0 else if i = 1 then o1.getD 0 else o2.getD 0),
    fun i => if i = 0 then o0.map (fun _ => 90) else if i = 1 then o1.map (fun _ => 91) else if i = 2 then o2.map (fun _ => 92) else none, ⟨hK, sr_N hts, ?_, ?_, ?_, ?_, ?_⟩, rfl⟩
  · intro i q hq
    have hi : i < 40 := (List.getElem?_eq_some_iff.mp hq).1
    have e1 : ∀ (b : Nat) (aK aV z : Nat → Nat), spF b aK aV z (2 + i) = aK i := fun b aK aV z => by
      unfold spF
      rw [if_neg (by omega), if_pos (by omega), Nat.add_sub_cancel_left]
    have e2 : ∀ (b : Nat) (aK aV z : Nat → Nat), spF b aK aV z (42 + i) = aV i := fun b aK aV z => by
      unfold spF
      rw [if_neg (by omega), if_neg (by omega), if_pos (by omega), Nat.add_sub_cancel_left]
    rw [e1, e2]
    exact Classical.choose_spec (hstr i) q hq
  · refine ⟨vx_Zqof (hts _ q176) (hts _ (lw_all_tbl q110)) (hnz _ nz_us) hA, vx_Zqof (hts _ q178) (hts _ (lw_all_tbl q110)) (hnz _ nz_ss) hA, ?_, ?_, ?_, va_Zof (hts _ q695) (hts _ (lw_all_tbl q124)) (va_eqi (hnz _ nz_cs)) hA⟩
    · show va_Z _ _ _ (rr _ _ (rv (o0.map (fun _ => 90)))) _ s s.heap
      rw [hrv _ _ _ (by decide) (fun t ht => by subst ht; rfl)]
      exact h0
    · show va_Z _ _ _ (rr _ _ (rv (o1.map (fun _ => 91)))) _ s s.heap
      rw [hrv _ _ _ (by decide) (fun t ht => by subst ht; rfl)]
      exact h1
    · show va_Z _ _ _ (rr _ _ (rv (o2.map (fun _ => 92)))) _ s s.heap
      rw [hrv _ _ _ (by decide) (fun t ht => by subst ht; rfl)]
      exact h2
  · exact hX
  · exact hb
  · exact hb
end START
/-- the simple machine's heap at the law's start -/
def st0 (xs : Nat → Int32) (L : Nat) (us : Nat → Option Nat) : HS := (fun a k => if a = 0 then xs k else 0, fun _ _ => 0, fun a k => if a = 1 then us k else none, fun a => if a = 0 then (0, L) else (0, 0), 100, 0)
theorem st0_PH {D : va_G} {dA : Nat → ClassId} {sp : Nat → Nat} {B L : Nat} {xs : Nat → Int32} {us : Nat → Option Nat} {H : Heap} (hz : H.size = B) : PH D dA sp B xs L us (st0 xs L us) H := by
  have ht : ∀ a, tof (st0 xs L us) a = 0 := fun a => by
    show (if a = 0 then ((0, L) : Nat × Nat) else (0, 0)).1 = 0
    split <;> rfl
  refine ⟨fun k q hk => ?_, hz, ⟨Nat.le_refl _, fun a h => absurd (ht a) h⟩, rfl, fun j _ => rfl, rfl⟩
  have e : wld dA sp B (st0 xs L us) = [] := rfl
  rw [e] at hk
  cases hk
