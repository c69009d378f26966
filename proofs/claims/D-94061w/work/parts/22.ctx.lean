/-! WHAT HOLDS ALL THROUGH: tables, String constants, statics, the script -/
def RS (sp : Nat → Nat) (B : Nat) (s : State) : Prop := ∀ (i : Nat) (q : String × Nat × String), stL_[i]? = some q →
  vk_R q.1 q.2.1 q.2.2 (sp (2 + i)) s ∧ va_O "java/lang/String" (sp (2 + i)) (fun q => B ≤ q) s s.heap ∧ va_OF "java/lang/String" "coder" "B" (.int 0) (sp (2 + i)) (fun q => B ≤ q) s s.heap ∧
  va_OF "java/lang/String" "value" "[B" (.ref (sp (42 + i))) (sp (2 + i)) (fun q => B ≤ q) s s.heap ∧ va_T .byte (sp (42 + i)) (lenS.getD i 0) (fun j => .int ((bytS.getD i []).getD j 0)) (fun q => B ≤ q) s s.heap
def RN (s : State) : Prop := (∀ q ∈ nwF, va_Nw (.fieldLinkNest q.1 q.2.1 q.2.2.1 q.2.2.2.1 q.2.2.2.2.1 q.2.2.2.2.2) s) ∧ (∀ q ∈ nwM, va_Nw (.methodLinkNest q.1 q.2.1 q.2.2.1 q.2.2.2) s) ∧ (∀ q ∈ nwC, va_Nw (.castable q.1 q.2) s) ∧ (∀ C ∈ aoL, va_AO C s) ∧ va_Nw (.arrayOver (.array .int)) s ∧ (∀ q ∈ nwS, va_Nw (.selects q.1 q.2 q.2) s) ∧ (∀ q ∈ nwD, va_Nw (.declares q) s)
def RZ (sp : Nat → Nat) (B : Nat) (us : Nat → Option Nat) (s : State) : Prop :=
  vx_Zq Bundle.tN "UNASSIGNED_STACK" Bundle.steD (fun q => B ≤ q) s s.heap ∧ vx_Zq Bundle.tN "SUPPRESSED_SENTINEL" Bundle.listD (fun q => B ≤ q) s s.heap ∧
  va_Z "java/lang/Throwable" "UNASSIGNED_STACK" "[Ljava/lang/StackTraceElement;" (rr sp B (rv (us 0))) (fun q => B ≤ q) s s.heap ∧ va_Z "java/lang/Throwable" "SUPPRESSED_SENTINEL" "Ljava/util/List;" (rr sp B (rv (us 1))) (fun q => B ≤ q) s s.heap ∧
  va_Z "jdk/internal/util/Preconditions" "SIOOBE_FORMATTER" "Ljava/util/function/BiFunction;" (rr sp B (rv (us 2))) (fun q => B ≤ q) s s.heap ∧ va_Z "java/lang/String" "COMPACT_STRINGS" "Z" (.int 1) (fun q => B ≤ q) s s.heap
def RK (D : va_G) (dA : Nat → ClassId) (sp : Nat → Nat) (B : Nat) (xs : Nat → Int32) (L : Nat) (us : Nat → Option Nat) (s : State) : Prop :=
  va_K D vwCl (tyL dA) s ∧ RN s ∧ RS sp B s ∧ RZ sp B us s ∧ (va_X (sp 0) L xs s s.heap ∧ sp 0 < s.heap.size ∧ sp 0 < B)
theorem RN.warm {s U : State} (hW : s.WarmedH U.vm) (h : RN s) : RN U := by
  obtain ⟨h1, h2, h3, h4, h5, h6, h7⟩ := h
  refine ⟨fun q hq => va_Nw.warmF hW (h1 q hq), fun q hq => va_Nw.warmM hW (h2 q hq), fun q hq => va_Nw.warmC hW (h3 q hq), fun C hC => va_AO.moved hW.alike (h4 C hC), ?_, fun q hq => word_at hW (Or.inl rfl) (h6 q hq), fun q hq => va_Nw.warmD hW (h7 q hq)⟩
  have h6 : (Cond.arrayOver (.array .int)).before #[] (s.setVm U.vm) = true := by rw [Cond.arrayOver_setVmC hW.alike]; exact h5
  exact h6
theorem RK.move {D : va_G} {dA : Nat → ClassId} {sp : Nat → Nat} {B : Nat} {xs : Nat → Int32} {L : Nat} {us : Nat → Option Nat} {s U : State} {H : Heap} {locs : List Loc} (h : RK D dA sp B xs L us s) (hS : va_S (fun q => B ≤ q) s.heap H locs) (hU : U.heap = H) (hW : s.WarmedH U.vm) : RK D dA sp B xs L us U := by
  obtain ⟨h1, h2, h3, h4, h5, h6, h7⟩ := h
  have hk : ∀ a : Nat, a < s.heap.size → ¬ (B ≤ a) → U.heap[a]? = s.heap[a]? := fun a h1 h2 => by rw [hU]; exact hS.2.1 a h1 h2
  have hal := hW.alike
  refine ⟨va_K.moved hal h1, h2.warm hW, ?_, ?_, ?_, ?_, h7⟩
  · intro i q hq
    obtain ⟨g1, g2, g3, g4, g5⟩ := h3 i q hq
    exact ⟨vk_R.warm hW g1, va_O.moved hal (g2.kept hk), va_OF.moved hal (g3.kept hk), va_OF.moved hal (g4.kept hk), va_T.moved hal (g5.kept hk)⟩
  · obtain ⟨g1, g2, g3, g4, g5, g6⟩ := h4
    exact ⟨vx_Zq.moved hal (g1.kept hk), vx_Zq.moved hal (g2.kept hk), va_Z.moved hal (g3.kept hk), va_Z.moved hal (g4.kept hk), va_Z.moved hal (g5.kept hk), va_Z.moved hal (g6.kept hk)⟩
  · exact va_X.moved hal (h5.kept (hk _ h6 (by omega)))
  · rw [hU]; exact Nat.lt_of_lt_of_le h6 hS.1
/-- the context of a method that runs: its code cc, its class own, its locals nL, its answer rt -/
def CX (D : va_G) (dA : Nat → ClassId) (sp : Nat → Nat) (B : Nat) (xs : Nat → Int32) (L : Nat) (us : Nat → Option Nat) (cc : ByteArray) (own : String) (nL : Nat) (rt : Option FieldType) (ini : Bool) (p : Program) (l : Launch) (R : Room) (s : State) (m : MethodId) (args : Array Value) (meth : Method) (c : Code) : Prop :=
  p.tables.exec = Jvm.exec ∧ c.code = cc ∧ c.maxLocals = nL ∧ meth.sig.returnType = rt ∧ meth.locks = false ∧ s.vm.findClass own = some m.cls ∧ (∀ w ∈ lw_all, w.before args s = true) ∧ RK D dA sp B xs L us s ∧ l.stackTraces = false ∧ (ini = true → meth.name = "<init>") ∧ (8 ≤ R.frames ∧ 200 ≤ R.locals) ∧ B ≤ s.heap.size
/-- an instruction's action is sound -/
def Sn (cc : ByteArray) (own : String) (nL : Nat) (rt : Option FieldType) (ini : Bool) (pc : Nat) (A : SI) : Prop :=
  (∀ ls st σ pc' ls' st' σ', A pc ls st σ = o_nx pc' ls' st' σ' → nxt σ ≤ nxt σ' ∧ slt σ ≤ slt σ') ∧
  ∀ (D : va_G) (dA : Nat → ClassId) (sp : Nat → Nat) (B : Nat) (xs : Nat → Int32) (L : Nat) (us : Nat → Option Nat) (p : Program) (l : Launch) (e : Env) (R : Room) (s : State) (m : MethodId) (args : Array Value) (below : List Frame) (meth : Method) (c : Code), CX D dA sp B xs L us cc own nL rt ini p l R s m args meth c →
  ∀ (ls st : List Value) (σ : HS) (pc' : Nat) (ls' st' : List Value) (σ' : HS), A pc ls st σ = o_nx pc' ls' st' σ' →
  ∀ (lv : Array Slot) (H : Heap) (locs : List Loc) (cells slots : Nat) (Q : State → Prop), LV sp B nL ls lv → PH D dA sp B xs L us σ H → va_S (fun q => B ≤ q) s.heap H locs → H.size = s.heap.size + cells → cells + (nxt σ' - nxt σ) ≤ R.cells → slots + (slt σ' - slt σ) ≤ R.slots →
  (∀ (lv' : Array Slot) (H' : Heap) (locs' : List Loc), LV sp B nL ls' lv' → PH D dA sp B xs L us σ' H' → va_S (fun q => B ≤ q) s.heap H' locs' → W p l e R s m args below meth c H' locs' (cells + (nxt σ' - nxt σ)) (slots + (slt σ' - slt σ)) Q (F0 m pc' lv' (st'.map (rr sp B)))) →
  W p l e R s m args below meth c H locs cells slots Q (F0 m pc lv (st.map (rr sp B)))
/-- an action that changes no cell -/
theorem Sn.pure {cc : ByteArray} {own : String} {nL : Nat} {rt : Option FieldType} {ini : Bool} {pc : Nat} {A : SI} (h : ∀ (ls st : List Value) (σ : HS) (pc' : Nat) (ls' st' : List Value) (σ' : HS), A pc ls st σ = o_nx pc' ls' st' σ' → σ' = σ ∧
    ∀ (D : va_G) (dA : Nat → ClassId) (sp : Nat → Nat) (B : Nat) (xs : Nat → Int32) (L : Nat) (us : Nat → Option Nat) (p : Program) (l : Launch) (e : Env) (R : Room) (s : State) (m : MethodId) (args : Array Value) (below : List Frame) (meth : Method) (c : Code), CX D dA sp B xs L us cc own nL rt ini p l R s m args meth c →
    ∀ (lv : Array Slot) (H : Heap) (locs : List Loc) (cells slots : Nat) (Q : State → Prop), LV sp B nL ls lv → PH D dA sp B xs L us σ H → va_S (fun q => B ≤ q) s.heap H locs →
    (∀ (lv' : Array Slot), LV sp B nL ls' lv' → W p l e R s m args below meth c H locs cells slots Q (F0 m pc' lv' (st'.map (rr sp B)))) →
    W p l e R s m args below meth c H locs cells slots Q (F0 m pc lv (st.map (rr sp B)))) : Sn cc own nL rt ini pc A := by
  refine ⟨fun ls st σ pc' ls' st' σ' hA => ?_, ?_⟩
  · rw [(h _ _ _ _ _ _ _ hA).1]
    exact ⟨Nat.le_refl _, Nat.le_refl _⟩
  · intro D dA sp B xs L us p l e R s m args below meth c hC ls st σ pc' ls' st' σ' hA lv H locs cells slots Q hl hP hS hz hc hs kk
    obtain ⟨h1, h2⟩ := h _ _ _ _ _ _ _ hA
    subst h1
    rw [Nat.sub_self, Nat.sub_self] at kk
    exact h2 D dA sp B xs L us p l e R s m args below meth c hC lv H locs cells slots Q hl hP hS (fun lv' hl' => kk lv' H locs hl' hP hS)
theorem onx_inj {a a' : Nat} {b b' c c' : List Value} {σ σ' : HS} (h : o_nx a b c σ = o_nx a' b' c' σ') : a = a' ∧ b = b' ∧ c = c' ∧ σ = σ' := by
  unfold o_nx at h
  cases h
  exact ⟨rfl, rfl, rfl, rfl⟩
theorem osk_nx {a : Nat} {b c : List Value} {σ : HS} (h : o_sk = o_nx a b c σ) : False := by
  unfold o_sk o_nx at h
  cases h
