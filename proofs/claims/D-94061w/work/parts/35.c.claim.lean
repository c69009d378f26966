/-! THE CLAIM OUT OF ONE RUN OF THE SIMPLE MACHINE (its first rows, lw_P to lw_At, are the skeleton's: a STARTING TEXT; lw_At says the table of handlers too) -/
def R_law : String := "TwoHalvesLaw"
def lw_P (b : Addr) (xs : List Int32) (args : Array Value) (s : State) : Prop := args = #[.ref b] ∧ s.IntsAt b xs ∧ xs.length ≤ 448 ∧ (Jvm.Cond.and given_1 narrow_1).before args s = true
def lw_Q (_ : Array Value) (s : State) (o : Outcome) (t : State) : Prop := o = .returned (some (.int 1)) ∧ Framed s o t [] 1200128 5501098
def lw_Z (below : List Frame) (a : Array Value) (s : State) : State → Prop := fun t => ∃ o, t.status = .running ∧ Ended t below o ∧ lw_Q a s o t
/-- the law's own end, with 1 on the stack, nothing written that was there before, its room as the claim has it -/
theorem lw_ret {p : Program} {l : Launch} {e : Env} {s : State} {m : MethodId} {below : List Frame} {meth : Method} {c : Code} {b : Nat} (hx : p.tables.exec = Jvm.exec) (hb : c.code = code) (hr : meth.sig.returnType = ret) (hlocks : meth.locks = false) {pc : Nat} {H : Heap} {ls : Array Slot} (hdg : decode code pc = .ok (.ireturn, 1)) : W p l e room_1 s m #[Value.ref b] below meth c H [] 1200128 5501098 (lw_Z below #[Value.ref b] s) (F0 m pc ls [.int 1]) := by
  intro T hT X
  obtain ⟨fs, hret, hrun, hended, hW, hframe⟩ := X.leave (v := some (.int 1)) (hlocks := hlocks) (fun h => by rw [hr] at h; cases h)
  have hmeth' : T.vm.method? m = some meth := X.method'
  refine ⟨T.setFrames fs, ?_, .returned (some (.int 1)), hrun, hended, rfl, ⟨_, rfl⟩, hW, hframe⟩
  jvm_step X.here [X.here.top, hx, hb, hdg, hmeth', hr, ret, narrow_b1]
  (try refine ⟨rfl, ?_⟩); (try refine ⟨rfl, ?_⟩)
  first | (intro acts; rw [hret _ acts rfl rfl rfl]) | rw [hret _ _ rfl rfl rfl]
  exact Steps.refl _
/-- what holds at the law's entry: the machine, the code, the tables' words (any of lw_tbl by 'hts w (by decide +kernel)'), the script of L ints xs at the cell b, what the Statement gives of the start (any of its parts by flat_of_before) -/
def lw_At (p : Program) (s : State) (m : MethodId) (meth : Method) (c : Code) (b L : Nat) (xs : Nat → Int32) : Prop :=
  p.tables.exec = Jvm.exec ∧ c.code = code ∧ meth.sig.returnType = ret ∧ c.maxLocals = 8 ∧ s.vm.findClass R_law = some m.cls ∧ (∀ w ∈ lw_tbl, w.before #[Value.ref b] s = true) ∧ va_X b L xs s s.heap ∧ b < s.heap.size ∧ meth.locks = false ∧ (Jvm.Cond.and given_1 narrow_1).before #[Value.ref b] s = true
set_option maxHeartbeats 4000000 in
/-- the law comes to its end with 1, if the simple machine's law does -/
theorem start_of {p : Program} {e : Env} {s : State} {m : MethodId} {below : List Frame} {meth : Method} {c : Code} (l : Launch) (hflags : l.flags = flags0) {b L : Nat} {xs : Nat → Int32} (C0 : lw_At p s m meth c b L xs) (htab : c.exceptionTable.toList = tableOf [])
    (hrun : ∀ us : Nat → Option Nat, GG0 400 250 0 (lin [rv (some 0)] 8) [] (st0 xs L us) (fun r σ => r = .inl (some (.int 1)) ∧ nxt σ ≤ 100 + 1200128 ∧ slt σ ≤ 5501098)) : W p l e room_1 s m #[Value.ref b] below meth c s.heap [] 0 0 (lw_Z below #[Value.ref b] s) (entryFrame m ([Value.ref b] : List Value).toArray 8) := by
  obtain ⟨hx, hb, hret, hml, hown, hts, hX, hbs, hlk, hg⟩ := C0
  have hnz : ∀ w ∈ nzF, w.before #[Value.ref b] s = true := by
    intro w hw
    rw [Cond.before_and, Bool.and_eq_true] at hg
    exact flat_of_before _ hg.2 w hw
  obtain ⟨D, dA, sp, us, hRK, hsp⟩ := sr_RK hts hnz hX hbs
  obtain ⟨f, r, σ', hr, rfl, hn, hs⟩ := hrun us
  have hst : l.stackTraces = false := by rw [Launch.stackTraces, hflags]; decide +kernel
  have hl8 : LV sp s.heap.size 8 (lin [rv (some 0)] 8) _ := LV_entry sp s.heap.size (as := [rv (some 0)]) (n := 8) (by decide)
  have e1 : [rv (some 0)].map (rr sp s.heap.size) = [Value.ref b] := by
    show [Value.ref (rho sp s.heap.size 0)] = _
    unfold rho
    rw [if_pos (by decide), hsp]
  rw [e1] at hl8
  rw [lg_entry_eq]
  have F := frame PF0 D dA sp s.heap.size xs L us f 400 250 0 _ [] _ _ σ' hr p l e room_1 s m #[Value.ref b] below meth c
  rw [mi_250] at F
  refine F ⟨hx, hb, hml, hret, hlk, hown, fun w h => hts w (lw_all_tbl h), hRK, hst, fun h => absurd h (by decide), ⟨by decide, by decide⟩, Nat.le_refl _⟩ htab (by decide) (by decide) _ s.heap [] 0 0 _ hl8 (st0_PH rfl) va_S.rf rfl ?_ ?_ ?_ ?_
  · have : nxt (st0 xs L us) = 100 := rfl
    show 0 + (nxt σ' - nxt (st0 xs L us)) ≤ 1200128
    omega
  · have : slt (st0 xs L us) = 0 := rfl
    show 0 + (slt σ' - slt (st0 xs L us)) ≤ 5501098
    omega
  · intro pc' v lv' H' locs' st' hr1 hrt hP' hS'
    cases hr1
    have h1 : nxt (st0 xs L us) = 100 := rfl
    have h2 : slt (st0 xs L us) = 0 := rfl
    rcases hrt with ⟨hd, -, -, h⟩ | ⟨hd, x, ty, rfl, h, -, -⟩ | ⟨hd, -, x, -, h⟩ | ⟨hd, -, r0, -, h⟩
    · cases h
    · cases h
      exact va_forget (fun q hq => hS'.2.2 q hq) (W.widen (k := 1200128) (n := 5501098) (by omega) (by omega) (lw_ret hx hb hret hlk hd))
    · cases h
    · cases r0 <;> cases h
  · intro pc' a lv' rest H' locs' hr1
    cases hr1
