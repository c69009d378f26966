/-! THE ACTIONS of the simple machine: one an instruction -/
theorem rv_cat (r : Option Nat) : (rv r).category = 1 := by cases r <;> rfl
/-- what a stack weighs -/
def wsum : List Value → Nat
  | [] => 0
  | .long _ :: r => wsum r + 2
  | .double _ :: r => wsum r + 2
  | _ :: r => wsum r + 1
theorem wsum_int (x : Int32) (r : List Value) : wsum (.int x :: r) = wsum r + 1 := rfl
theorem wsum_long (x : Int64) (r : List Value) : wsum (.long x :: r) = wsum r + 2 := rfl
theorem wsum_rv (x : Option Nat) (r : List Value) : wsum (rv x :: r) = wsum r + 1 := by cases x <;> rfl
theorem wsum_sum : ∀ r : List Value, (r.map fun v => v.category).sum = wsum r
  | [] => rfl
  | v :: r => by
    rw [List.map_cons, List.sum_cons, wsum_sum r]
    cases v <;> simp [wsum, Value.category] <;> omega
/-- storing one slot: a long that stood just before is lost -/
def kll (v : Value) : Value := match v with
  | .long _ => UU
  | .double _ => UU
  | v => v
def stL : List Value → Nat → Value → List Value
  | [], _, _ => []
  | _ :: l, 0, v => v :: l
  | x :: _ :: l, 1, v => kll x :: v :: l
  | x :: l, i + 1, v => x :: stL l i v
/-- storing a long -/
def stW : List Value → Nat → Value → List Value
  | [], _, _ => []
  | _ :: _ :: l, 0, v => v :: UU :: l
  | [_], 0, _ => [UU]
  | x :: y :: z :: l, 1, v => kll x :: (stW (y :: z :: l) 0 v)
  | x :: l, i + 1, v => x :: stW l i v
def a_ic (v : Int32) (n : Nat) : SI := fun pc ls st σ => o_nx (pc + n) ls (.int v :: st) σ
def a_lc (v : Int64) (n : Nat) : SI := fun pc ls st σ => o_nx (pc + n) ls (.long v :: st) σ
def a_nul : SI := fun pc ls st σ => o_nx (pc + 1) ls (.null :: st) σ
/-- a String constant: its cell -/
def a_str (i n : Nat) : SI := fun pc ls st σ => o_nx (pc + n) ls (.ref (2 + i) :: st) σ
def a_il (i n : Nat) : SI := fun pc ls st σ => match ls[i]? with
  | some (.int x) => o_nx (pc + n) ls (.int x :: st) σ
  | _ => o_sk
def a_ll (i n : Nat) : SI := fun pc ls st σ => match ls[i]? with
  | some (.long x) => o_nx (pc + n) ls (.long x :: st) σ
  | _ => o_sk
def a_al (i n : Nat) : SI := fun pc ls st σ => match ls[i]? with
  | some (.ref x) => o_nx (pc + n) ls (.ref x :: st) σ
  | some .null => o_nx (pc + n) ls (.null :: st) σ
  | _ => o_sk
def a_is (i n : Nat) : SI := fun pc ls st σ => match st with
  | .int x :: st' => if i < ls.length then o_nx (pc + n) (stL ls i (.int x)) st' σ else o_sk
  | _ => o_sk
def a_as (i n : Nat) : SI := fun pc ls st σ => match st with
  | .ref x :: st' => if i < ls.length then o_nx (pc + n) (stL ls i (.ref x)) st' σ else o_sk
  | .null :: st' => if i < ls.length then o_nx (pc + n) (stL ls i .null) st' σ else o_sk
  | _ => o_sk
def a_ls (i n : Nat) : SI := fun pc ls st σ => match st with
  | .long x :: st' => if i + 1 < ls.length then o_nx (pc + n) (stW ls i (.long x)) st' σ else o_sk
  | _ => o_sk
def a_inc (i : Nat) (k : Int32) : SI := fun pc ls st σ => match ls[i]? with
  | some (.int x) => o_nx (pc + 3) (stL ls i (.int (x + k))) st σ
  | _ => o_sk
def a_dup : SI := fun pc ls st σ => match st with
  | v :: st' => if v.category = 1 then o_nx (pc + 1) ls (v :: v :: st') σ else o_sk
  | _ => o_sk
def a_dup2 : SI := fun pc ls st σ => match st with
  | v :: w :: st' => if v.category = 1 ∧ w.category = 1 then o_nx (pc + 1) ls (v :: w :: v :: w :: st') σ else o_sk
  | _ => o_sk
def a_pop : SI := fun pc ls st σ => match st with
  | v :: st' => if v.category = 1 then o_nx (pc + 1) ls st' σ else o_sk
  | _ => o_sk
def a_bin (f : Int32 → Int32 → Int32) : SI := fun pc ls st σ => match st with
  | .int b :: .int a :: st' => o_nx (pc + 1) ls (.int (f a b) :: st') σ
  | _ => o_sk
def a_div : SI := fun pc ls st σ => match st with
  | .int b :: .int a :: st' => if b = 0 then o_sk else o_nx (pc + 1) ls (.int (a / b) :: st') σ
  | _ => o_sk
def a_rem : SI := fun pc ls st σ => match st with
  | .int b :: .int a :: st' => if b = 0 then o_sk else o_nx (pc + 1) ls (.int (a - a / b * b) :: st') σ
  | _ => o_sk
def a_un (f : Int32 → Int32) : SI := fun pc ls st σ => match st with
  | .int a :: st' => o_nx (pc + 1) ls (.int (f a) :: st') σ
  | _ => o_sk
def a_lbin (f : Int64 → Int64 → Int64) : SI := fun pc ls st σ => match st with
  | .long b :: .long a :: st' => o_nx (pc + 1) ls (.long (f a b) :: st') σ
  | _ => o_sk
def a_lshl : SI := fun pc ls st σ => match st with
  | .int b :: .long a :: st' => o_nx (pc + 1) ls (.long (a <<< (b.toInt64 &&& 63)) :: st') σ
  | _ => o_sk
def a_i2l : SI := fun pc ls st σ => match st with
  | .int a :: st' => o_nx (pc + 1) ls (.long a.toInt64 :: st') σ
  | _ => o_sk
def a_lcmp : SI := fun pc ls st σ => match st with
  | .long b :: .long a :: st' => o_nx (pc + 1) ls (.int (lg_cmp a b) :: st') σ
  | _ => o_sk
def a_ceq (t : Nat) : SI := fun pc ls st σ => match st with
  | .int b :: .int a :: st' => if a = b then o_nx t ls st' σ else o_nx (pc + 3) ls st' σ
  | _ => o_sk
def a_cne (t : Nat) : SI := fun pc ls st σ => match st with
  | .int b :: .int a :: st' => if a = b then o_nx (pc + 3) ls st' σ else o_nx t ls st' σ
  | _ => o_sk
def a_clt (t : Nat) : SI := fun pc ls st σ => match st with
  | .int b :: .int a :: st' => if a < b then o_nx t ls st' σ else o_nx (pc + 3) ls st' σ
  | _ => o_sk
def a_cge (t : Nat) : SI := fun pc ls st σ => match st with
  | .int b :: .int a :: st' => if b ≤ a then o_nx t ls st' σ else o_nx (pc + 3) ls st' σ
  | _ => o_sk
def a_cgt (t : Nat) : SI := fun pc ls st σ => match st with
  | .int b :: .int a :: st' => if b < a then o_nx t ls st' σ else o_nx (pc + 3) ls st' σ
  | _ => o_sk
def a_cle (t : Nat) : SI := fun pc ls st σ => match st with
  | .int b :: .int a :: st' => if a ≤ b then o_nx t ls st' σ else o_nx (pc + 3) ls st' σ
  | _ => o_sk
def a_zeq (t : Nat) : SI := fun pc ls st σ => match st with
  | .int a :: st' => if a = 0 then o_nx t ls st' σ else o_nx (pc + 3) ls st' σ
  | _ => o_sk
def a_zne (t : Nat) : SI := fun pc ls st σ => match st with
  | .int a :: st' => if a = 0 then o_nx (pc + 3) ls st' σ else o_nx t ls st' σ
  | _ => o_sk
def a_zlt (t : Nat) : SI := fun pc ls st σ => match st with
  | .int a :: st' => if a < 0 then o_nx t ls st' σ else o_nx (pc + 3) ls st' σ
  | _ => o_sk
def a_zge (t : Nat) : SI := fun pc ls st σ => match st with
  | .int a :: st' => if 0 ≤ a then o_nx t ls st' σ else o_nx (pc + 3) ls st' σ
  | _ => o_sk
def a_zgt (t : Nat) : SI := fun pc ls st σ => match st with
  | .int a :: st' => if 0 < a then o_nx t ls st' σ else o_nx (pc + 3) ls st' σ
  | _ => o_sk
def a_zle (t : Nat) : SI := fun pc ls st σ => match st with
  | .int a :: st' => if a ≤ 0 then o_nx t ls st' σ else o_nx (pc + 3) ls st' σ
  | _ => o_sk
def a_go (t : Nat) : SI := fun _ ls st σ => o_nx t ls st σ
/-- a table switch: from lo on the targets ts, else d -/
def tabT (lo : Int) (ts : List Nat) (d : Nat) (x : Int32) : Nat := if x.toInt < lo ∨ lo + (ts.length : Int) ≤ x.toInt then d else ts.getD (x.toInt - lo).toNat d
def a_tab (lo : Int) (ts : List Nat) (d : Nat) : SI := fun _ ls st σ => match st with
  | .int x :: st' => o_nx (tabT lo ts d x) ls st' σ
  | _ => o_sk
def a_ifnull (t : Nat) : SI := fun pc ls st σ => match st with
  | .ref _ :: st' => o_nx (pc + 3) ls st' σ
  | .null :: st' => o_nx t ls st' σ
  | _ => o_sk
def a_ifnn (t : Nat) : SI := fun pc ls st σ => match st with
  | .ref _ :: st' => o_nx t ls st' σ
  | .null :: st' => o_nx (pc + 3) ls st' σ
  | _ => o_sk
/-! fields: of a cell of kind c1 or c2 the place k -/
def a_gI (c1 c2 k : Nat) : SI := fun pc ls st σ => match st with
  | .ref a :: st' => if tof σ a = c1 ∨ tof σ a = c2 then o_nx (pc + 3) ls (.int (iof σ a k) :: st') σ else o_sk
  | _ => o_sk
def a_gL (c1 c2 k : Nat) : SI := fun pc ls st σ => match st with
  | .ref a :: st' => if tof σ a = c1 ∨ tof σ a = c2 then o_nx (pc + 3) ls (.long (lof σ a k) :: st') σ else o_sk
  | _ => o_sk
def a_gR (c1 c2 k : Nat) : SI := fun pc ls st σ => match st with
  | .ref a :: st' => if tof σ a = c1 ∨ tof σ a = c2 then o_nx (pc + 3) ls (rv (rof σ a k) :: st') σ else o_sk
  | _ => o_sk
def a_pI (c1 c2 k : Nat) : SI := fun pc ls st σ => match st with
  | .int v :: .ref a :: st' => if tof σ a = c1 ∨ tof σ a = c2 then o_nx (pc + 3) ls st' (iput σ a k v) else o_sk
  | _ => o_sk
def a_pZ (c1 c2 k : Nat) : SI := fun pc ls st σ => match st with
  | .int v :: .ref a :: st' => if (tof σ a = c1 ∨ tof σ a = c2) ∧ (v = 0 ∨ v = 1) then o_nx (pc + 3) ls st' (iput σ a k v) else o_sk
  | _ => o_sk
def a_pL (c1 c2 k : Nat) : SI := fun pc ls st σ => match st with
  | .long v :: .ref a :: st' => if tof σ a = c1 ∨ tof σ a = c2 then o_nx (pc + 3) ls st' (lput σ a k v) else o_sk
  | _ => o_sk
def a_pR (c1 c2 k : Nat) : SI := fun pc ls st σ => match st with
  | .ref v :: .ref a :: st' => if tof σ a = c1 ∨ tof σ a = c2 then o_nx (pc + 3) ls st' (rput σ a k (some v)) else o_sk
  | .null :: .ref a :: st' => if tof σ a = c1 ∨ tof σ a = c2 then o_nx (pc + 3) ls st' (rput σ a k none) else o_sk
  | _ => o_sk
/-- a static of the JDK's: cell 1, place k -/
def a_gst (k : Nat) : SI := fun pc ls st σ => o_nx (pc + 3) ls (rv (rof σ 1 k) :: st) σ
/-! arrays of kind t -/
def a_iald (t : Nat) : SI := fun pc ls st σ => match st with
  | .int i :: .ref a :: st' => if tof σ a = t ∧ ¬ (i < 0 ∨ nof σ a ≤ i.toNatClampNeg) then o_nx (pc + 1) ls (.int (iof σ a i.toNatClampNeg) :: st') σ else o_sk
  | _ => o_sk
def a_iast (t : Nat) (nr : Int32 → Int32) : SI := fun pc ls st σ => match st with
  | .int v :: .int i :: .ref a :: st' => if tof σ a = t ∧ ¬ (i < 0 ∨ nof σ a ≤ i.toNatClampNeg) then o_nx (pc + 1) ls st' (iput σ a i.toNatClampNeg (nr v)) else o_sk
  | _ => o_sk
def a_lald (t : Nat) : SI := fun pc ls st σ => match st with
  | .int i :: .ref a :: st' => if tof σ a = t ∧ ¬ (i < 0 ∨ nof σ a ≤ i.toNatClampNeg) then o_nx (pc + 1) ls (.long (lof σ a i.toNatClampNeg) :: st') σ else o_sk
  | _ => o_sk
def a_last (t : Nat) : SI := fun pc ls st σ => match st with
  | .long v :: .int i :: .ref a :: st' => if tof σ a = t ∧ ¬ (i < 0 ∨ nof σ a ≤ i.toNatClampNeg) then o_nx (pc + 1) ls st' (lput σ a i.toNatClampNeg v) else o_sk
  | _ => o_sk
def a_aald (t t2 : Nat) : SI := fun pc ls st σ => match st with
  | .int i :: .ref a :: st' => if (tof σ a = t ∨ tof σ a = t2) ∧ ¬ (i < 0 ∨ nof σ a ≤ i.toNatClampNeg) then o_nx (pc + 1) ls (rv (rof σ a i.toNatClampNeg) :: st') σ else o_sk
  | _ => o_sk
/-- a reference into an array: of a cell whose kind is in ok, or null -/
def a_aast (t : Nat) (ok : List Nat) : SI := fun pc ls st σ => match st with
  | .ref v :: .int i :: .ref a :: st' => if (tof σ a = t ∧ tof σ v ∈ ok) ∧ ¬ (i < 0 ∨ nof σ a ≤ i.toNatClampNeg) then o_nx (pc + 1) ls st' (rput σ a i.toNatClampNeg (some v)) else o_sk
  | .null :: .int i :: .ref a :: st' => if tof σ a = t ∧ ¬ (i < 0 ∨ nof σ a ≤ i.toNatClampNeg) then o_nx (pc + 1) ls st' (rput σ a i.toNatClampNeg none) else o_sk
  | _ => o_sk
/-- a String constant into an array of Strings -/
def a_sast (t : Nat) : SI := fun pc ls st σ => match st with
  | .ref v :: .int i :: .ref a :: st' => if (tof σ a = t ∧ 2 ≤ v ∧ v < 42) ∧ ¬ (i < 0 ∨ nof σ a ≤ i.toNatClampNeg) then o_nx (pc + 1) ls st' (rput σ a i.toNatClampNeg (some v)) else o_sk
  | _ => o_sk
def a_alen (t : Nat) : SI := fun pc ls st σ => match st with
  | .ref a :: st' => if tof σ a = t then o_nx (pc + 1) ls (.int (nI (nof σ a)) :: st') σ else o_sk
  | _ => o_sk
/-- the law's own script: cell 0 -/
def a_sld : SI := fun pc ls st σ => match st with
  | .int i :: .ref a :: st' => if a = 0 ∧ ¬ (i < 0 ∨ nof σ 0 ≤ i.toNatClampNeg) then o_nx (pc + 1) ls (.int (iof σ 0 i.toNatClampNeg) :: st') σ else o_sk
  | _ => o_sk
def a_slen : SI := fun pc ls st σ => match st with
  | .ref a :: st' => if a = 0 then o_nx (pc + 1) ls (.int (nI (nof σ 0)) :: st') σ else o_sk
  | _ => o_sk
/-! Strings: constant i is cell 2 + i, its bytes are cell 42 + i -/
def a_sval : SI := fun pc ls st σ => match st with
  | .ref a :: st' => if 2 ≤ a ∧ a < 42 then o_nx (pc + 3) ls (.ref (a + 40) :: st') σ else o_sk
  | _ => o_sk
def a_scod : SI := fun pc ls st σ => match st with
  | .ref a :: st' => if 2 ≤ a ∧ a < 42 then o_nx (pc + 3) ls (.int 0 :: st') σ else o_sk
  | _ => o_sk
def a_clen (len : List Nat) : SI := fun pc ls st σ => match st with
  | .ref a :: st' => if 42 ≤ a ∧ a < 82 then o_nx (pc + 1) ls (.int (nI (len.getD (a - 42) 0)) :: st') σ else o_sk
  | _ => o_sk
def a_cald (len : List Nat) (byt : List (List Int32)) : SI := fun pc ls st σ => match st with
  | .int i :: .ref a :: st' => if (42 ≤ a ∧ a < 82) ∧ ¬ (i < 0 ∨ len.getD (a - 42) 0 ≤ i.toNatClampNeg) then o_nx (pc + 1) ls (.int ((byt.getD (a - 42) []).getD i.toNatClampNeg 0) :: st') σ else o_sk
  | _ => o_sk
/-! new cells -/
def a_new (c w : Nat) : SI := fun pc ls st σ => o_nx (pc + 3) ls (.ref (nxt σ) :: st) (hnew σ c 0 w)
/-- new, dup, <init> of a JDK exception -/
def a_nse (c w : Nat) : SI := fun pc ls st σ => if wsum st ≤ 8 then o_nx (pc + 7) ls (.ref (nxt σ) :: st) (hnew σ c 0 w) else o_sk
def a_newa (t n : Nat) : SI := fun pc ls st σ => match st with
  | .int v :: st' => if ¬ v < 0 ∧ v.toNatClampNeg ≤ 1000000 then o_nx (pc + n) ls (.ref (nxt σ) :: st') (hnew σ t v.toNatClampNeg v.toNatClampNeg) else o_sk
  | _ => o_sk
/-- two rows of ints -/
def a_mul (t t1 : Nat) (n k : Nat) : SI := fun pc ls st σ => match st with
  | .int b :: .int a :: st' => if a = nI n ∧ b = nI k then o_nx (pc + 4) ls (.ref (nxt σ) :: st') (rall (hnew (hnew (hnew σ t n n) t1 k k) t1 k k) (nxt σ) (fun j => if j < n then some (nxt σ + 1 + j) else none)) else o_sk
  | _ => o_sk
/-! calls: n arguments (the object among them) -/
def a_cS (y n w : Nat) : SI := fun pc _ st _ => if (n ≤ st.length ∧ wsum (st.drop n) ≤ 8) ∧ wsum (st.take n).reverse ≤ w then o_cl y (st.take n).reverse (st.drop n) (pc + 3) else o_sk
def a_cI (y n w : Nat) : SI := fun pc _ st _ => if (n ≤ st.length ∧ wsum (st.drop n) ≤ 8) ∧ wsum (st.take n).reverse ≤ w then (match (st.take n).reverse with
  | .ref a :: as => o_cl y (.ref a :: as) (st.drop n) (pc + 3)
  | _ => o_sk) else o_sk
/-- by the kind of the object: tab -/
def a_cV (tab : List (Nat × Nat)) (n w : Nat) : SI := fun pc _ st σ => if (n ≤ st.length ∧ wsum (st.drop n) ≤ 8) ∧ wsum (st.take n).reverse ≤ w then (match (st.take n).reverse with
  | .ref a :: as => (match tab.lookup (tof σ a) with
    | some y => o_cl y (.ref a :: as) (st.drop n) (pc + 3)
    | none => o_sk)
  | _ => o_sk) else o_sk
/-- of a String constant -/
def a_cT (y n w : Nat) : SI := fun pc _ st _ => if (n ≤ st.length ∧ wsum (st.drop n) ≤ 8) ∧ wsum (st.take n).reverse ≤ w then (match (st.take n).reverse with
  | .ref a :: as => if 2 ≤ a ∧ a < 42 then o_cl y (.ref a :: as) (st.drop n) (pc + 3) else o_sk
  | _ => o_sk) else o_sk
/-- Object.<init> -/
def a_oi : SI := fun pc ls st σ => match st with
  | .ref _ :: st' => if wsum st' ≤ 8 then o_nx (pc + 3) ls st' σ else o_sk
  | _ => o_sk
/-! System.arraycopy -/
def a_cpI (t : Nat) : SI := fun pc ls st σ => match st with
  | .int n :: .int dp :: .ref a :: .int sp :: .ref b :: st' =>
    if ((tof σ a = t ∧ tof σ b = t) ∧ wsum st' ≤ 8) ∧ ¬ sp < 0 ∧ ¬ dp < 0 ∧ ¬ n < 0 ∧ sp.toNatClampNeg + n.toNatClampNeg ≤ nof σ b ∧ dp.toNatClampNeg + n.toNatClampNeg ≤ nof σ a then
      o_nx (pc + 3) ls st' (iall σ a (va_cpy (iof σ b) (iof σ a) sp.toNatClampNeg dp.toNatClampNeg n.toNatClampNeg)) else o_sk
  | _ => o_sk
def a_cpR (t c : Nat) : SI := fun pc ls st σ => match st with
  | .int n :: .int dp :: .ref a :: .int sp :: .ref b :: st' =>
    if (((tof σ a = t ∧ tof σ b = t) ∧ wsum st' ≤ 8) ∧ ¬ sp < 0 ∧ ¬ dp < 0 ∧ ¬ n < 0 ∧ sp.toNatClampNeg + n.toNatClampNeg ≤ nof σ b ∧ dp.toNatClampNeg + n.toNatClampNeg ≤ nof σ a) ∧
      ((List.range n.toNatClampNeg).all fun i => match rof σ b (sp.toNatClampNeg + i) with | none => true | some y => tof σ y == c) = true then
      o_nx (pc + 3) ls st' (rall σ a (va_cpy (rof σ b) (rof σ a) sp.toNatClampNeg dp.toNatClampNeg n.toNatClampNeg)) else o_sk
  | _ => o_sk
/-! ends -/
def a_ret : SI := fun _ _ st _ => match st with
  | [] => o_rt none
  | _ => o_sk
def a_iret : SI := fun _ _ st _ => match st with
  | [.int v] => o_rt (some (.int v))
  | _ => o_sk
def a_zret (ty : FieldType) : SI := fun _ _ st _ => match st with
  | [.int v] => if narrow ty (.int v) = .int v then o_rt (some (.int v)) else o_sk
  | _ => o_sk
def a_lret : SI := fun _ _ st _ => match st with
  | [.long v] => o_rt (some (.long v))
  | _ => o_sk
def a_aret : SI := fun _ _ st _ => match st with
  | [.ref v] => o_rt (some (.ref v))
  | [.null] => o_rt (some .null)
  | _ => o_sk
/-- an exception whose kind is in ok -/
def a_thr (ok : List Nat) : SI := fun _ _ st σ => match st with
  | .ref v :: _ => if tof σ v ∈ ok then o_th v else o_sk
  | _ => o_sk
