/-! THE EQUATIONS of the simple machine: what an action does to GG -/
section GEQ
variable {P : Nat → Nat → SI} {ML : Nat → Nat} {HT : Nat → List (Nat × Nat × Nat × Nat)} {d y pc : Nat} {ls st : List Value} {σ : HS} {Q : Res → HS → Prop}
theorem g_ic {v : Int32} {n : Nat} (h : P y pc = a_ic v n) : GG P ML HT d y pc ls st σ Q = GG P ML HT d y (pc + n) ls (.int v :: st) σ Q := GG_nx P ML HT (by rw [h]; rfl)
theorem g_lc {v : Int64} {n : Nat} (h : P y pc = a_lc v n) : GG P ML HT d y pc ls st σ Q = GG P ML HT d y (pc + n) ls (.long v :: st) σ Q := GG_nx P ML HT (by rw [h]; rfl)
theorem g_nul (h : P y pc = a_nul) : GG P ML HT d y pc ls st σ Q = GG P ML HT d y (pc + 1) ls (rv none :: st) σ Q := GG_nx P ML HT (by rw [h]; rfl)
theorem g_str {i n : Nat} (h : P y pc = a_str i n) : GG P ML HT d y pc ls st σ Q = GG P ML HT d y (pc + n) ls (rv (some (2 + i)) :: st) σ Q := GG_nx P ML HT (by rw [h]; rfl)
theorem g_il {i n : Nat} {x : Int32} (h : P y pc = a_il i n) (hl : ls[i]? = some (.int x)) : GG P ML HT d y pc ls st σ Q = GG P ML HT d y (pc + n) ls (.int x :: st) σ Q := GG_nx P ML HT (by rw [h]; simp only [a_il, hl])
theorem g_ll {i n : Nat} {x : Int64} (h : P y pc = a_ll i n) (hl : ls[i]? = some (.long x)) : GG P ML HT d y pc ls st σ Q = GG P ML HT d y (pc + n) ls (.long x :: st) σ Q := GG_nx P ML HT (by rw [h]; simp only [a_ll, hl])
theorem g_al {i n : Nat} {r : Option Nat} (h : P y pc = a_al i n) (hl : ls[i]? = some (rv r)) : GG P ML HT d y pc ls st σ Q = GG P ML HT d y (pc + n) ls (rv r :: st) σ Q := GG_nx P ML HT (by cases r <;> (simp only [rv] at hl ⊢; rw [h]; simp only [a_al, hl]))
theorem g_is {i n : Nat} {x : Int32} {ls' : List Value} (h : P y pc = a_is i n) (hi : i < ls.length) (hl : stL ls i (.int x) = ls') : GG P ML HT d y pc ls (.int x :: st) σ Q = GG P ML HT d y (pc + n) ls' st σ Q := GG_nx P ML HT (by rw [h]; simp only [a_is, if_pos hi, hl])
theorem g_as {i n : Nat} {r : Option Nat} {ls' : List Value} (h : P y pc = a_as i n) (hi : i < ls.length) (hl : stL ls i (rv r) = ls') : GG P ML HT d y pc ls (rv r :: st) σ Q = GG P ML HT d y (pc + n) ls' st σ Q := GG_nx P ML HT (by cases r <;> (simp only [rv] at hl ⊢; rw [h]; simp only [a_as, if_pos hi, hl]))
theorem g_ls {i n : Nat} {x : Int64} {ls' : List Value} (h : P y pc = a_ls i n) (hi : i + 1 < ls.length) (hl : stW ls i (.long x) = ls') : GG P ML HT d y pc ls (.long x :: st) σ Q = GG P ML HT d y (pc + n) ls' st σ Q := GG_nx P ML HT (by rw [h]; simp only [a_ls, if_pos hi, hl])
theorem g_inc {i : Nat} {k x : Int32} {ls' : List Value} (h : P y pc = a_inc i k) (hx : ls[i]? = some (.int x)) (hl : stL ls i (.int (x + k)) = ls') : GG P ML HT d y pc ls st σ Q = GG P ML HT d y (pc + 3) ls' st σ Q := GG_nx P ML HT (by rw [h]; simp only [a_inc, hx, hl])
theorem g_dup {v : Value} (h : P y pc = a_dup) (hv : v.category = 1) : GG P ML HT d y pc ls (v :: st) σ Q = GG P ML HT d y (pc + 1) ls (v :: v :: st) σ Q := GG_nx P ML HT (by rw [h]; simp only [a_dup, if_pos hv])
theorem g_dup2 {v w : Value} (h : P y pc = a_dup2) (hv : v.category = 1) (hw : w.category = 1) : GG P ML HT d y pc ls (v :: w :: st) σ Q = GG P ML HT d y (pc + 1) ls (v :: w :: v :: w :: st) σ Q := GG_nx P ML HT (by rw [h]; simp only [a_dup2, if_pos (And.intro hv hw)])
theorem g_pop {v : Value} (h : P y pc = a_pop) (hv : v.category = 1) : GG P ML HT d y pc ls (v :: st) σ Q = GG P ML HT d y (pc + 1) ls st σ Q := GG_nx P ML HT (by rw [h]; simp only [a_pop, if_pos hv])
theorem g_bin {f : Int32 → Int32 → Int32} {a b : Int32} (h : P y pc = a_bin f) : GG P ML HT d y pc ls (.int b :: .int a :: st) σ Q = GG P ML HT d y (pc + 1) ls (.int (f a b) :: st) σ Q := GG_nx P ML HT (by rw [h]; rfl)
theorem g_div {a b : Int32} (h : P y pc = a_div) (hb : ¬ b = 0) : GG P ML HT d y pc ls (.int b :: .int a :: st) σ Q = GG P ML HT d y (pc + 1) ls (.int (a / b) :: st) σ Q := GG_nx P ML HT (by rw [h]; simp only [a_div, if_neg hb])
theorem g_rem {a b : Int32} (h : P y pc = a_rem) (hb : ¬ b = 0) : GG P ML HT d y pc ls (.int b :: .int a :: st) σ Q = GG P ML HT d y (pc + 1) ls (.int (a - a / b * b) :: st) σ Q := GG_nx P ML HT (by rw [h]; simp only [a_rem, if_neg hb])
theorem g_un {f : Int32 → Int32} {a : Int32} (h : P y pc = a_un f) : GG P ML HT d y pc ls (.int a :: st) σ Q = GG P ML HT d y (pc + 1) ls (.int (f a) :: st) σ Q := GG_nx P ML HT (by rw [h]; rfl)
theorem g_lbin {f : Int64 → Int64 → Int64} {a b : Int64} (h : P y pc = a_lbin f) : GG P ML HT d y pc ls (.long b :: .long a :: st) σ Q = GG P ML HT d y (pc + 1) ls (.long (f a b) :: st) σ Q := GG_nx P ML HT (by rw [h]; rfl)
theorem g_lshl {a : Int64} {b : Int32} (h : P y pc = a_lshl) : GG P ML HT d y pc ls (.int b :: .long a :: st) σ Q = GG P ML HT d y (pc + 1) ls (.long (a <<< (b.toInt64 &&& 63)) :: st) σ Q := GG_nx P ML HT (by rw [h]; rfl)
theorem g_i2l {a : Int32} (h : P y pc = a_i2l) : GG P ML HT d y pc ls (.int a :: st) σ Q = GG P ML HT d y (pc + 1) ls (.long a.toInt64 :: st) σ Q := GG_nx P ML HT (by rw [h]; rfl)
theorem g_lcmp {a b : Int64} (h : P y pc = a_lcmp) : GG P ML HT d y pc ls (.long b :: .long a :: st) σ Q = GG P ML HT d y (pc + 1) ls (.int (lg_cmp a b) :: st) σ Q := GG_nx P ML HT (by rw [h]; rfl)
theorem g_ite {c : Prop} [hc : Decidable c] {pc1 pc2 : Nat} {ls1 st1 : List Value} {σ1 : HS} (h : P y pc pc ls st σ = if c then o_nx pc1 ls1 st1 σ1 else o_nx pc2 ls1 st1 σ1) : GG P ML HT d y pc ls st σ Q = if c then GG P ML HT d y pc1 ls1 st1 σ1 Q else GG P ML HT d y pc2 ls1 st1 σ1 Q := by
  by_cases hh : c
  · rw [if_pos hh] at h ⊢
    exact GG_nx P ML HT h
  · rw [if_neg hh] at h ⊢
    exact GG_nx P ML HT h
theorem g_ceq {t : Nat} {a b : Int32} (h : P y pc = a_ceq t) : GG P ML HT d y pc ls (.int b :: .int a :: st) σ Q = if a = b then GG P ML HT d y t ls st σ Q else GG P ML HT d y (pc + 3) ls st σ Q := g_ite (by rw [h]; rfl)
theorem g_cne {t : Nat} {a b : Int32} (h : P y pc = a_cne t) : GG P ML HT d y pc ls (.int b :: .int a :: st) σ Q = if a = b then GG P ML HT d y (pc + 3) ls st σ Q else GG P ML HT d y t ls st σ Q := g_ite (by rw [h]; rfl)
theorem g_clt {t : Nat} {a b : Int32} (h : P y pc = a_clt t) : GG P ML HT d y pc ls (.int b :: .int a :: st) σ Q = if a < b then GG P ML HT d y t ls st σ Q else GG P ML HT d y (pc + 3) ls st σ Q := g_ite (by rw [h]; rfl)
theorem g_cge {t : Nat} {a b : Int32} (h : P y pc = a_cge t) : GG P ML HT d y pc ls (.int b :: .int a :: st) σ Q = if b ≤ a then GG P ML HT d y t ls st σ Q else GG P ML HT d y (pc + 3) ls st σ Q := g_ite (by rw [h]; rfl)
theorem g_cgt {t : Nat} {a b : Int32} (h : P y pc = a_cgt t) : GG P ML HT d y pc ls (.int b :: .int a :: st) σ Q = if b < a then GG P ML HT d y t ls st σ Q else GG P ML HT d y (pc + 3) ls st σ Q := g_ite (by rw [h]; rfl)
theorem g_cle {t : Nat} {a b : Int32} (h : P y pc = a_cle t) : GG P ML HT d y pc ls (.int b :: .int a :: st) σ Q = if a ≤ b then GG P ML HT d y t ls st σ Q else GG P ML HT d y (pc + 3) ls st σ Q := g_ite (by rw [h]; rfl)
theorem g_zeq {t : Nat} {a : Int32} (h : P y pc = a_zeq t) : GG P ML HT d y pc ls (.int a :: st) σ Q = if a = 0 then GG P ML HT d y t ls st σ Q else GG P ML HT d y (pc + 3) ls st σ Q := g_ite (by rw [h]; rfl)
theorem g_zne {t : Nat} {a : Int32} (h : P y pc = a_zne t) : GG P ML HT d y pc ls (.int a :: st) σ Q = if a = 0 then GG P ML HT d y (pc + 3) ls st σ Q else GG P ML HT d y t ls st σ Q := g_ite (by rw [h]; rfl)
theorem g_zlt {t : Nat} {a : Int32} (h : P y pc = a_zlt t) : GG P ML HT d y pc ls (.int a :: st) σ Q = if a < 0 then GG P ML HT d y t ls st σ Q else GG P ML HT d y (pc + 3) ls st σ Q := g_ite (by rw [h]; rfl)
theorem g_zge {t : Nat} {a : Int32} (h : P y pc = a_zge t) : GG P ML HT d y pc ls (.int a :: st) σ Q = if 0 ≤ a then GG P ML HT d y t ls st σ Q else GG P ML HT d y (pc + 3) ls st σ Q := g_ite (by rw [h]; rfl)
theorem g_zgt {t : Nat} {a : Int32} (h : P y pc = a_zgt t) : GG P ML HT d y pc ls (.int a :: st) σ Q = if 0 < a then GG P ML HT d y t ls st σ Q else GG P ML HT d y (pc + 3) ls st σ Q := g_ite (by rw [h]; rfl)
theorem g_zle {t : Nat} {a : Int32} (h : P y pc = a_zle t) : GG P ML HT d y pc ls (.int a :: st) σ Q = if a ≤ 0 then GG P ML HT d y t ls st σ Q else GG P ML HT d y (pc + 3) ls st σ Q := g_ite (by rw [h]; rfl)
theorem g_go {t : Nat} (h : P y pc = a_go t) : GG P ML HT d y pc ls st σ Q = GG P ML HT d y t ls st σ Q := GG_nx P ML HT (by rw [h]; rfl)
theorem g_tab {lo : Int} {ts : List Nat} {dd : Nat} {x : Int32} (h : P y pc = a_tab lo ts dd) : GG P ML HT d y pc ls (.int x :: st) σ Q = GG P ML HT d y (tabT lo ts dd x) ls st σ Q := GG_nx P ML HT (by rw [h]; rfl)
theorem g_ifnull {t : Nat} {r : Option Nat} (h : P y pc = a_ifnull t) : GG P ML HT d y pc ls (rv r :: st) σ Q = if r = none then GG P ML HT d y t ls st σ Q else GG P ML HT d y (pc + 3) ls st σ Q := by
  cases r with
  | none => rw [if_pos rfl]; exact GG_nx P ML HT (by rw [h]; rfl)
  | some a => rw [if_neg (by simp)]; exact GG_nx P ML HT (by rw [h]; rfl)
theorem g_ifnn {t : Nat} {r : Option Nat} (h : P y pc = a_ifnn t) : GG P ML HT d y pc ls (rv r :: st) σ Q = if r = none then GG P ML HT d y (pc + 3) ls st σ Q else GG P ML HT d y t ls st σ Q := by
  cases r with
  | none => rw [if_pos rfl]; exact GG_nx P ML HT (by rw [h]; rfl)
  | some a => rw [if_neg (by simp)]; exact GG_nx P ML HT (by rw [h]; rfl)
theorem g_gI {c1 c2 k a : Nat} (h : P y pc = a_gI c1 c2 k) (ha : tof σ a = c1 ∨ tof σ a = c2) : GG P ML HT d y pc ls (rv (some a) :: st) σ Q = GG P ML HT d y (pc + 3) ls (.int (iof σ a k) :: st) σ Q := GG_nx P ML HT (by rw [h]; simp only [a_gI, rv, if_pos ha])
theorem g_gL {c1 c2 k a : Nat} (h : P y pc = a_gL c1 c2 k) (ha : tof σ a = c1 ∨ tof σ a = c2) : GG P ML HT d y pc ls (rv (some a) :: st) σ Q = GG P ML HT d y (pc + 3) ls (.long (lof σ a k) :: st) σ Q := GG_nx P ML HT (by rw [h]; simp only [a_gL, rv, if_pos ha])
theorem g_gR {c1 c2 k a : Nat} (h : P y pc = a_gR c1 c2 k) (ha : tof σ a = c1 ∨ tof σ a = c2) : GG P ML HT d y pc ls (rv (some a) :: st) σ Q = GG P ML HT d y (pc + 3) ls (rv (rof σ a k) :: st) σ Q := GG_nx P ML HT (by rw [h, show rv (some a) = .ref a from rfl]; simp only [a_gR, if_pos ha])
theorem g_pI {c1 c2 k a : Nat} {v : Int32} (h : P y pc = a_pI c1 c2 k) (ha : tof σ a = c1 ∨ tof σ a = c2) : GG P ML HT d y pc ls (.int v :: rv (some a) :: st) σ Q = GG P ML HT d y (pc + 3) ls st (iput σ a k v) Q := GG_nx P ML HT (by rw [h]; simp only [a_pI, rv, if_pos ha])
theorem g_pZ {c1 c2 k a : Nat} {v : Int32} (h : P y pc = a_pZ c1 c2 k) (ha : tof σ a = c1 ∨ tof σ a = c2) (hv : v = 0 ∨ v = 1) : GG P ML HT d y pc ls (.int v :: rv (some a) :: st) σ Q = GG P ML HT d y (pc + 3) ls st (iput σ a k v) Q := GG_nx P ML HT (by rw [h]; simp only [a_pZ, rv, if_pos (And.intro ha hv)])
theorem g_pL {c1 c2 k a : Nat} {v : Int64} (h : P y pc = a_pL c1 c2 k) (ha : tof σ a = c1 ∨ tof σ a = c2) : GG P ML HT d y pc ls (.long v :: rv (some a) :: st) σ Q = GG P ML HT d y (pc + 3) ls st (lput σ a k v) Q := GG_nx P ML HT (by rw [h]; simp only [a_pL, rv, if_pos ha])
theorem g_pR {c1 c2 k a : Nat} {v : Option Nat} (h : P y pc = a_pR c1 c2 k) (ha : tof σ a = c1 ∨ tof σ a = c2) : GG P ML HT d y pc ls (rv v :: rv (some a) :: st) σ Q = GG P ML HT d y (pc + 3) ls st (rput σ a k v) Q := GG_nx P ML HT (by rw [h]; cases v <;> simp only [a_pR, rv, if_pos ha])
theorem g_gst {k : Nat} (h : P y pc = a_gst k) : GG P ML HT d y pc ls st σ Q = GG P ML HT d y (pc + 3) ls (rv (rof σ 1 k) :: st) σ Q := GG_nx P ML HT (by rw [h]; rfl)
theorem g_iald {t a : Nat} {i : Int32} (h : P y pc = a_iald t) (ha : tof σ a = t) (hi : vp_in i (nof σ a)) : GG P ML HT d y pc ls (.int i :: rv (some a) :: st) σ Q = GG P ML HT d y (pc + 1) ls (.int (iof σ a i.toNatClampNeg) :: st) σ Q := GG_nx P ML HT (by rw [h]; simp only [a_iald, rv]; rw [if_pos ⟨ha, hi⟩])
theorem g_iast {t a : Nat} {nr : Int32 → Int32} {i v : Int32} (h : P y pc = a_iast t nr) (ha : tof σ a = t) (hi : vp_in i (nof σ a)) : GG P ML HT d y pc ls (.int v :: .int i :: rv (some a) :: st) σ Q = GG P ML HT d y (pc + 1) ls st (iput σ a i.toNatClampNeg (nr v)) Q := GG_nx P ML HT (by rw [h]; simp only [a_iast, rv]; rw [if_pos ⟨ha, hi⟩])
theorem g_lald {t a : Nat} {i : Int32} (h : P y pc = a_lald t) (ha : tof σ a = t) (hi : vp_in i (nof σ a)) : GG P ML HT d y pc ls (.int i :: rv (some a) :: st) σ Q = GG P ML HT d y (pc + 1) ls (.long (lof σ a i.toNatClampNeg) :: st) σ Q := GG_nx P ML HT (by rw [h]; simp only [a_lald, rv]; rw [if_pos ⟨ha, hi⟩])
theorem g_last {t a : Nat} {i : Int32} {v : Int64} (h : P y pc = a_last t) (ha : tof σ a = t) (hi : vp_in i (nof σ a)) : GG P ML HT d y pc ls (.long v :: .int i :: rv (some a) :: st) σ Q = GG P ML HT d y (pc + 1) ls st (lput σ a i.toNatClampNeg v) Q := GG_nx P ML HT (by rw [h]; simp only [a_last, rv]; rw [if_pos ⟨ha, hi⟩])
theorem g_aald {t t2 a : Nat} {i : Int32} (h : P y pc = a_aald t t2) (ha : tof σ a = t ∨ tof σ a = t2) (hi : vp_in i (nof σ a)) : GG P ML HT d y pc ls (.int i :: rv (some a) :: st) σ Q = GG P ML HT d y (pc + 1) ls (rv (rof σ a i.toNatClampNeg) :: st) σ Q := GG_nx P ML HT (by rw [h, show rv (some a) = .ref a from rfl]; simp only [a_aald]; rw [if_pos ⟨ha, hi⟩])
theorem g_aast {t a v : Nat} {ok : List Nat} {i : Int32} (h : P y pc = a_aast t ok) (ha : tof σ a = t) (hv : tof σ v ∈ ok) (hi : vp_in i (nof σ a)) : GG P ML HT d y pc ls (rv (some v) :: .int i :: rv (some a) :: st) σ Q = GG P ML HT d y (pc + 1) ls st (rput σ a i.toNatClampNeg (some v)) Q := GG_nx P ML HT (by rw [h]; simp only [a_aast, rv]; rw [if_pos ⟨⟨ha, hv⟩, hi⟩])
theorem g_aastN {t a : Nat} {ok : List Nat} {i : Int32} (h : P y pc = a_aast t ok) (ha : tof σ a = t) (hi : vp_in i (nof σ a)) : GG P ML HT d y pc ls (rv none :: .int i :: rv (some a) :: st) σ Q = GG P ML HT d y (pc + 1) ls st (rput σ a i.toNatClampNeg none) Q := GG_nx P ML HT (by rw [h]; simp only [a_aast, rv]; rw [if_pos ⟨ha, hi⟩])
theorem g_sast {t a v : Nat} {i : Int32} (h : P y pc = a_sast t) (ha : tof σ a = t) (hv : 2 ≤ v ∧ v < 42) (hi : vp_in i (nof σ a)) : GG P ML HT d y pc ls (rv (some v) :: .int i :: rv (some a) :: st) σ Q = GG P ML HT d y (pc + 1) ls st (rput σ a i.toNatClampNeg (some v)) Q := GG_nx P ML HT (by rw [h]; simp only [a_sast, rv]; rw [if_pos ⟨⟨ha, hv⟩, hi⟩])
theorem g_alen {t a : Nat} (h : P y pc = a_alen t) (ha : tof σ a = t) : GG P ML HT d y pc ls (rv (some a) :: st) σ Q = GG P ML HT d y (pc + 1) ls (.int (nI (nof σ a)) :: st) σ Q := GG_nx P ML HT (by rw [h]; simp only [a_alen, rv]; rw [if_pos ha])
theorem g_sld {i : Int32} (h : P y pc = a_sld) (hi : vp_in i (nof σ 0)) : GG P ML HT d y pc ls (.int i :: rv (some 0) :: st) σ Q = GG P ML HT d y (pc + 1) ls (.int (iof σ 0 i.toNatClampNeg) :: st) σ Q := GG_nx P ML HT (by rw [h]; simp only [a_sld, rv]; rw [if_pos ⟨trivial, hi⟩])
theorem g_slen (h : P y pc = a_slen) : GG P ML HT d y pc ls (rv (some 0) :: st) σ Q = GG P ML HT d y (pc + 1) ls (.int (nI (nof σ 0)) :: st) σ Q := GG_nx P ML HT (by rw [h]; rfl)
theorem g_sval {a : Nat} (h : P y pc = a_sval) (ha : 2 ≤ a ∧ a < 42) : GG P ML HT d y pc ls (rv (some a) :: st) σ Q = GG P ML HT d y (pc + 3) ls (rv (some (a + 40)) :: st) σ Q := GG_nx P ML HT (by rw [h]; simp only [a_sval, rv]; rw [if_pos ha])
theorem g_scod {a : Nat} (h : P y pc = a_scod) (ha : 2 ≤ a ∧ a < 42) : GG P ML HT d y pc ls (rv (some a) :: st) σ Q = GG P ML HT d y (pc + 3) ls (.int 0 :: st) σ Q := GG_nx P ML HT (by rw [h]; simp only [a_scod, rv]; rw [if_pos ha])
theorem g_clen {len : List Nat} {a : Nat} (h : P y pc = a_clen len) (ha : 42 ≤ a ∧ a < 82) : GG P ML HT d y pc ls (rv (some a) :: st) σ Q = GG P ML HT d y (pc + 1) ls (.int (nI (len.getD (a - 42) 0)) :: st) σ Q := GG_nx P ML HT (by rw [h]; simp only [a_clen, rv]; rw [if_pos ha])
theorem g_cald {len : List Nat} {byt : List (List Int32)} {a : Nat} {i : Int32} (h : P y pc = a_cald len byt) (ha : 42 ≤ a ∧ a < 82) (hi : vp_in i (len.getD (a - 42) 0)) : GG P ML HT d y pc ls (.int i :: rv (some a) :: st) σ Q = GG P ML HT d y (pc + 1) ls (.int ((byt.getD (a - 42) []).getD i.toNatClampNeg 0) :: st) σ Q := GG_nx P ML HT (by rw [h]; simp only [a_cald, rv]; rw [if_pos ⟨ha, hi⟩])
theorem g_new {c w : Nat} (h : P y pc = a_new c w) : GG P ML HT d y pc ls st σ Q = GG P ML HT d y (pc + 3) ls (rv (some (nxt σ)) :: st) (hnew σ c 0 w) Q := GG_nx P ML HT (by rw [h]; rfl)
theorem g_nse {c w : Nat} (h : P y pc = a_nse c w) (hw : wsum st ≤ 8) : GG P ML HT d y pc ls st σ Q = GG P ML HT d y (pc + 7) ls (rv (some (nxt σ)) :: st) (hnew σ c 0 w) Q := GG_nx P ML HT (by rw [h]; simp only [a_nse, if_pos hw]; rfl)
theorem g_newa {t n N : Nat} {v : Int32} (h : P y pc = a_newa t n) (hv : ¬ v < 0) (hN : v.toNatClampNeg = N) (hb : N ≤ 1000000) : GG P ML HT d y pc ls (.int v :: st) σ Q = GG P ML HT d y (pc + n) ls (rv (some (nxt σ)) :: st) (hnew σ t N N) Q := GG_nx P ML HT (by subst hN; rw [h]; simp only [a_newa, rv]; rw [if_pos ⟨hv, hb⟩])
theorem g_mul {t t1 n k : Nat} (h : P y pc = a_mul t t1 n k) : GG P ML HT d y pc ls (.int (nI k) :: .int (nI n) :: st) σ Q = GG P ML HT d y (pc + 4) ls (rv (some (nxt σ)) :: st) (rall (hnew (hnew (hnew σ t n n) t1 k k) t1 k k) (nxt σ) (fun j => if j < n then some (nxt σ + 1 + j) else none)) Q := GG_nx P ML HT (by rw [h]; simp only [a_mul, rv]; rw [if_pos ⟨trivial, trivial⟩])
/-- a call: the arguments as, what lies under them rest -/
theorem g_cS {y' n w : Nat} {as rest : List Value} (h : P y pc = a_cS y' n w) (hs : st = as.reverse ++ rest) (hn : as.length = n) (hw : wsum rest ≤ 8) (hv : wsum as ≤ w) : GG P ML HT (d + 1) y pc ls st σ Q = GG P ML HT d y' 0 (lin as (ML y')) [] σ (GK P ML HT (d + 1) y pc (pc + 3) ls rest Q) := by
  subst hs
  have h1 : (as.reverse ++ rest).take n = as.reverse := List.take_left' (by simp [hn])
  have h2 : (as.reverse ++ rest).drop n = rest := List.drop_left' (by simp [hn])
  refine GG_cl P ML HT ?_
  rw [h]
  simp only [a_cS, h1, h2, List.reverse_reverse]
  rw [if_pos ⟨⟨by simp [← hn], hw⟩, hv⟩]
theorem g_cI {y' n w a : Nat} {as rest : List Value} (h : P y pc = a_cI y' n w) (hs : st = (rv (some a) :: as).reverse ++ rest) (hn : as.length + 1 = n) (hw : wsum rest ≤ 8) (hv : wsum (rv (some a) :: as) ≤ w) : GG P ML HT (d + 1) y pc ls st σ Q = GG P ML HT d y' 0 (lin (rv (some a) :: as) (ML y')) [] σ (GK P ML HT (d + 1) y pc (pc + 3) ls rest Q) := by
  subst hs
  have h1 : ((rv (some a) :: as).reverse ++ rest).take n = (rv (some a) :: as).reverse := List.take_left' (by simp [hn])
  have h2 : ((rv (some a) :: as).reverse ++ rest).drop n = rest := List.drop_left' (by simp [hn])
  refine GG_cl P ML HT ?_
  rw [h]
  simp only [a_cI, h1, h2, List.reverse_reverse]
  rw [if_pos ⟨⟨by simp only [List.length_append, List.length_reverse, List.length_cons]; omega, hw⟩, hv⟩]
  rfl
theorem g_cV {tab : List (Nat × Nat)} {y' n w a : Nat} {as rest : List Value} (h : P y pc = a_cV tab n w) (hs : st = (rv (some a) :: as).reverse ++ rest) (hn : as.length + 1 = n) (hw : wsum rest ≤ 8) (hv : wsum (rv (some a) :: as) ≤ w) (ht : tab.lookup (tof σ a) = some y') : GG P ML HT (d + 1) y pc ls st σ Q = GG P ML HT d y' 0 (lin (rv (some a) :: as) (ML y')) [] σ (GK P ML HT (d + 1) y pc (pc + 3) ls rest Q) := by
  subst hs
  have h1 : ((rv (some a) :: as).reverse ++ rest).take n = (rv (some a) :: as).reverse := List.take_left' (by simp [hn])
  have h2 : ((rv (some a) :: as).reverse ++ rest).drop n = rest := List.drop_left' (by simp [hn])
  refine GG_cl P ML HT ?_
  rw [h]
  simp only [a_cV, h1, h2, List.reverse_reverse]
  rw [if_pos ⟨⟨by simp only [List.length_append, List.length_reverse, List.length_cons]; omega, hw⟩, hv⟩]
  simp only [rv, ht]
theorem g_cT {y' n w a : Nat} {as rest : List Value} (h : P y pc = a_cT y' n w) (hs : st = (rv (some a) :: as).reverse ++ rest) (hn : as.length + 1 = n) (hw : wsum rest ≤ 8) (hv : wsum (rv (some a) :: as) ≤ w) (ha : 2 ≤ a ∧ a < 42) : GG P ML HT (d + 1) y pc ls st σ Q = GG P ML HT d y' 0 (lin (rv (some a) :: as) (ML y')) [] σ (GK P ML HT (d + 1) y pc (pc + 3) ls rest Q) := by
  subst hs
  have h1 : ((rv (some a) :: as).reverse ++ rest).take n = (rv (some a) :: as).reverse := List.take_left' (by simp [hn])
  have h2 : ((rv (some a) :: as).reverse ++ rest).drop n = rest := List.drop_left' (by simp [hn])
  refine GG_cl P ML HT ?_
  rw [h]
  simp only [a_cT, h1, h2, List.reverse_reverse]
  rw [if_pos ⟨⟨by simp only [List.length_append, List.length_reverse, List.length_cons]; omega, hw⟩, hv⟩]
  simp only [rv, if_pos ha]
theorem g_oi {a : Nat} (h : P y pc = a_oi) (hw : wsum st ≤ 8) : GG P ML HT d y pc ls (rv (some a) :: st) σ Q = GG P ML HT d y (pc + 3) ls st σ Q := GG_nx P ML HT (by rw [h]; simp only [a_oi, rv, if_pos hw])
theorem g_cpI {t a b : Nat} {n dp sp : Int32} {N D S : Nat} (h : P y pc = a_cpI t) (hw : wsum st ≤ 8) (ha : tof σ a = t) (hb : tof σ b = t) (h1 : ¬ sp < 0) (h2 : ¬ dp < 0) (h3 : ¬ n < 0) (eS : sp.toNatClampNeg = S) (eD : dp.toNatClampNeg = D) (eN : n.toNatClampNeg = N) (h4 : S + N ≤ nof σ b) (h5 : D + N ≤ nof σ a) : GG P ML HT d y pc ls (.int n :: .int dp :: rv (some a) :: .int sp :: rv (some b) :: st) σ Q = GG P ML HT d y (pc + 3) ls st (iall σ a (va_cpy (iof σ b) (iof σ a) S D N)) Q := by
  subst eS; subst eD; subst eN
  exact GG_nx P ML HT (by rw [h]; simp only [a_cpI, rv]; rw [if_pos ⟨⟨⟨ha, hb⟩, hw⟩, h1, h2, h3, h4, h5⟩])
theorem g_cpR {t c a b : Nat} {n dp sp : Int32} {N D S : Nat} (h : P y pc = a_cpR t c) (hw : wsum st ≤ 8) (ha : tof σ a = t) (hb : tof σ b = t) (h1 : ¬ sp < 0) (h2 : ¬ dp < 0) (h3 : ¬ n < 0) (eS : sp.toNatClampNeg = S) (eD : dp.toNatClampNeg = D) (eN : n.toNatClampNeg = N) (h4 : S + N ≤ nof σ b) (h5 : D + N ≤ nof σ a) (hc : ∀ i, i < N → ∀ v, rof σ b (S + i) = some v → tof σ v = c) : GG P ML HT d y pc ls (.int n :: .int dp :: rv (some a) :: .int sp :: rv (some b) :: st) σ Q = GG P ML HT d y (pc + 3) ls st (rall σ a (va_cpy (rof σ b) (rof σ a) S D N)) Q := by
  subst eS; subst eD; subst eN
  have hall : ((List.range n.toNatClampNeg).all fun i => match rof σ b (sp.toNatClampNeg + i) with | none => true | some y => tof σ y == c) = true := by
    rw [List.all_eq_true]
    intro i hi
    have hi' := List.mem_range.mp hi
    cases hr : rof σ b (sp.toNatClampNeg + i) with
    | none => rfl
    | some v => simp [hc i hi' v hr]
  exact GG_nx P ML HT (by rw [h]; simp only [a_cpR, rv]; rw [if_pos ⟨⟨⟨⟨ha, hb⟩, hw⟩, h1, h2, h3, h4, h5⟩, hall⟩])
theorem g_ret (h : P y pc = a_ret) : GG P ML HT d y pc ls [] σ Q = Q (.inl none) σ := GG_rt P ML HT (by rw [h]; rfl)
theorem g_iret {v : Int32} (h : P y pc = a_iret) : GG P ML HT d y pc ls [.int v] σ Q = Q (.inl (some (.int v))) σ := GG_rt P ML HT (by rw [h]; rfl)
theorem g_zret {ty : FieldType} {v : Int32} (h : P y pc = a_zret ty) (hv : narrow ty (.int v) = .int v) : GG P ML HT d y pc ls [.int v] σ Q = Q (.inl (some (.int v))) σ := GG_rt P ML HT (by rw [h]; simp only [a_zret]; rw [if_pos hv])
theorem g_lret {v : Int64} (h : P y pc = a_lret) : GG P ML HT d y pc ls [.long v] σ Q = Q (.inl (some (.long v))) σ := GG_rt P ML HT (by rw [h]; rfl)
theorem g_aret {r : Option Nat} (h : P y pc = a_aret) : GG P ML HT d y pc ls [rv r] σ Q = Q (.inl (some (rv r))) σ := by
  cases r
  · exact GG_rt P ML HT (by rw [h]; rfl)
  · exact GG_rt P ML HT (by rw [h]; rfl)
theorem g_thr {ok : List Nat} {a : Nat} (h : P y pc = a_thr ok) (ha : tof σ a ∈ ok) : GG P ML HT d y pc ls (rv (some a) :: st) σ Q = GX P ML HT d y pc ls a σ Q := GG_th P ML HT (by rw [h]; simp only [a_thr, rv, if_pos ha])
end GEQ
