/-! every action does one kind of thing (printed by tools/gen_sd.py) -/
def NX (A : SI) : Prop := ∀ (pc : Nat) (ls st : List Value) (σ : HS), A pc ls st σ = o_sk ∨ ∃ pc' ls' st' σ', A pc ls st σ = o_nx pc' ls' st' σ'
def NC (A : SI) : Prop := ∀ (pc : Nat) (ls st : List Value) (σ : HS), A pc ls st σ = o_sk ∨ ∃ y as rest pc', A pc ls st σ = o_cl y as rest pc'
def NR (A : SI) : Prop := ∀ (pc : Nat) (ls st : List Value) (σ : HS), A pc ls st σ = o_sk ∨ ∃ v, A pc ls st σ = o_rt v
def NT (A : SI) : Prop := ∀ (pc : Nat) (ls st : List Value) (σ : HS), A pc ls st σ = o_sk ∨ ∃ a, A pc ls st σ = o_th a
theorem nx_ic {v : Int32} {n : Nat} : NX (a_ic v n) := by
  intro pc ls st σ
  unfold a_ic
  (repeat' split) <;> first | exact Or.inl rfl | exact Or.inr ⟨_, _, _, _, rfl⟩
theorem nx_lc {v : Int64} {n : Nat} : NX (a_lc v n) := by
  intro pc ls st σ
  unfold a_lc
  (repeat' split) <;> first | exact Or.inl rfl | exact Or.inr ⟨_, _, _, _, rfl⟩
theorem nx_nul  : NX (a_nul ) := by
  intro pc ls st σ
  unfold a_nul
  (repeat' split) <;> first | exact Or.inl rfl | exact Or.inr ⟨_, _, _, _, rfl⟩
theorem nx_str {i n : Nat} : NX (a_str i n) := by
  intro pc ls st σ
  unfold a_str
  (repeat' split) <;> first | exact Or.inl rfl | exact Or.inr ⟨_, _, _, _, rfl⟩
theorem nx_il {i n : Nat} : NX (a_il i n) := by
  intro pc ls st σ
  unfold a_il
  (repeat' split) <;> first | exact Or.inl rfl | exact Or.inr ⟨_, _, _, _, rfl⟩
theorem nx_ll {i n : Nat} : NX (a_ll i n) := by
  intro pc ls st σ
  unfold a_ll
  (repeat' split) <;> first | exact Or.inl rfl | exact Or.inr ⟨_, _, _, _, rfl⟩
theorem nx_al {i n : Nat} : NX (a_al i n) := by
  intro pc ls st σ
  unfold a_al
  (repeat' split) <;> first | exact Or.inl rfl | exact Or.inr ⟨_, _, _, _, rfl⟩
theorem nx_is {i n : Nat} : NX (a_is i n) := by
  intro pc ls st σ
  unfold a_is
  (repeat' split) <;> first | exact Or.inl rfl | exact Or.inr ⟨_, _, _, _, rfl⟩
theorem nx_as {i n : Nat} : NX (a_as i n) := by
  intro pc ls st σ
  unfold a_as
  (repeat' split) <;> first | exact Or.inl rfl | exact Or.inr ⟨_, _, _, _, rfl⟩
theorem nx_ls {i n : Nat} : NX (a_ls i n) := by
  intro pc ls st σ
  unfold a_ls
  (repeat' split) <;> first | exact Or.inl rfl | exact Or.inr ⟨_, _, _, _, rfl⟩
theorem nx_inc {i : Nat} {k : Int32} : NX (a_inc i k) := by
  intro pc ls st σ
  unfold a_inc
  (repeat' split) <;> first | exact Or.inl rfl | exact Or.inr ⟨_, _, _, _, rfl⟩
theorem nx_dup  : NX (a_dup ) := by
  intro pc ls st σ
  unfold a_dup
  (repeat' split) <;> first | exact Or.inl rfl | exact Or.inr ⟨_, _, _, _, rfl⟩
theorem nx_dup2  : NX (a_dup2 ) := by
  intro pc ls st σ
  unfold a_dup2
  (repeat' split) <;> first | exact Or.inl rfl | exact Or.inr ⟨_, _, _, _, rfl⟩
theorem nx_pop  : NX (a_pop ) := by
  intro pc ls st σ
  unfold a_pop
  (repeat' split) <;> first | exact Or.inl rfl | exact Or.inr ⟨_, _, _, _, rfl⟩
theorem nx_bin {f : Int32 → Int32 → Int32} : NX (a_bin f) := by
  intro pc ls st σ
  unfold a_bin
  (repeat' split) <;> first | exact Or.inl rfl | exact Or.inr ⟨_, _, _, _, rfl⟩
theorem nx_div  : NX (a_div ) := by
  intro pc ls st σ
  unfold a_div
  (repeat' split) <;> first | exact Or.inl rfl | exact Or.inr ⟨_, _, _, _, rfl⟩
theorem nx_rem  : NX (a_rem ) := by
  intro pc ls st σ
  unfold a_rem
  (repeat' split) <;> first | exact Or.inl rfl | exact Or.inr ⟨_, _, _, _, rfl⟩
theorem nx_un {f : Int32 → Int32} : NX (a_un f) := by
  intro pc ls st σ
  unfold a_un
  (repeat' split) <;> first | exact Or.inl rfl | exact Or.inr ⟨_, _, _, _, rfl⟩
theorem nx_lbin {f : Int64 → Int64 → Int64} : NX (a_lbin f) := by
  intro pc ls st σ
  unfold a_lbin
  (repeat' split) <;> first | exact Or.inl rfl | exact Or.inr ⟨_, _, _, _, rfl⟩
theorem nx_lshl  : NX (a_lshl ) := by
  intro pc ls st σ
  unfold a_lshl
  (repeat' split) <;> first | exact Or.inl rfl | exact Or.inr ⟨_, _, _, _, rfl⟩
theorem nx_i2l  : NX (a_i2l ) := by
  intro pc ls st σ
  unfold a_i2l
  (repeat' split) <;> first | exact Or.inl rfl | exact Or.inr ⟨_, _, _, _, rfl⟩
theorem nx_lcmp  : NX (a_lcmp ) := by
  intro pc ls st σ
  unfold a_lcmp
  (repeat' split) <;> first | exact Or.inl rfl | exact Or.inr ⟨_, _, _, _, rfl⟩
theorem nx_ceq {t : Nat} : NX (a_ceq t) := by
  intro pc ls st σ
  unfold a_ceq
  (repeat' split) <;> first | exact Or.inl rfl | exact Or.inr ⟨_, _, _, _, rfl⟩
theorem nx_cne {t : Nat} : NX (a_cne t) := by
  intro pc ls st σ
  unfold a_cne
  (repeat' split) <;> first | exact Or.inl rfl | exact Or.inr ⟨_, _, _, _, rfl⟩
theorem nx_clt {t : Nat} : NX (a_clt t) := by
  intro pc ls st σ
  unfold a_clt
  (repeat' split) <;> first | exact Or.inl rfl | exact Or.inr ⟨_, _, _, _, rfl⟩
theorem nx_cge {t : Nat} : NX (a_cge t) := by
  intro pc ls st σ
  unfold a_cge
  (repeat' split) <;> first | exact Or.inl rfl | exact Or.inr ⟨_, _, _, _, rfl⟩
theorem nx_cgt {t : Nat} : NX (a_cgt t) := by
  intro pc ls st σ
  unfold a_cgt
  (repeat' split) <;> first | exact Or.inl rfl | exact Or.inr ⟨_, _, _, _, rfl⟩
theorem nx_cle {t : Nat} : NX (a_cle t) := by
  intro pc ls st σ
  unfold a_cle
  (repeat' split) <;> first | exact Or.inl rfl | exact Or.inr ⟨_, _, _, _, rfl⟩
theorem nx_zeq {t : Nat} : NX (a_zeq t) := by
  intro pc ls st σ
  unfold a_zeq
  (repeat' split) <;> first | exact Or.inl rfl | exact Or.inr ⟨_, _, _, _, rfl⟩
theorem nx_zne {t : Nat} : NX (a_zne t) := by
  intro pc ls st σ
  unfold a_zne
  (repeat' split) <;> first | exact Or.inl rfl | exact Or.inr ⟨_, _, _, _, rfl⟩
theorem nx_zlt {t : Nat} : NX (a_zlt t) := by
  intro pc ls st σ
  unfold a_zlt
  (repeat' split) <;> first | exact Or.inl rfl | exact Or.inr ⟨_, _, _, _, rfl⟩
theorem nx_zge {t : Nat} : NX (a_zge t) := by
  intro pc ls st σ
  unfold a_zge
  (repeat' split) <;> first | exact Or.inl rfl | exact Or.inr ⟨_, _, _, _, rfl⟩
theorem nx_zgt {t : Nat} : NX (a_zgt t) := by
  intro pc ls st σ
  unfold a_zgt
  (repeat' split) <;> first | exact Or.inl rfl | exact Or.inr ⟨_, _, _, _, rfl⟩
theorem nx_zle {t : Nat} : NX (a_zle t) := by
  intro pc ls st σ
  unfold a_zle
  (repeat' split) <;> first | exact Or.inl rfl | exact Or.inr ⟨_, _, _, _, rfl⟩
theorem nx_go {t : Nat} : NX (a_go t) := by
  intro pc ls st σ
  unfold a_go
  (repeat' split) <;> first | exact Or.inl rfl | exact Or.inr ⟨_, _, _, _, rfl⟩
theorem nx_tab {lo : Int} {ts : List Nat} {dd : Nat} : NX (a_tab lo ts dd) := by
  intro pc ls st σ
  unfold a_tab
  (repeat' split) <;> first | exact Or.inl rfl | exact Or.inr ⟨_, _, _, _, rfl⟩
theorem nx_ifnull {t : Nat} : NX (a_ifnull t) := by
  intro pc ls st σ
  unfold a_ifnull
  (repeat' split) <;> first | exact Or.inl rfl | exact Or.inr ⟨_, _, _, _, rfl⟩
theorem nx_ifnn {t : Nat} : NX (a_ifnn t) := by
  intro pc ls st σ
  unfold a_ifnn
  (repeat' split) <;> first | exact Or.inl rfl | exact Or.inr ⟨_, _, _, _, rfl⟩
theorem nx_gI {c1 c2 k : Nat} : NX (a_gI c1 c2 k) := by
  intro pc ls st σ
  unfold a_gI
  (repeat' split) <;> first | exact Or.inl rfl | exact Or.inr ⟨_, _, _, _, rfl⟩
theorem nx_gL {c1 c2 k : Nat} : NX (a_gL c1 c2 k) := by
  intro pc ls st σ
  unfold a_gL
  (repeat' split) <;> first | exact Or.inl rfl | exact Or.inr ⟨_, _, _, _, rfl⟩
theorem nx_gR {c1 c2 k : Nat} : NX (a_gR c1 c2 k) := by
  intro pc ls st σ
  unfold a_gR
  (repeat' split) <;> first | exact Or.inl rfl | exact Or.inr ⟨_, _, _, _, rfl⟩
theorem nx_pI {c1 c2 k : Nat} : NX (a_pI c1 c2 k) := by
  intro pc ls st σ
  unfold a_pI
  (repeat' split) <;> first | exact Or.inl rfl | exact Or.inr ⟨_, _, _, _, rfl⟩
theorem nx_pZ {c1 c2 k : Nat} : NX (a_pZ c1 c2 k) := by
  intro pc ls st σ
  unfold a_pZ
  (repeat' split) <;> first | exact Or.inl rfl | exact Or.inr ⟨_, _, _, _, rfl⟩
theorem nx_pL {c1 c2 k : Nat} : NX (a_pL c1 c2 k) := by
  intro pc ls st σ
  unfold a_pL
  (repeat' split) <;> first | exact Or.inl rfl | exact Or.inr ⟨_, _, _, _, rfl⟩
theorem nx_pR {c1 c2 k : Nat} : NX (a_pR c1 c2 k) := by
  intro pc ls st σ
  unfold a_pR
  (repeat' split) <;> first | exact Or.inl rfl | exact Or.inr ⟨_, _, _, _, rfl⟩
theorem nx_gst {k : Nat} : NX (a_gst k) := by
  intro pc ls st σ
  unfold a_gst
  (repeat' split) <;> first | exact Or.inl rfl | exact Or.inr ⟨_, _, _, _, rfl⟩
theorem nx_iald {t : Nat} : NX (a_iald t) := by
  intro pc ls st σ
  unfold a_iald
  (repeat' split) <;> first | exact Or.inl rfl | exact Or.inr ⟨_, _, _, _, rfl⟩
theorem nx_iast {t : Nat} {f : Int32 → Int32} : NX (a_iast t f) := by
  intro pc ls st σ
  unfold a_iast
  (repeat' split) <;> first | exact Or.inl rfl | exact Or.inr ⟨_, _, _, _, rfl⟩
theorem nx_lald {t : Nat} : NX (a_lald t) := by
  intro pc ls st σ
  unfold a_lald
  (repeat' split) <;> first | exact Or.inl rfl | exact Or.inr ⟨_, _, _, _, rfl⟩
theorem nx_last {t : Nat} : NX (a_last t) := by
  intro pc ls st σ
  unfold a_last
  (repeat' split) <;> first | exact Or.inl rfl | exact Or.inr ⟨_, _, _, _, rfl⟩
theorem nx_aald {t t2 : Nat} : NX (a_aald t t2) := by
  intro pc ls st σ
  unfold a_aald
  (repeat' split) <;> first | exact Or.inl rfl | exact Or.inr ⟨_, _, _, _, rfl⟩
theorem nx_aast {t : Nat} {ok : List Nat} : NX (a_aast t ok) := by
  intro pc ls st σ
  unfold a_aast
  (repeat' split) <;> first | exact Or.inl rfl | exact Or.inr ⟨_, _, _, _, rfl⟩
theorem nx_sast {t : Nat} : NX (a_sast t) := by
  intro pc ls st σ
  unfold a_sast
  (repeat' split) <;> first | exact Or.inl rfl | exact Or.inr ⟨_, _, _, _, rfl⟩
theorem nx_alen {t : Nat} : NX (a_alen t) := by
  intro pc ls st σ
  unfold a_alen
  (repeat' split) <;> first | exact Or.inl rfl | exact Or.inr ⟨_, _, _, _, rfl⟩
theorem nx_sld  : NX (a_sld ) := by
  intro pc ls st σ
  unfold a_sld
  (repeat' split) <;> first | exact Or.inl rfl | exact Or.inr ⟨_, _, _, _, rfl⟩
theorem nx_slen  : NX (a_slen ) := by
  intro pc ls st σ
  unfold a_slen
  (repeat' split) <;> first | exact Or.inl rfl | exact Or.inr ⟨_, _, _, _, rfl⟩
theorem nx_sval  : NX (a_sval ) := by
  intro pc ls st σ
  unfold a_sval
  (repeat' split) <;> first | exact Or.inl rfl | exact Or.inr ⟨_, _, _, _, rfl⟩
theorem nx_scod  : NX (a_scod ) := by
  intro pc ls st σ
  unfold a_scod
  (repeat' split) <;> first | exact Or.inl rfl | exact Or.inr ⟨_, _, _, _, rfl⟩
theorem nx_clen {len : List Nat} : NX (a_clen len) := by
  intro pc ls st σ
  unfold a_clen
  (repeat' split) <;> first | exact Or.inl rfl | exact Or.inr ⟨_, _, _, _, rfl⟩
theorem nx_cald {len : List Nat} {byt : List (List Int32)} : NX (a_cald len byt) := by
  intro pc ls st σ
  unfold a_cald
  (repeat' split) <;> first | exact Or.inl rfl | exact Or.inr ⟨_, _, _, _, rfl⟩
theorem nx_new {c w : Nat} : NX (a_new c w) := by
  intro pc ls st σ
  unfold a_new
  (repeat' split) <;> first | exact Or.inl rfl | exact Or.inr ⟨_, _, _, _, rfl⟩
theorem nx_nse {c w : Nat} : NX (a_nse c w) := by
  intro pc ls st σ
  unfold a_nse
  (repeat' split) <;> first | exact Or.inl rfl | exact Or.inr ⟨_, _, _, _, rfl⟩
theorem nx_newa {t n : Nat} : NX (a_newa t n) := by
  intro pc ls st σ
  unfold a_newa
  (repeat' split) <;> first | exact Or.inl rfl | exact Or.inr ⟨_, _, _, _, rfl⟩
theorem nx_mul {t t1 n k : Nat} : NX (a_mul t t1 n k) := by
  intro pc ls st σ
  unfold a_mul
  (repeat' split) <;> first | exact Or.inl rfl | exact Or.inr ⟨_, _, _, _, rfl⟩
theorem nx_oi  : NX (a_oi ) := by
  intro pc ls st σ
  unfold a_oi
  (repeat' split) <;> first | exact Or.inl rfl | exact Or.inr ⟨_, _, _, _, rfl⟩
theorem nx_cpI {t : Nat} : NX (a_cpI t) := by
  intro pc ls st σ
  unfold a_cpI
  (repeat' split) <;> first | exact Or.inl rfl | exact Or.inr ⟨_, _, _, _, rfl⟩
theorem nx_cpR {t c : Nat} : NX (a_cpR t c) := by
  intro pc ls st σ
  unfold a_cpR
  (repeat' split) <;> first | exact Or.inl rfl | exact Or.inr ⟨_, _, _, _, rfl⟩
theorem no_cS (y n w : Nat) : NC (a_cS y n w) := by
  intro pc ls st σ
  unfold a_cS
  (repeat' split) <;> first | exact Or.inl rfl | exact Or.inr ⟨_, _, _, _, rfl⟩
theorem no_cI (y n w : Nat) : NC (a_cI y n w) := by
  intro pc ls st σ
  unfold a_cI
  (repeat' split) <;> first | exact Or.inl rfl | exact Or.inr ⟨_, _, _, _, rfl⟩
theorem no_cV (tab : List (Nat × Nat)) (n w : Nat) : NC (a_cV tab n w) := by
  intro pc ls st σ
  unfold a_cV
  (repeat' split) <;> first | exact Or.inl rfl | exact Or.inr ⟨_, _, _, _, rfl⟩
theorem no_cT (y n w : Nat) : NC (a_cT y n w) := by
  intro pc ls st σ
  unfold a_cT
  (repeat' split) <;> first | exact Or.inl rfl | exact Or.inr ⟨_, _, _, _, rfl⟩
theorem no_ret  : NR (a_ret ) := by
  intro pc ls st σ
  unfold a_ret
  (repeat' split) <;> first | exact Or.inl rfl | exact Or.inr ⟨_, rfl⟩
theorem no_iret  : NR (a_iret ) := by
  intro pc ls st σ
  unfold a_iret
  (repeat' split) <;> first | exact Or.inl rfl | exact Or.inr ⟨_, rfl⟩
theorem no_zret (ty : FieldType) : NR (a_zret ty) := by
  intro pc ls st σ
  unfold a_zret
  (repeat' split) <;> first | exact Or.inl rfl | exact Or.inr ⟨_, rfl⟩
theorem no_lret  : NR (a_lret ) := by
  intro pc ls st σ
  unfold a_lret
  (repeat' split) <;> first | exact Or.inl rfl | exact Or.inr ⟨_, rfl⟩
theorem no_aret  : NR (a_aret ) := by
  intro pc ls st σ
  unfold a_aret
  (repeat' split) <;> first | exact Or.inl rfl | exact Or.inr ⟨_, rfl⟩
theorem no_thr (ok : List Nat) : NT (a_thr ok) := by
  intro pc ls st σ
  unfold a_thr
  (repeat' split) <;> first | exact Or.inl rfl | exact Or.inr ⟨_, rfl⟩
theorem ox1 {y pc pc' : Nat} {a b c d : List Value} {σ : HS} : o_nx pc a b σ ≠ o_cl y c d pc' := by intro h; unfold o_nx o_cl at h; cases h
theorem ox2 {pc : Nat} {a b : List Value} {σ : HS} {v : Option Value} : o_nx pc a b σ ≠ o_rt v := by intro h; unfold o_nx o_rt at h; cases h
theorem ox3 {pc x : Nat} {a b : List Value} {σ : HS} : o_nx pc a b σ ≠ o_th x := by intro h; unfold o_nx o_th at h; cases h
theorem ox4 {y pc : Nat} {c d : List Value} {v : Option Value} : o_cl y c d pc ≠ o_rt v := by intro h; unfold o_cl o_rt at h; cases h
theorem ox5 {y pc x : Nat} {c d : List Value} : o_cl y c d pc ≠ o_th x := by intro h; unfold o_cl o_th at h; cases h
theorem ox6 {v : Option Value} {x : Nat} : o_rt v ≠ o_th x := by intro h; unfold o_rt o_th at h; cases h
theorem ok2 {v : Option Value} : o_sk ≠ o_rt v := by intro h; unfold o_sk o_rt at h; cases h
theorem ok3 {x : Nat} : o_sk ≠ o_th x := by intro h; unfold o_sk o_th at h; cases h
section SD
variable {MI : Nat → MIt} {cc : ByteArray} {own : String} {nL : Nat} {rt : Option FieldType} {ini : Bool} {pc : Nat} {A : SI}
theorem sn_no (h : ∀ ls st σ pc' ls' st' σ', A pc ls st σ ≠ o_nx pc' ls' st' σ') : Sn cc own nL rt ini pc A := by
  refine ⟨fun ls st σ pc' ls' st' σ' hA => absurd hA (h _ _ _ _ _ _ _), ?_⟩
  intro D dA sp B xs L us p l e R s m args below meth c hC ls st σ pc' ls' st' σ' hA
  exact absurd hA (h _ _ _ _ _ _ _)
theorem sd_nx (n : NX A) (s : Sn cc own nL rt ini pc A) : Sd MI cc own nL rt ini pc A := by
  refine ⟨s, fun ls st σ y' as rest pc' hA => ?_, fun ls st σ v hA => ?_, fun ls st σ a hA => ?_⟩
  · rcases n pc ls st σ with h | ⟨p1, p2, p3, p4, h⟩
    · rw [h] at hA; exact (osk_cl hA).elim
    · rw [h] at hA; exact absurd hA ox1
  · rcases n pc ls st σ with h | ⟨p1, p2, p3, p4, h⟩
    · rw [h] at hA; exact absurd hA ok2
    · rw [h] at hA; exact absurd hA ox2
  · rcases n pc ls st σ with h | ⟨p1, p2, p3, p4, h⟩
    · rw [h] at hA; exact absurd hA ok3
    · rw [h] at hA; exact absurd hA ox3
theorem sd_cl (n : NC A) (s : Sc MI cc own nL rt ini pc A) : Sd MI cc own nL rt ini pc A := by
  refine ⟨sn_no fun ls st σ pc' ls' st' σ' hA => ?_, s, fun ls st σ v hA => ?_, fun ls st σ a hA => ?_⟩
  · rcases n pc ls st σ with h | ⟨p1, p2, p3, p4, h⟩
    · rw [h] at hA; exact (osk_nx hA).elim
    · rw [h] at hA; exact absurd hA.symm ox1
  · rcases n pc ls st σ with h | ⟨p1, p2, p3, p4, h⟩
    · rw [h] at hA; exact absurd hA ok2
    · rw [h] at hA; exact absurd hA ox4
  · rcases n pc ls st σ with h | ⟨p1, p2, p3, p4, h⟩
    · rw [h] at hA; exact absurd hA ok3
    · rw [h] at hA; exact absurd hA ox5
theorem sd_rt (n : NR A) (s : Rt cc rt pc A) : Sd MI cc own nL rt ini pc A := by
  refine ⟨sn_no fun ls st σ pc' ls' st' σ' hA => ?_, fun ls st σ y' as rest pc' hA => ?_, s, fun ls st σ a hA => ?_⟩
  · rcases n pc ls st σ with h | ⟨v, h⟩
    · rw [h] at hA; exact (osk_nx hA).elim
    · rw [h] at hA; exact absurd hA.symm ox2
  · rcases n pc ls st σ with h | ⟨v, h⟩
    · rw [h] at hA; exact (osk_cl hA).elim
    · rw [h] at hA; exact absurd hA.symm ox4
  · rcases n pc ls st σ with h | ⟨v, h⟩
    · rw [h] at hA; exact absurd hA ok3
    · rw [h] at hA; exact absurd hA ox6
theorem sd_th (n : NT A) (s : Th cc pc A) : Sd MI cc own nL rt ini pc A := by
  refine ⟨sn_no fun ls st σ pc' ls' st' σ' hA => ?_, fun ls st σ y' as rest pc' hA => ?_, fun ls st σ v hA => ?_, s⟩
  · rcases n pc ls st σ with h | ⟨v, h⟩
    · rw [h] at hA; exact (osk_nx hA).elim
    · rw [h] at hA; exact absurd hA.symm ox3
  · rcases n pc ls st σ with h | ⟨v, h⟩
    · rw [h] at hA; exact (osk_cl hA).elim
    · rw [h] at hA; exact absurd hA.symm ox5
  · rcases n pc ls st σ with h | ⟨v, h⟩
    · rw [h] at hA; exact absurd hA ok2
    · rw [h] at hA; exact absurd hA.symm ox6
/-- a row that is not in the program -/
def a_sk : SI := fun _ _ _ _ => o_sk
theorem sd_sk : Sd MI cc own nL rt ini pc a_sk := sd_nx (fun _ _ _ _ => Or.inl rfl) (sn_no fun _ _ _ _ _ _ _ hA => osk_nx hA)
theorem rt_ret (hd : decode cc pc = .ok (.return_, 1)) : Rt cc none pc a_ret := by
  intro ls st σ v hA
  unfold a_ret at hA
  split at hA
  · unfold o_rt at hA; cases hA; exact Or.inl ⟨hd, rfl, rfl, rfl⟩
  · exact absurd hA ok2
theorem rt_iret (hd : decode cc pc = .ok (.ireturn, 1)) : Rt cc (some .int) pc a_iret := by
  intro ls st σ v hA
  unfold a_iret at hA
  split at hA
  · unfold o_rt at hA; cases hA; exact Or.inr (Or.inl ⟨hd, _, .int, rfl, rfl, rfl, rfl⟩)
  · exact absurd hA ok2
theorem rt_zret {ty : FieldType} (hd : decode cc pc = .ok (.ireturn, 1)) : Rt cc (some ty) pc (a_zret ty) := by
  intro ls st σ v hA
  unfold a_zret at hA
  split at hA
  · split at hA
    · rename_i hn
      unfold o_rt at hA; cases hA; exact Or.inr (Or.inl ⟨hd, _, ty, rfl, rfl, rfl, hn⟩)
    · exact absurd hA ok2
  · exact absurd hA ok2
theorem rt_lret (hd : decode cc pc = .ok (.lreturn, 1)) : Rt cc (some .long) pc a_lret := by
  intro ls st σ v hA
  unfold a_lret at hA
  split at hA
  · unfold o_rt at hA; cases hA; exact Or.inr (Or.inr (Or.inl ⟨hd, rfl, _, rfl, rfl⟩))
  · exact absurd hA ok2
theorem rt_aret {ty : FieldType} (hty : (∃ n, ty = .object n) ∨ ∃ t, ty = .array t) (hd : decode cc pc = .ok (.areturn, 1)) : Rt cc (some ty) pc a_aret := by
  intro ls st σ v hA
  unfold a_aret at hA
  split at hA
  · unfold o_rt at hA; cases hA; exact Or.inr (Or.inr (Or.inr ⟨hd, ⟨ty, rfl, hty⟩, some _, rfl, rfl⟩))
  · unfold o_rt at hA; cases hA; exact Or.inr (Or.inr (Or.inr ⟨hd, ⟨ty, rfl, hty⟩, none, rfl, rfl⟩))
  · exact absurd hA ok2
theorem othI {a b : Nat} (h : o_th a = o_th b) : a = b := by unfold o_th at h; cases h; rfl
theorem th_thr {ok : List Nat} (hok : ∀ k ∈ ok, isC k) (hd : decode cc pc = .ok (.athrow, 1)) : Th cc pc (a_thr ok) := by
  intro ls st σ a hA
  unfold a_thr at hA
  split at hA
  · split at hA
    · rename_i hk
      have e := othI hA
      subst e
      exact ⟨hd, ⟨_, rfl⟩, hok _ hk⟩
    · exact absurd hA ok3
  · exact absurd hA ok3
end SD
theorem thok : ∀ k ∈ [2, 20], isC k := by
  intro k hk
  simp only [List.mem_cons, List.not_mem_nil, or_false] at hk
  rcases hk with rfl | rfl
  · exact ⟨1, RX2, TX2, 8, rfl, by decide, rfl⟩
  · exact ⟨19, RJ8, TJ8, 0, rfl, by decide, rfl⟩
/-! tables of methods by pc, of callees by kind -/
def lkp : List (Nat × SI) → Nat → SI
  | [], _ => a_sk
  | (k, a) :: t, pc => bif Nat.beq k pc then a else lkp t pc
theorem lkp_ok {MI : Nat → MIt} {cc : ByteArray} {own : String} {nL : Nat} {rt : Option FieldType} {ini : Bool} : ∀ (t : List (Nat × SI)), (∀ e ∈ t, Sd MI cc own nL rt ini e.1 e.2) → ∀ pc, Sd MI cc own nL rt ini pc (lkp t pc)
  | [], _, pc => sd_sk
  | (k, a) :: t, h, pc => by
    unfold lkp
    cases hb : Nat.beq k pc with
    | true =>
      have e : k = pc := Nat.eq_of_beq_eq_true hb
      subst e
      exact h (k, a) List.mem_cons_self
    | false => exact lkp_ok t (fun e he => h e (List.mem_cons_of_mem _ he)) pc
theorem lku1 {k c y y' : Nat} (h : [(c, y)].lookup k = some y') : k = c ∧ y' = y := by
  simp only [List.lookup] at h
  split at h
  · rename_i hb; cases h; exact ⟨by simpa using hb, rfl⟩
  · cases h
theorem lku2 {k c y c2 y2 y' : Nat} (h : [(c, y), (c2, y2)].lookup k = some y') : (k = c ∧ y' = y) ∨ (k = c2 ∧ y' = y2) := by
  rw [List.lookup] at h
  split at h
  · rename_i hb; cases h; exact Or.inl ⟨by simpa using hb, rfl⟩
  · exact Or.inr (lku1 h)
theorem lku5 {k c y c2 y2 c3 y3 c4 y4 c5 y5 y' : Nat} (h : [(c, y), (c2, y2), (c3, y3), (c4, y4), (c5, y5)].lookup k = some y') : (k = c ∧ y' = y) ∨ (k = c2 ∧ y' = y2) ∨ (k = c3 ∧ y' = y3) ∨ (k = c4 ∧ y' = y4) ∨ (k = c5 ∧ y' = y5) := by
  rw [List.lookup] at h
  split at h
  · rename_i hb; cases h; exact Or.inl ⟨by simpa using hb, rfl⟩
  rw [List.lookup] at h
  split at h
  · rename_i hb; cases h; exact Or.inr (Or.inl ⟨by simpa using hb, rfl⟩)
  rw [List.lookup] at h
  split at h
  · rename_i hb; cases h; exact Or.inr (Or.inr (Or.inl ⟨by simpa using hb, rfl⟩))
  · exact Or.inr (Or.inr (Or.inr (lku2 h)))
section CV
variable {MI : Nat → MIt} {cc : ByteArray} {own : String} {nL : Nat} {rt : Option FieldType} {ini : Bool} {pc n w : Nat}
abbrev CVg (MI : Nat → MIt) (cc : ByteArray) (own : String) (nL : Nat) (rt : Option FieldType) (ini : Bool) (pc n w c y : Nat) : Prop := w ≤ (MI y).2.2.1 ∧ ∀ (σ : HS) (a : Nat) (as rest : List Value), tof σ a = c → as.length + 1 = n → wsum rest ≤ 8 → CallTo MI cc own nL rt ini pc y σ (.ref a :: as) rest
theorem sd_cV1 {c y : Nat} (h : CVg MI cc own nL rt ini pc n w c y) : Sd MI cc own nL rt ini pc (a_cV [(c, y)] n w) :=
  sd_cl (no_cV _ _ _) (sc_V (fun k y' hk => by obtain ⟨-, rfl⟩ := lku1 hk; exact h.1) (fun k y' hk => by obtain ⟨rfl, rfl⟩ := lku1 hk; exact h.2))
theorem sd_cV2 {c y c2 y2 : Nat} (h : CVg MI cc own nL rt ini pc n w c y) (h2 : CVg MI cc own nL rt ini pc n w c2 y2) : Sd MI cc own nL rt ini pc (a_cV [(c, y), (c2, y2)] n w) :=
  sd_cl (no_cV _ _ _) (sc_V (fun k y' hk => by
    rcases lku2 hk with ⟨-, rfl⟩ | ⟨-, rfl⟩
    · exact h.1
    · exact h2.1) (fun k y' hk => by
    rcases lku2 hk with ⟨rfl, rfl⟩ | ⟨rfl, rfl⟩
    · exact h.2
    · exact h2.2))
theorem sd_cV5 {c y c2 y2 c3 y3 c4 y4 c5 y5 : Nat} (h : CVg MI cc own nL rt ini pc n w c y) (h2 : CVg MI cc own nL rt ini pc n w c2 y2) (h3 : CVg MI cc own nL rt ini pc n w c3 y3) (h4 : CVg MI cc own nL rt ini pc n w c4 y4) (h5 : CVg MI cc own nL rt ini pc n w c5 y5) : Sd MI cc own nL rt ini pc (a_cV [(c, y), (c2, y2), (c3, y3), (c4, y4), (c5, y5)] n w) :=
  sd_cl (no_cV _ _ _) (sc_V (fun k y' hk => by
    rcases lku5 hk with ⟨-, rfl⟩ | ⟨-, rfl⟩ | ⟨-, rfl⟩ | ⟨-, rfl⟩ | ⟨-, rfl⟩
    · exact h.1
    · exact h2.1
    · exact h3.1
    · exact h4.1
    · exact h5.1) (fun k y' hk => by
    rcases lku5 hk with ⟨rfl, rfl⟩ | ⟨rfl, rfl⟩ | ⟨rfl, rfl⟩ | ⟨rfl, rfl⟩ | ⟨rfl, rfl⟩
    · exact h.2
    · exact h2.2
    · exact h3.2
    · exact h4.2
    · exact h5.2))
end CV
