set_option maxRecDepth 100000
/-! ===== returns, calls, and the whole run: sound (printed by tools/gen22.py) ===== -/
def gx_nd (x : Option gx_A) : Prop := ∀ r, x ≠ some (.inr (.inl r))
section GXND
variable {S : gx_S}
theorem gx_nd_none : gx_nd none := fun _ h => by cases h
theorem gx_nd_go {pc : Nat} {ls st : List Value} {S' : gx_S} : gx_nd (gx_go pc ls st S') := fun _ e => by cases e
theorem gx_nd_thr {q : Nat} {S' : gx_S} : gx_nd (gx_thr q S') := fun _ e => by cases e
theorem gx_nd_exc {tg dc ds : Nat} : gx_nd (gx_exc S tg dc ds) := gx_nd_thr
theorem gx_nd_npe : gx_nd (gx_npe S) := gx_nd_exc
theorem gx_nd_oob {n : Nat} : gx_nd (gx_oob S n) := by
  unfold gx_oob
  split
  · exact gx_nd_exc
  · exact gx_nd_none
theorem gx_nd_call {Y Y' : gx_Y} {as rest : List Value} {npc : Nat} {ls : List Value} : gx_nd (gx_call Y Y' as S npc ls rest) := by
  unfold gx_call
  split
  · intro _ e
    cases e
  · exact gx_nd_none
theorem gx_nd_vcall {Y : gx_Y} {ix npc tg n : Nat} {b : Value} {ls st as rest : List Value} : gx_nd (gx_vcall Y ix npc ls st S b tg n as rest) := by
  unfold gx_vcall
  split
  · split
    · exact gx_nd_call
    · exact gx_nd_none
  · exact gx_nd_none
theorem gx_nd_ald {a : Nat} {i : Int32} {v : Value} {pc : Nat} {ls st : List Value} : gx_nd (gx_ald S a i v pc ls st) := by
  unfold gx_ald
  split
  · exact gx_nd_oob
  · exact gx_nd_go
theorem gx_nd_ast {a : Nat} {i : Int32} {v : Value} {pc : Nat} {ls st : List Value} : gx_nd (gx_ast S a i v pc ls st) := by
  unfold gx_ast
  split
  · exact gx_nd_oob
  · exact gx_nd_go
theorem gx_nd_k {len n : Nat} {x : Option gx_A} (h : gx_nd x) : gx_nd (gx_k len n x) := by
  unfold gx_k
  split
  · exact h
  · exact gx_nd_none
theorem gx_nd_br {pc : Nat} {off : Int} {f : Nat → Option gx_A} (h : ∀ t, gx_nd (f t)) : gx_nd (gx_br pc off f) := by
  unfold gx_br
  split
  · exact h _
  · exact gx_nd_none
theorem gx_nd_ldI {ls : List Value} {i : Nat} {f : Value → Option gx_A} (h : ∀ v, gx_nd (f v)) : gx_nd (gx_ldI ls i f) := by
  unfold gx_ldI
  split
  · exact h _
  · exact gx_nd_none
theorem gx_nd_ldJ {ls : List Value} {i : Nat} {f : Value → Option gx_A} (h : ∀ v, gx_nd (f v)) : gx_nd (gx_ldJ ls i f) := by
  unfold gx_ldJ
  split
  · exact h _
  · exact gx_nd_none
theorem gx_nd_ldR {ls : List Value} {i : Nat} {f : Value → Option gx_A} (h : ∀ v, gx_nd (f v)) : gx_nd (gx_ldR ls i f) := by
  unfold gx_ldR
  split
  · split
    · exact h _
    · exact gx_nd_none
  · exact gx_nd_none
theorem gx_nd_stI {Y : gx_Y} {i : Nat} {ls st : List Value} {f : List Value → List Value → Option gx_A} (h : ∀ v w, gx_nd (f v w)) : gx_nd (gx_stI Y i ls st f) := by
  unfold gx_stI
  split
  · split
    · exact h _ _
    · exact gx_nd_none
  · exact gx_nd_none
theorem gx_nd_stJ {Y : gx_Y} {i : Nat} {ls st : List Value} {f : List Value → List Value → Option gx_A} (h : ∀ v w, gx_nd (f v w)) : gx_nd (gx_stJ Y i ls st f) := by
  unfold gx_stJ
  split
  · split
    · exact h _ _
    · exact gx_nd_none
  · exact gx_nd_none
theorem gx_nd_stR {Y : gx_Y} {i : Nat} {ls st : List Value} {f : List Value → List Value → Option gx_A} (h : ∀ v w, gx_nd (f v w)) : gx_nd (gx_stR Y i ls st f) := by
  unfold gx_stR
  split
  · split
    · exact h _ _
    · exact gx_nd_none
  · exact gx_nd_none
theorem gx_nd_ii {st : List Value} {f : Int32 → Int32 → Option Value} {k : List Value → Option gx_A} (h : ∀ l, gx_nd (k l)) : gx_nd (gx_ii st f k) := by
  unfold gx_ii
  split
  · split
    · exact h _
    · exact gx_nd_none
  · exact gx_nd_none
theorem gx_nd_jj {st : List Value} {f : Int64 → Int64 → Option Value} {k : List Value → Option gx_A} (h : ∀ l, gx_nd (k l)) : gx_nd (gx_jj st f k) := by
  unfold gx_jj
  split
  · split
    · exact h _
    · exact gx_nd_none
  · exact gx_nd_none
theorem gx_nd_i1 {st : List Value} {f : Int32 → Value} {k : List Value → Option gx_A} (h : ∀ l, gx_nd (k l)) : gx_nd (gx_i1 st f k) := by
  unfold gx_i1
  split
  · exact h _
  · exact gx_nd_none
theorem gx_nd_j1 {st : List Value} {f : Int64 → Value} {k : List Value → Option gx_A} (h : ∀ l, gx_nd (k l)) : gx_nd (gx_j1 st f k) := by
  unfold gx_j1
  split
  · exact h _
  · exact gx_nd_none
theorem gx_nd_if1 {c : Jvm.ClassFile.Cond} {x : Int32} {A B : Option gx_A} (h1 : gx_nd A) (h2 : gx_nd B) : gx_nd (gx_if1 c x A B) := by
  unfold gx_if1
  split <;> split <;> assumption
theorem gx_nd_if2 {c : Jvm.ClassFile.Cond} {x y : Int32} {A B : Option gx_A} (h1 : gx_nd A) (h2 : gx_nd B) : gx_nd (gx_if2 c x y A B) := by
  unfold gx_if2
  split <;> split <;> assumption
theorem gx_nd_ifa {c : ACond} {v w : Value} {A B : Option gx_A} (h1 : gx_nd A) (h2 : gx_nd B) : gx_nd (gx_ifa c v w A B) := by
  unfold gx_ifa
  split <;> split <;> assumption
theorem gx_nd_copy {Y : gx_Y} {pc : Nat} {ls st : List Value} : gx_nd (gx_copy Y pc ls st S) := by
  unfold gx_copy
  (repeat' (first | exact gx_nd_none | exact gx_nd_go | exact gx_nd_thr | exact gx_nd_exc | exact gx_nd_npe | exact gx_nd_oob | exact gx_nd_ald | exact gx_nd_ast | exact gx_nd_call | exact gx_nd_vcall | refine gx_nd_k ?_ | refine gx_nd_br fun _ => ?_ | refine gx_nd_ldI fun _ => ?_ | refine gx_nd_ldJ fun _ => ?_ | refine gx_nd_ldR fun _ => ?_ | refine gx_nd_stI fun _ _ => ?_ | refine gx_nd_stJ fun _ _ => ?_ | refine gx_nd_stR fun _ _ => ?_ | refine gx_nd_ii fun _ => ?_ | refine gx_nd_jj fun _ => ?_ | refine gx_nd_i1 fun _ => ?_ | refine gx_nd_j1 fun _ => ?_ | refine gx_nd_if1 ?_ ?_ | refine gx_nd_if2 ?_ ?_ | refine gx_nd_ifa ?_ ?_ | split))
theorem gx_nd_bi {Y : gx_Y} {b pc : Nat} {ls st : List Value} : gx_nd (gx_bi Y b pc ls st S) := by
  unfold gx_bi
  split
  · (repeat' (first | exact gx_nd_none | exact gx_nd_go | exact gx_nd_thr | exact gx_nd_exc | exact gx_nd_npe | exact gx_nd_oob | exact gx_nd_ald | exact gx_nd_ast | exact gx_nd_call | exact gx_nd_vcall | refine gx_nd_k ?_ | refine gx_nd_br fun _ => ?_ | refine gx_nd_ldI fun _ => ?_ | refine gx_nd_ldJ fun _ => ?_ | refine gx_nd_ldR fun _ => ?_ | refine gx_nd_stI fun _ _ => ?_ | refine gx_nd_stJ fun _ _ => ?_ | refine gx_nd_stR fun _ _ => ?_ | refine gx_nd_ii fun _ => ?_ | refine gx_nd_jj fun _ => ?_ | refine gx_nd_i1 fun _ => ?_ | refine gx_nd_j1 fun _ => ?_ | refine gx_nd_if1 ?_ ?_ | refine gx_nd_if2 ?_ ?_ | refine gx_nd_ifa ?_ ?_ | split))
  · (repeat' (first | exact gx_nd_none | exact gx_nd_go | exact gx_nd_thr | exact gx_nd_exc | exact gx_nd_npe | exact gx_nd_oob | exact gx_nd_ald | exact gx_nd_ast | exact gx_nd_call | exact gx_nd_vcall | refine gx_nd_k ?_ | refine gx_nd_br fun _ => ?_ | refine gx_nd_ldI fun _ => ?_ | refine gx_nd_ldJ fun _ => ?_ | refine gx_nd_ldR fun _ => ?_ | refine gx_nd_stI fun _ _ => ?_ | refine gx_nd_stJ fun _ _ => ?_ | refine gx_nd_stR fun _ _ => ?_ | refine gx_nd_ii fun _ => ?_ | refine gx_nd_jj fun _ => ?_ | refine gx_nd_i1 fun _ => ?_ | refine gx_nd_j1 fun _ => ?_ | refine gx_nd_if1 ?_ ?_ | refine gx_nd_if2 ?_ ?_ | refine gx_nd_ifa ?_ ?_ | split))
  · (repeat' (first | exact gx_nd_none | exact gx_nd_go | exact gx_nd_thr | exact gx_nd_exc | exact gx_nd_npe | exact gx_nd_oob | exact gx_nd_ald | exact gx_nd_ast | exact gx_nd_call | exact gx_nd_vcall | refine gx_nd_k ?_ | refine gx_nd_br fun _ => ?_ | refine gx_nd_ldI fun _ => ?_ | refine gx_nd_ldJ fun _ => ?_ | refine gx_nd_ldR fun _ => ?_ | refine gx_nd_stI fun _ _ => ?_ | refine gx_nd_stJ fun _ _ => ?_ | refine gx_nd_stR fun _ _ => ?_ | refine gx_nd_ii fun _ => ?_ | refine gx_nd_jj fun _ => ?_ | refine gx_nd_i1 fun _ => ?_ | refine gx_nd_j1 fun _ => ?_ | refine gx_nd_if1 ?_ ?_ | refine gx_nd_if2 ?_ ?_ | refine gx_nd_ifa ?_ ?_ | split))
  · exact gx_nd_copy
  · exact gx_nd_none
end GXND
def gx_nc (x : Option gx_A) : Prop := ∀ r, x ≠ some (.inr (.inr (.inl r)))
section GXNC
variable {S : gx_S}
theorem gx_nc_none : gx_nc none := fun _ h => by cases h
theorem gx_nc_go {pc : Nat} {ls st : List Value} {S' : gx_S} : gx_nc (gx_go pc ls st S') := fun _ e => by cases e
theorem gx_nc_thr {q : Nat} {S' : gx_S} : gx_nc (gx_thr q S') := fun _ e => by cases e
theorem gx_nc_exc {tg dc ds : Nat} : gx_nc (gx_exc S tg dc ds) := gx_nc_thr
theorem gx_nc_npe : gx_nc (gx_npe S) := gx_nc_exc
theorem gx_nc_oob {n : Nat} : gx_nc (gx_oob S n) := by
  unfold gx_oob
  split
  · exact gx_nc_exc
  · exact gx_nc_none
theorem gx_nc_done {v : Option Value} {S' : gx_S} : gx_nc (gx_done v S') := fun _ e => by cases e
theorem gx_nc_ald {a : Nat} {i : Int32} {v : Value} {pc : Nat} {ls st : List Value} : gx_nc (gx_ald S a i v pc ls st) := by
  unfold gx_ald
  split
  · exact gx_nc_oob
  · exact gx_nc_go
theorem gx_nc_ast {a : Nat} {i : Int32} {v : Value} {pc : Nat} {ls st : List Value} : gx_nc (gx_ast S a i v pc ls st) := by
  unfold gx_ast
  split
  · exact gx_nc_oob
  · exact gx_nc_go
theorem gx_nc_k {len n : Nat} {x : Option gx_A} (h : gx_nc x) : gx_nc (gx_k len n x) := by
  unfold gx_k
  split
  · exact h
  · exact gx_nc_none
theorem gx_nc_br {pc : Nat} {off : Int} {f : Nat → Option gx_A} (h : ∀ t, gx_nc (f t)) : gx_nc (gx_br pc off f) := by
  unfold gx_br
  split
  · exact h _
  · exact gx_nc_none
theorem gx_nc_ldI {ls : List Value} {i : Nat} {f : Value → Option gx_A} (h : ∀ v, gx_nc (f v)) : gx_nc (gx_ldI ls i f) := by
  unfold gx_ldI
  split
  · exact h _
  · exact gx_nc_none
theorem gx_nc_ldJ {ls : List Value} {i : Nat} {f : Value → Option gx_A} (h : ∀ v, gx_nc (f v)) : gx_nc (gx_ldJ ls i f) := by
  unfold gx_ldJ
  split
  · exact h _
  · exact gx_nc_none
theorem gx_nc_ldR {ls : List Value} {i : Nat} {f : Value → Option gx_A} (h : ∀ v, gx_nc (f v)) : gx_nc (gx_ldR ls i f) := by
  unfold gx_ldR
  split
  · split
    · exact h _
    · exact gx_nc_none
  · exact gx_nc_none
theorem gx_nc_stI {Y : gx_Y} {i : Nat} {ls st : List Value} {f : List Value → List Value → Option gx_A} (h : ∀ v w, gx_nc (f v w)) : gx_nc (gx_stI Y i ls st f) := by
  unfold gx_stI
  split
  · split
    · exact h _ _
    · exact gx_nc_none
  · exact gx_nc_none
theorem gx_nc_stJ {Y : gx_Y} {i : Nat} {ls st : List Value} {f : List Value → List Value → Option gx_A} (h : ∀ v w, gx_nc (f v w)) : gx_nc (gx_stJ Y i ls st f) := by
  unfold gx_stJ
  split
  · split
    · exact h _ _
    · exact gx_nc_none
  · exact gx_nc_none
theorem gx_nc_stR {Y : gx_Y} {i : Nat} {ls st : List Value} {f : List Value → List Value → Option gx_A} (h : ∀ v w, gx_nc (f v w)) : gx_nc (gx_stR Y i ls st f) := by
  unfold gx_stR
  split
  · split
    · exact h _ _
    · exact gx_nc_none
  · exact gx_nc_none
theorem gx_nc_ii {st : List Value} {f : Int32 → Int32 → Option Value} {k : List Value → Option gx_A} (h : ∀ l, gx_nc (k l)) : gx_nc (gx_ii st f k) := by
  unfold gx_ii
  split
  · split
    · exact h _
    · exact gx_nc_none
  · exact gx_nc_none
theorem gx_nc_jj {st : List Value} {f : Int64 → Int64 → Option Value} {k : List Value → Option gx_A} (h : ∀ l, gx_nc (k l)) : gx_nc (gx_jj st f k) := by
  unfold gx_jj
  split
  · split
    · exact h _
    · exact gx_nc_none
  · exact gx_nc_none
theorem gx_nc_i1 {st : List Value} {f : Int32 → Value} {k : List Value → Option gx_A} (h : ∀ l, gx_nc (k l)) : gx_nc (gx_i1 st f k) := by
  unfold gx_i1
  split
  · exact h _
  · exact gx_nc_none
theorem gx_nc_j1 {st : List Value} {f : Int64 → Value} {k : List Value → Option gx_A} (h : ∀ l, gx_nc (k l)) : gx_nc (gx_j1 st f k) := by
  unfold gx_j1
  split
  · exact h _
  · exact gx_nc_none
theorem gx_nc_if1 {c : Jvm.ClassFile.Cond} {x : Int32} {A B : Option gx_A} (h1 : gx_nc A) (h2 : gx_nc B) : gx_nc (gx_if1 c x A B) := by
  unfold gx_if1
  split <;> split <;> assumption
theorem gx_nc_if2 {c : Jvm.ClassFile.Cond} {x y : Int32} {A B : Option gx_A} (h1 : gx_nc A) (h2 : gx_nc B) : gx_nc (gx_if2 c x y A B) := by
  unfold gx_if2
  split <;> split <;> assumption
theorem gx_nc_ifa {c : ACond} {v w : Value} {A B : Option gx_A} (h1 : gx_nc A) (h2 : gx_nc B) : gx_nc (gx_ifa c v w A B) := by
  unfold gx_ifa
  split <;> split <;> assumption
theorem gx_nc_copy {Y : gx_Y} {pc : Nat} {ls st : List Value} : gx_nc (gx_copy Y pc ls st S) := by
  unfold gx_copy
  (repeat' (first | exact gx_nc_none | exact gx_nc_go | exact gx_nc_thr | exact gx_nc_exc | exact gx_nc_npe | exact gx_nc_oob | exact gx_nc_ald | exact gx_nc_ast | exact gx_nc_done | refine gx_nc_k ?_ | refine gx_nc_br fun _ => ?_ | refine gx_nc_ldI fun _ => ?_ | refine gx_nc_ldJ fun _ => ?_ | refine gx_nc_ldR fun _ => ?_ | refine gx_nc_stI fun _ _ => ?_ | refine gx_nc_stJ fun _ _ => ?_ | refine gx_nc_stR fun _ _ => ?_ | refine gx_nc_ii fun _ => ?_ | refine gx_nc_jj fun _ => ?_ | refine gx_nc_i1 fun _ => ?_ | refine gx_nc_j1 fun _ => ?_ | refine gx_nc_if1 ?_ ?_ | refine gx_nc_if2 ?_ ?_ | refine gx_nc_ifa ?_ ?_ | split))
theorem gx_nc_bi {Y : gx_Y} {b pc : Nat} {ls st : List Value} : gx_nc (gx_bi Y b pc ls st S) := by
  unfold gx_bi
  split
  · (repeat' (first | exact gx_nc_none | exact gx_nc_go | exact gx_nc_thr | exact gx_nc_exc | exact gx_nc_npe | exact gx_nc_oob | exact gx_nc_ald | exact gx_nc_ast | exact gx_nc_done | refine gx_nc_k ?_ | refine gx_nc_br fun _ => ?_ | refine gx_nc_ldI fun _ => ?_ | refine gx_nc_ldJ fun _ => ?_ | refine gx_nc_ldR fun _ => ?_ | refine gx_nc_stI fun _ _ => ?_ | refine gx_nc_stJ fun _ _ => ?_ | refine gx_nc_stR fun _ _ => ?_ | refine gx_nc_ii fun _ => ?_ | refine gx_nc_jj fun _ => ?_ | refine gx_nc_i1 fun _ => ?_ | refine gx_nc_j1 fun _ => ?_ | refine gx_nc_if1 ?_ ?_ | refine gx_nc_if2 ?_ ?_ | refine gx_nc_ifa ?_ ?_ | split))
  · (repeat' (first | exact gx_nc_none | exact gx_nc_go | exact gx_nc_thr | exact gx_nc_exc | exact gx_nc_npe | exact gx_nc_oob | exact gx_nc_ald | exact gx_nc_ast | exact gx_nc_done | refine gx_nc_k ?_ | refine gx_nc_br fun _ => ?_ | refine gx_nc_ldI fun _ => ?_ | refine gx_nc_ldJ fun _ => ?_ | refine gx_nc_ldR fun _ => ?_ | refine gx_nc_stI fun _ _ => ?_ | refine gx_nc_stJ fun _ _ => ?_ | refine gx_nc_stR fun _ _ => ?_ | refine gx_nc_ii fun _ => ?_ | refine gx_nc_jj fun _ => ?_ | refine gx_nc_i1 fun _ => ?_ | refine gx_nc_j1 fun _ => ?_ | refine gx_nc_if1 ?_ ?_ | refine gx_nc_if2 ?_ ?_ | refine gx_nc_ifa ?_ ?_ | split))
  · (repeat' (first | exact gx_nc_none | exact gx_nc_go | exact gx_nc_thr | exact gx_nc_exc | exact gx_nc_npe | exact gx_nc_oob | exact gx_nc_ald | exact gx_nc_ast | exact gx_nc_done | refine gx_nc_k ?_ | refine gx_nc_br fun _ => ?_ | refine gx_nc_ldI fun _ => ?_ | refine gx_nc_ldJ fun _ => ?_ | refine gx_nc_ldR fun _ => ?_ | refine gx_nc_stI fun _ _ => ?_ | refine gx_nc_stJ fun _ _ => ?_ | refine gx_nc_stR fun _ _ => ?_ | refine gx_nc_ii fun _ => ?_ | refine gx_nc_jj fun _ => ?_ | refine gx_nc_i1 fun _ => ?_ | refine gx_nc_j1 fun _ => ?_ | refine gx_nc_if1 ?_ ?_ | refine gx_nc_if2 ?_ ?_ | refine gx_nc_ifa ?_ ?_ | split))
  · exact gx_nc_copy
  · exact gx_nc_none
end GXNC
section GXDN
variable {p : Program} {l : Launch} {e : Env} {R : Room} {s : State} {m : MethodId} {args : Array Value} {below : List Frame} {meth : Method} {c : Code} {Q : State → Prop} {Y : gx_Y} {D : va_G} {dT : Nat → ClassId} {ext : Nat → Value} {A : Nat → Prop} {c0 s0 : Nat}
variable {pc len : Nat} {ls st : List Value} {S : gx_S} {i : Instr} {r : gx_R}
theorem gx_done_some {v : Option Value} {S0 : gx_S} (h : gx_done v S0 = some (.inr (.inl r))) : r = (.inl v, S0) := by
  unfold gx_done at h
  cases h
  rfl
theorem gx_rok_ty {Y : gx_Y} {v : Int32} (h : gx_rok Y v = true) : ∃ ty, gx_rt Y = some ty ∧ narrow ty (.int v) = .int v := by
  unfold gx_rok at h
  split at h
  · rename_i hrt
    exact ⟨_, hrt, rfl⟩
  · rename_i hrt
    have h1 : v = 0 ∨ v = 1 := of_decide_eq_true h
    refine ⟨_, hrt, ?_⟩
    rcases h1 with rfl | rfl <;> rfl
  · rename_i hrt
    exact ⟨_, hrt, of_decide_eq_true h⟩
  · rename_i hrt
    exact ⟨_, hrt, of_decide_eq_true h⟩
  · cases h
theorem gx_rr_ty {Y : gx_Y} (h : gx_rr Y = true) : ∃ rt, gx_rt Y = some rt ∧ ((∃ n, rt = .object n) ∨ ∃ t, rt = .array t) := by
  unfold gx_rr at h
  split at h
  · rename_i hrt
    exact ⟨_, hrt, Or.inl ⟨_, rfl⟩⟩
  · rename_i hrt
    exact ⟨_, hrt, Or.inr ⟨_, rfl⟩⟩
  · cases h
theorem gx_ins_done (hF : gx_Fr p l R s m args meth c Y D dT ext A) (hrt9 : meth.sig.returnType = gx_rt Y) (hd : decode (gx_cd Y) pc = .ok (i, len)) (h : gx_ins Y pc len ls st S i = some (.inr (.inl r))) : gx_K p l e R s m args below meth c (gx_MQ below D dT ext A r args s c0 s0) Y D dT ext A c0 s0 pc ls st S := by
  have heok : gx_eok ext := gx_eok_of hF
  have hx := hF.1
  have hb := hF.2.1
  have hlocks := hF.2.2.2.2.2.2.2.1
  cases i with
  | return_ =>
    unfold gx_ins at h
    dsimp only at h
    replace h := gx_k_some h
    obtain ⟨hlen, h⟩ := h
    subst hlen
    split at h
    · rename_i hrt
      have hr := gx_done_some h
      subst hr
      intro ad H locs lsA hW hS hL hls hst
      exact vx_ret (W.vret hx hb (hrt9.trans hrt) (fun t ht hWm => ⟨none, ad, rfl, rfl, (fun _ h => nomatch h), by rw [ht]; exact hW, hS.F ht⟩) (fun q hq => hS.2.2 q hq) hd hlocks)
    · cases h
  | ireturn =>
    unfold gx_ins at h
    dsimp only at h
    replace h := gx_k_some h
    obtain ⟨hlen, h⟩ := h
    subst hlen
    split at h
    · split at h
      · rename_i v hv
        obtain ⟨ty, hrt, hn⟩ := gx_rok_ty hv
        have hr := gx_done_some h
        subst hr
        intro ad H locs lsA hW hS hL hls hst
        exact vx_ret (W.zret hx hb (hrt9.trans hrt) hn (fun t ht hWm => ⟨some (.int v), ad, rfl, rfl, fun _ h => by cases h; exact gx_c0_int, by rw [ht]; exact hW, hS.F ht⟩) (fun q hq => hS.2.2 q hq) hd hlocks)
      · cases h
    · cases h
  | lreturn =>
    unfold gx_ins at h
    dsimp only at h
    replace h := gx_k_some h
    obtain ⟨hlen, h⟩ := h
    subst hlen
    split at h
    · rename_i v hrt
      have hr := gx_done_some h
      subst hr
      intro ad H locs lsA hW hS hL hls hst
      exact vx_ret (W.lret hx hb (hrt9.trans hrt) (fun t ht hWm => ⟨some (.long v), ad, rfl, rfl, fun _ h => by cases h; exact gx_c0_long, by rw [ht]; exact hW, hS.F ht⟩) (fun q hq => hS.2.2 q hq) hd hlocks)
    · cases h
  | areturn =>
    unfold gx_ins at h
    dsimp only at h
    replace h := gx_k_some h
    obtain ⟨hlen, h⟩ := h
    subst hlen
    split at h
    · split at h
      · rename_i v hv
        obtain ⟨rt, hrt, hn⟩ := gx_rr_ty hv.1
        have hr := gx_done_some h
        subst hr
        intro ad H locs lsA hW hS hL hls hst
        exact vx_ret (W.aret hx hb (hrt9.trans hrt) hn (gx_isR_cv heok hv.2) (fun t ht hWm => ⟨some v, ad, rfl, rfl, fun _ h => by cases h; exact gx_cs_head hst, by rw [ht]; exact hW, hS.F ht⟩) (fun q hq => hS.2.2 q hq) hd hlocks)
      · cases h
    · cases h
  | invokestatic ix =>
    exfalso
    revert h
    refine (show gx_nd _ from ?_) r
    unfold gx_ins
    dsimp only
    refine gx_nd_k ?_
    split
    · exact gx_nd_bi
    · (repeat' (first | exact gx_nd_none | exact gx_nd_go | exact gx_nd_thr | exact gx_nd_exc | exact gx_nd_npe | exact gx_nd_oob | exact gx_nd_ald | exact gx_nd_ast | exact gx_nd_call | exact gx_nd_vcall | refine gx_nd_k ?_ | refine gx_nd_br fun _ => ?_ | refine gx_nd_ldI fun _ => ?_ | refine gx_nd_ldJ fun _ => ?_ | refine gx_nd_ldR fun _ => ?_ | refine gx_nd_stI fun _ _ => ?_ | refine gx_nd_stJ fun _ _ => ?_ | refine gx_nd_stR fun _ _ => ?_ | refine gx_nd_ii fun _ => ?_ | refine gx_nd_jj fun _ => ?_ | refine gx_nd_i1 fun _ => ?_ | refine gx_nd_j1 fun _ => ?_ | refine gx_nd_if1 ?_ ?_ | refine gx_nd_if2 ?_ ?_ | refine gx_nd_ifa ?_ ?_ | split))
  | _ =>
    exfalso
    revert h
    refine (show gx_nd _ from ?_) r
    unfold gx_ins
    dsimp only
    (repeat' (first | exact gx_nd_none | exact gx_nd_go | exact gx_nd_thr | exact gx_nd_exc | exact gx_nd_npe | exact gx_nd_oob | exact gx_nd_ald | exact gx_nd_ast | exact gx_nd_call | exact gx_nd_vcall | refine gx_nd_k ?_ | refine gx_nd_br fun _ => ?_ | refine gx_nd_ldI fun _ => ?_ | refine gx_nd_ldJ fun _ => ?_ | refine gx_nd_ldR fun _ => ?_ | refine gx_nd_stI fun _ _ => ?_ | refine gx_nd_stJ fun _ _ => ?_ | refine gx_nd_stR fun _ _ => ?_ | refine gx_nd_ii fun _ => ?_ | refine gx_nd_jj fun _ => ?_ | refine gx_nd_i1 fun _ => ?_ | refine gx_nd_j1 fun _ => ?_ | refine gx_nd_if1 ?_ ?_ | refine gx_nd_if2 ?_ ?_ | refine gx_nd_ifa ?_ ?_ | split))
end GXDN
section GXCL
variable {p : Program} {l : Launch} {e : Env} {R : Room} {s : State} {m : MethodId} {args : Array Value} {below : List Frame} {meth : Method} {c : Code} {Q : State → Prop} {Y : gx_Y} {D : va_G} {dT : Nat → ClassId} {ext : Nat → Value} {A : Nat → Prop} {c0 s0 : Nat}
variable {pc len npc : Nat} {ls ls' st as rest : List Value} {S S1 : gx_S} {i : Instr} {Y' : gx_Y}
theorem gx_pop_some {n : Nat} {q : List Value × List Value} (h : gx_pop n st = some q) : q.1.length = n ∧ st = q.1.reverse ++ q.2 := by
  unfold gx_pop at h
  split at h
  · rename_i hn
    cases h
    exact ⟨by rw [List.length_reverse, List.length_take]; omega, by rw [List.reverse_reverse, List.take_append_drop]⟩
  · cases h
theorem gx_call_some {Y Y0 : gx_Y} {as0 rest0 : List Value} {npc0 : Nat} {ls0 : List Value} (h : gx_call Y Y0 as0 S npc0 ls0 rest0 = some (.inr (.inr (.inl (Y', as, S1, npc, ls', rest))))) : (gx_ht Y0 + 1 ≤ gx_ht Y ∧ gx_w8 rest0 = true ∧ gx_mL Y0 ≤ 45 ∧ gx_sk Y0 = 0 ∧ (as0.map fun v => v.category).sum ≤ gx_mL Y0) ∧ Y' = Y0 ∧ as = as0 ∧ S1 = S ∧ npc = npc0 ∧ ls' = ls0 ∧ rest = rest0 := by
  unfold gx_call at h
  split at h
  · rename_i hc
    cases h
    exact ⟨hc, rfl, rfl, rfl, rfl, rfl, rfl⟩
  · cases h
/-- what a call step says, and the run of the call in every frame -/
def gx_CR (p : Program) (l : Launch) (e : Env) (R : Room) (s : State) (m : MethodId) (args : Array Value) (below : List Frame) (meth : Method) (c : Code) (Y : gx_Y) (D : va_G) (dT : Nat → ClassId) (ext : Nat → Value) (A : Nat → Prop) (pc : Nat) (st : List Value) (S : gx_S) (Y' : gx_Y) (as rest : List Value) : Prop :=
  ∀ (ad : Nat → Nat) (H : Heap) (locs : List Loc) (lsA : Array Slot) (cells slots mc ms : Nat) (Pc : Array Value → State → Prop) (Qc : Array Value → State → Outcome → State → Prop) (XC : String → Addr → State → State → Prop) (free : Addr → Prop), gx_Wd D dT ext A S ad H → va_S A s.heap H locs → lsA.size = gx_mL Y → cells + mc ≤ R.cells ∧ slots + ms ≤ R.slots → FrameBlind Pc → (∀ U : State, U.heap = H → s.WarmedH U.vm → Pc (as.map (gx_cv ad ext)).toArray U) → vx_Met l (gx_nm Y') (gx_ws9 Y') (gx_rm Y' mc ms) Pc Qc XC mc ms free →
    vx_Run p l e R s m args below meth c H locs cells slots mc ms (F0 m pc lsA (st.map (gx_cv ad ext))) (rest.map (gx_cv ad ext)) (Qc (as.map (gx_cv ad ext)).toArray) XC free
theorem gx_pT_rt : ∀ oc, oc < 21 → ∀ e ∈ gx_pT oc, e.2.1 < 2 → gx_rt e.2.2.2 = none := by decide +kernel
theorem gx_low_ok {Y Y' : gx_Y} (h : gx_okY Y') : gx_okY (gx_lower Y Y') := by
  unfold gx_lower
  split
  · exact h
  · exact h
set_option maxHeartbeats 4000000 in
theorem gx_ins_call (hF : gx_Fr p l R s m args meth c Y D dT ext A) (hoc : gx_oc Y < 21) (hd : decode (gx_cd Y) pc = .ok (i, len)) (hcs : gx_cs S st) (h : gx_ins Y pc len ls st S i = some (.inr (.inr (.inl (Y', as, S1, npc, ls', rest))))) :
    S1 = S ∧ npc = pc + 3 ∧ ls' = ls ∧ gx_okY Y' ∧ gx_sk Y' = 0 ∧ (as.map fun v => v.category).sum ≤ gx_mL Y' ∧ gx_cs S as ∧ gx_cs S rest ∧ gx_CR p l e R s m args below meth c Y D dT ext A pc st S Y' as rest := by
  have heok : gx_eok ext := gx_eok_of hF
  have hE := hF.2.2.2.2.2.1
  have hpush : ∀ {a9 r9 : List Value}, st = a9.reverse ++ r9 → gx_cs S a9 ∧ gx_cs S r9 := fun hs => ⟨fun v hv => hcs v (by rw [hs]; exact List.mem_append_left _ (List.mem_reverse.mpr hv)), fun v hv => hcs v (by rw [hs]; exact List.mem_append_right _ hv)⟩
  cases i with
  | invokestatic ix =>
    unfold gx_ins at h
    dsimp only at h
    replace h := gx_k_some h
    obtain ⟨hlen, h⟩ := h
    subst hlen
    split at h
    · exact absurd h (gx_nc_bi _)
    · split at h
      · rename_i e9 he
        obtain ⟨hin, hp⟩ := gx_find_in he
        have hix : e9.1 = ix := by simpa using hp
        have hok := gx_okS_low (Y := Y) (gx_sT_ok (gx_oc Y) _ hin)
        obtain ⟨i9, k9, n9, Y9⟩ := e9
        dsimp only at hix h hok
        subst hix
        split at h
        · rename_i as9 rest9 hpop
          obtain ⟨hlen, hst⟩ := gx_pop_some hpop
          obtain ⟨⟨c1, c2, c3, c4, c5⟩, rfl, rfl, rfl, rfl, rfl, rfl⟩ := gx_call_some h
          dsimp only at hlen hst
          obtain ⟨hc1, hc2⟩ := hpush hst
          refine ⟨rfl, rfl, rfl, hok.1, c4, c5, hc1, hc2, ?_⟩
          intro ad H locs lsA cells slots mc ms Pc Qc XC free hW hS hsz hroom hbl hPc hM
          have h0 : gx_C0 R c Y (gx_lower Y Y9) lsA (rest.map (gx_cv ad ext)) cells slots mc ms := ⟨hok.1, c1, c3, hsz, by rw [gx_sum_cat heok]; exact gx_w8_sum c2, hroom⟩
          have hrun := gx_rS (e := e) (below := below) (locs := locs) (H := H) (as := as.map (gx_cv ad ext)) hF h0 hok hM ⟨hbl, hPc⟩ (by rw [List.length_map]; exact hlen) hd
          rw [hst, List.map_append, List.map_reverse]
          exact hrun
        · cases h
      · cases h
  | invokespecial ix =>
    unfold gx_ins at h
    dsimp only at h
    replace h := gx_k_some h
    obtain ⟨hlen, h⟩ := h
    subst hlen
    split at h
    · split at h
      · split at h
        · cases h
        · cases h
      · cases h
    · split at h
      · rename_i e9 he
        obtain ⟨hin, hp⟩ := gx_find_in he
        have hix : e9.1 = ix := by simpa using hp
        have hok := gx_pT_ok (gx_oc Y) _ hin
        have hrt := gx_pT_rt _ hoc _ hin
        obtain ⟨i9, k9, n9, Y9⟩ := e9
        dsimp only at hix h hok hrt
        subst hix
        split at h
        · rename_i as9 a9 rest9 hpop
          obtain ⟨hlen, hst⟩ := gx_pop_some hpop
          split at h
          · rename_i htag
            obtain ⟨⟨c1, c2, c3, c4, c5⟩, rfl, rfl, rfl, rfl, rfl, rfl⟩ := gx_call_some h
            dsimp only at hlen hst
            obtain ⟨hc1, hc2⟩ := hpush hst
            refine ⟨rfl, rfl, rfl, hok.1, c4, c5, gx_cs_cons (gx_cs_head hc2) hc1, gx_cs_tail hc2, ?_⟩
            intro ad H locs lsA cells slots mc ms Pc Qc XC free hW hS hsz hroom hbl hPc hM
            obtain ⟨cell, q1, q2, q3, q4⟩ := gx_cls_at hW hE.1 htag
            have h0 : gx_C0 R c Y Y' lsA (rest.map (gx_cv ad ext)) cells slots mc ms := ⟨hok.1, c1, c3, hsz, by rw [gx_sum_cat heok]; exact gx_w8_sum c2, hroom⟩
            have hrun := gx_rP (e := e) (below := below) (locs := locs) (H := H) (as := as9.map (gx_cv ad ext)) (b := ad a9) hF h0 hok hM ⟨hbl, hPc⟩ q4 ⟨cell, q1, by rw [q2]; rfl, q3⟩ hrt (by rw [List.length_map]; exact hlen) hd
            rw [hst, List.map_append, List.map_reverse]
            exact hrun
          · cases h
        · cases h
      · cases h
  | invokevirtual ix =>
    unfold gx_ins at h
    dsimp only at h
    replace h := gx_k_some h
    obtain ⟨hlen, h⟩ := h
    subst hlen
    split at h
    · rename_i n8 hn8
      split at h
      · rename_i as9 a9 rest9 hpop
        obtain ⟨hlen, hst⟩ := gx_pop_some hpop
        unfold gx_vcall at h
        split at h
        · rename_i e9 he
          obtain ⟨hin, hp⟩ := gx_find_in he
          have hp2 : e9.1 = ix ∧ e9.2.1 = gx_tag S a9 := by simpa using hp
          have hok := gx_vT_ok (gx_oc Y) _ hin
          have htg := gx_vT_tag _ hoc _ hin
          obtain ⟨i9, t9, k9, n9, Y9⟩ := e9
          dsimp only at hp2 h hok htg
          obtain ⟨rfl, rfl⟩ := hp2
          split at h
          · rename_i hnn
            dsimp only at hlen hst
            have htag9 : gx_wf S → gx_tag S a9 < 15 := fun hwf => by
              have h1 : a9 < gx_n S := gx_cs_head (hpush hst).2 a9 rfl
              have h2 := hwf.2.1 a9 h1
              omega
            obtain ⟨⟨c1, c2, c3, c4, c5⟩, rfl, rfl, rfl, rfl, rfl, rfl⟩ := gx_call_some h
            obtain ⟨hc1, hc2⟩ := hpush hst
            refine ⟨rfl, rfl, rfl, hok.1, c4, c5, gx_cs_cons (gx_cs_head hc2) hc1, gx_cs_tail hc2, ?_⟩
            intro ad H locs lsA cells slots mc ms Pc Qc XC free hW hS hsz hroom hbl hPc hM
            have htag := htag9 hW.1
            obtain ⟨cell, q1, q2, q3, q4⟩ := gx_cls_at hW hE.1 htag
            have h0 : gx_C0 R c Y Y' lsA (rest.map (gx_cv ad ext)) cells slots mc ms := ⟨hok.1, c1, c3, hsz, by rw [gx_sum_cat heok]; exact gx_w8_sum c2, hroom⟩
            have hrun := gx_rV (e := e) (below := below) (locs := locs) (H := H) (as := as9.map (gx_cv ad ext)) (b := ad a9) hF h0 hok hM ⟨hbl, ⟨cell, q1, by rw [q2]; rfl, q3⟩, hPc⟩ (by rw [List.length_map]; exact hlen.trans hnn.symm) hd
            rw [hst, List.map_append, List.map_reverse]
            exact hrun
          · cases h
        · cases h
      · rename_i as9 j9 rest9 hpop
        obtain ⟨hlen, hst⟩ := gx_pop_some hpop
        split at h
        · rename_i hj
          unfold gx_vcall at h
          split at h
          · rename_i e9 he
            obtain ⟨hin, hp⟩ := gx_find_in he
            have hp2 : e9.1 = ix ∧ e9.2.1 = 200 := by simpa using hp
            have hok := gx_vT_ok (gx_oc Y) _ hin
            obtain ⟨i9, t9, k9, n9, Y9⟩ := e9
            dsimp only at hp2 h hok
            obtain ⟨rfl, rfl⟩ := hp2
            split at h
            · rename_i hnn
              obtain ⟨⟨c1, c2, c3, c4, c5⟩, rfl, rfl, rfl, rfl, rfl, rfl⟩ := gx_call_some h
              dsimp only at hlen hst
              obtain ⟨hc1, hc2⟩ := hpush hst
              refine ⟨rfl, rfl, rfl, hok.1, c4, c5, gx_cs_cons (gx_cs_head hc2) hc1, gx_cs_tail hc2, ?_⟩
              intro ad H locs lsA cells slots mc ms Pc Qc XC free hW hS hsz hroom hbl hPc hM
              obtain ⟨-, -, -, -, -, ⟨adK, adV, h6, h7⟩, -⟩ := hE
              obtain ⟨e1, -, -⟩ := h7 (j9 - 16) (by omega)
              rw [show 16 + (j9 - 16) = j9 by omega] at e1
              have hrec := vk_recv h6 (i := j9 - 16) (by omega) hS
              have h0 : gx_C0 R c Y Y' lsA (rest.map (gx_cv ad ext)) cells slots mc ms := ⟨hok.1, c1, c3, hsz, by rw [gx_sum_cat heok]; exact gx_w8_sum c2, hroom⟩
              have e2 : gx_cv ad ext (.retAddr j9) = .ref (adK (j9 - 16)) := e1
              have hPc' : ∀ U : State, U.heap = H → s.WarmedH U.vm → Pc (Value.ref (adK (j9 - 16)) :: as9.map (gx_cv ad ext)).toArray U := fun U hU hw => by
                have := hPc U hU hw
                rw [List.map_cons, e2] at this
                exact this
              have hrun := gx_rV (e := e) (below := below) (locs := locs) (H := H) (as := as9.map (gx_cv ad ext)) (b := adK (j9 - 16)) (tg := 200) hF h0 hok hM ⟨hbl, hrec, hPc'⟩ (by rw [List.length_map]; exact hlen.trans hnn.symm) hd
              rw [hst, List.map_append, List.map_reverse, List.map_cons, List.map_cons, e2]
              exact hrun
            · cases h
          · cases h
        · cases h
      · cases h
    · cases h
  | _ =>
    exfalso
    revert h
    refine (show gx_nc _ from ?_) _
    unfold gx_ins
    dsimp only
    (repeat' (first | exact gx_nc_none | exact gx_nc_go | exact gx_nc_thr | exact gx_nc_exc | exact gx_nc_npe | exact gx_nc_oob | exact gx_nc_ald | exact gx_nc_ast | exact gx_nc_done | refine gx_nc_k ?_ | refine gx_nc_br fun _ => ?_ | refine gx_nc_ldI fun _ => ?_ | refine gx_nc_ldJ fun _ => ?_ | refine gx_nc_ldR fun _ => ?_ | refine gx_nc_stI fun _ _ => ?_ | refine gx_nc_stJ fun _ _ => ?_ | refine gx_nc_stR fun _ _ => ?_ | refine gx_nc_ii fun _ => ?_ | refine gx_nc_jj fun _ => ?_ | refine gx_nc_i1 fun _ => ?_ | refine gx_nc_j1 fun _ => ?_ | refine gx_nc_if1 ?_ ?_ | refine gx_nc_if2 ?_ ?_ | refine gx_nc_ifa ?_ ?_ | split))
end GXCL
