set_option maxRecDepth 100000
/-! ===== what a step leaves: no fewer objects, cells, slots ===== -/
def gx_aS (a : gx_A) : gx_S := match a with
  | .inl (_, _, _, S) => S
  | .inr (.inl (_, S)) => S
  | .inr (.inr (.inl (_, _, S, _, _, _))) => S
  | .inr (.inr (.inr (_, S))) => S
def gx_le (S S' : gx_S) : Prop := gx_n S ≤ gx_n S' ∧ S.1.2.2.2.1 ≤ S'.1.2.2.2.1 ∧ S.1.2.2.2.2 ≤ S'.1.2.2.2.2
theorem gx_le_refl (S : gx_S) : gx_le S S := ⟨Nat.le_refl _, Nat.le_refl _, Nat.le_refl _⟩
theorem gx_le.trans {A B C : gx_S} (h : gx_le A B) (k : gx_le B C) : gx_le A C := ⟨Nat.le_trans h.1 k.1, Nat.le_trans h.2.1 k.2.1, Nat.le_trans h.2.2 k.2.2⟩
def gx_mo (S : gx_S) (x : Option gx_A) : Prop := ∀ a, x = some a → gx_le S (gx_aS a)
section GXMO
variable {S : gx_S}
theorem gx_mo_none : gx_mo S none := fun _ h => by cases h
theorem gx_mo_go {pc : Nat} {ls st : List Value} {S' : gx_S} (h : gx_le S S') : gx_mo S (gx_go pc ls st S') := fun a e => by cases e; exact h
theorem gx_mo_done {v : Option Value} {S' : gx_S} (h : gx_le S S') : gx_mo S (gx_done v S') := fun a e => by cases e; exact h
theorem gx_mo_thr {q : Nat} {S' : gx_S} (h : gx_le S S') : gx_mo S (gx_thr q S') := fun a e => by cases e; exact h
theorem gx_le_put {a k : Nat} {v : Value} : gx_le S (gx_put S a k v) := by
  unfold gx_le gx_n
  rw [gx_put_n]
  exact ⟨Nat.le_refl _, Nat.le_refl _, Nat.le_refl _⟩
theorem gx_le_mk {tg ln dc ds : Nat} : gx_le S (gx_mk S tg ln dc ds) := ⟨Nat.le_succ _, Nat.le_add_right _ _, Nat.le_add_right _ _⟩
theorem gx_mo_exc {tg dc ds : Nat} : gx_mo S (gx_exc S tg dc ds) := gx_mo_thr gx_le_mk
theorem gx_mo_npe : gx_mo S (gx_npe S) := gx_mo_exc
theorem gx_mo_oob {n : Nat} : gx_mo S (gx_oob S n) := by
  unfold gx_oob
  split
  · exact gx_mo_exc
  · exact gx_mo_none
theorem gx_mo_k {len n : Nat} {x : Option gx_A} (h : gx_mo S x) : gx_mo S (gx_k len n x) := by
  unfold gx_k
  split
  · exact h
  · exact gx_mo_none
theorem gx_mo_br {pc : Nat} {off : Int} {f : Nat → Option gx_A} (h : ∀ t, gx_mo S (f t)) : gx_mo S (gx_br pc off f) := by
  unfold gx_br
  split
  · exact h _
  · exact gx_mo_none
theorem gx_mo_ldI {ls : List Value} {i : Nat} {f : Value → Option gx_A} (h : ∀ v, gx_mo S (f v)) : gx_mo S (gx_ldI ls i f) := by
  unfold gx_ldI
  split
  · exact h _
  · exact gx_mo_none
theorem gx_mo_ldJ {ls : List Value} {i : Nat} {f : Value → Option gx_A} (h : ∀ v, gx_mo S (f v)) : gx_mo S (gx_ldJ ls i f) := by
  unfold gx_ldJ
  split
  · exact h _
  · exact gx_mo_none
theorem gx_mo_ldR {ls : List Value} {i : Nat} {f : Value → Option gx_A} (h : ∀ v, gx_mo S (f v)) : gx_mo S (gx_ldR ls i f) := by
  unfold gx_ldR
  split
  · split
    · exact h _
    · exact gx_mo_none
  · exact gx_mo_none
theorem gx_mo_stI {Y : gx_Y} {i : Nat} {ls st : List Value} {f : List Value → List Value → Option gx_A} (h : ∀ v w, gx_mo S (f v w)) : gx_mo S (gx_stI Y i ls st f) := by
  unfold gx_stI
  split
  · split
    · exact h _ _
    · exact gx_mo_none
  · exact gx_mo_none
theorem gx_mo_stJ {Y : gx_Y} {i : Nat} {ls st : List Value} {f : List Value → List Value → Option gx_A} (h : ∀ v w, gx_mo S (f v w)) : gx_mo S (gx_stJ Y i ls st f) := by
  unfold gx_stJ
  split
  · split
    · exact h _ _
    · exact gx_mo_none
  · exact gx_mo_none
theorem gx_mo_stR {Y : gx_Y} {i : Nat} {ls st : List Value} {f : List Value → List Value → Option gx_A} (h : ∀ v w, gx_mo S (f v w)) : gx_mo S (gx_stR Y i ls st f) := by
  unfold gx_stR
  split
  · split
    · exact h _ _
    · exact gx_mo_none
  · exact gx_mo_none
theorem gx_mo_ii {st : List Value} {f : Int32 → Int32 → Option Value} {k : List Value → Option gx_A} (h : ∀ l, gx_mo S (k l)) : gx_mo S (gx_ii st f k) := by
  unfold gx_ii
  split
  · split
    · exact h _
    · exact gx_mo_none
  · exact gx_mo_none
theorem gx_mo_jj {st : List Value} {f : Int64 → Int64 → Option Value} {k : List Value → Option gx_A} (h : ∀ l, gx_mo S (k l)) : gx_mo S (gx_jj st f k) := by
  unfold gx_jj
  split
  · split
    · exact h _
    · exact gx_mo_none
  · exact gx_mo_none
theorem gx_mo_i1 {st : List Value} {f : Int32 → Value} {k : List Value → Option gx_A} (h : ∀ l, gx_mo S (k l)) : gx_mo S (gx_i1 st f k) := by
  unfold gx_i1
  split
  · exact h _
  · exact gx_mo_none
theorem gx_mo_j1 {st : List Value} {f : Int64 → Value} {k : List Value → Option gx_A} (h : ∀ l, gx_mo S (k l)) : gx_mo S (gx_j1 st f k) := by
  unfold gx_j1
  split
  · exact h _
  · exact gx_mo_none
theorem gx_mo_if1 {c : Jvm.ClassFile.Cond} {x : Int32} {A B : Option gx_A} (h1 : gx_mo S A) (h2 : gx_mo S B) : gx_mo S (gx_if1 c x A B) := by
  unfold gx_if1
  split <;> split <;> assumption
theorem gx_mo_if2 {c : Jvm.ClassFile.Cond} {x y : Int32} {A B : Option gx_A} (h1 : gx_mo S A) (h2 : gx_mo S B) : gx_mo S (gx_if2 c x y A B) := by
  unfold gx_if2
  split <;> split <;> assumption
theorem gx_mo_ifa {c : ACond} {v w : Value} {A B : Option gx_A} (h1 : gx_mo S A) (h2 : gx_mo S B) : gx_mo S (gx_ifa c v w A B) := by
  unfold gx_ifa
  split <;> split <;> assumption
theorem gx_mo_call {Y Y' : gx_Y} {as rest : List Value} {npc : Nat} {ls : List Value} : gx_mo S (gx_call Y Y' as S npc ls rest) := by
  unfold gx_call
  split
  · intro a e
    cases e
    exact gx_le_refl S
  · exact gx_mo_none
theorem gx_mo_vcall {Y : gx_Y} {ix npc tg n : Nat} {b : Value} {ls st as rest : List Value} : gx_mo S (gx_vcall Y ix npc ls st S b tg n as rest) := by
  unfold gx_vcall
  split
  · split
    · exact gx_mo_call
    · exact gx_mo_none
  · exact gx_mo_none
theorem gx_mo_ald {a : Nat} {i : Int32} {v : Value} {pc : Nat} {ls st : List Value} : gx_mo S (gx_ald S a i v pc ls st) := by
  unfold gx_ald
  split
  · exact gx_mo_oob
  · exact gx_mo_go (gx_le_refl S)
theorem gx_mo_ast {a : Nat} {i : Int32} {v : Value} {pc : Nat} {ls st : List Value} : gx_mo S (gx_ast S a i v pc ls st) := by
  unfold gx_ast
  split
  · exact gx_mo_oob
  · exact gx_mo_go gx_le_put
theorem gx_le_same {S' : gx_S} (h : S'.1 = S.1) : gx_le S S' := by
  unfold gx_le gx_n
  rw [h]
  exact ⟨Nat.le_refl _, Nat.le_refl _, Nat.le_refl _⟩
theorem gx_mo_copy {Y : gx_Y} {pc : Nat} {ls st : List Value} : gx_mo S (gx_copy Y pc ls st S) := by
  unfold gx_copy
  (repeat' (first | exact gx_mo_none | exact gx_mo_go (gx_le_refl _) | exact gx_mo_go gx_le_put | exact gx_mo_go gx_le_mk | exact gx_mo_done (gx_le_refl _) | exact gx_mo_thr (gx_le_refl _) | exact gx_mo_go (gx_le_same rfl) | exact gx_mo_exc | exact gx_mo_npe | exact gx_mo_oob | exact gx_mo_call | exact gx_mo_vcall | exact gx_mo_ald | exact gx_mo_ast | refine gx_mo_k ?_ | refine gx_mo_br fun _ => ?_ | refine gx_mo_ldI fun _ => ?_ | refine gx_mo_ldJ fun _ => ?_ | refine gx_mo_ldR fun _ => ?_ | refine gx_mo_stI fun _ _ => ?_ | refine gx_mo_stJ fun _ _ => ?_ | refine gx_mo_stR fun _ _ => ?_ | refine gx_mo_ii fun _ => ?_ | refine gx_mo_jj fun _ => ?_ | refine gx_mo_i1 fun _ => ?_ | refine gx_mo_j1 fun _ => ?_ | refine gx_mo_if1 ?_ ?_ | refine gx_mo_if2 ?_ ?_ | refine gx_mo_ifa ?_ ?_ | split))
theorem gx_mo_bi {Y : gx_Y} {b pc : Nat} {ls st : List Value} : gx_mo S (gx_bi Y b pc ls st S) := by
  unfold gx_bi
  split
  · (repeat' (first | exact gx_mo_none | exact gx_mo_go (gx_le_refl _) | exact gx_mo_go gx_le_put | exact gx_mo_go gx_le_mk | exact gx_mo_done (gx_le_refl _) | exact gx_mo_thr (gx_le_refl _) | exact gx_mo_go (gx_le_same rfl) | exact gx_mo_exc | exact gx_mo_npe | exact gx_mo_oob | exact gx_mo_call | exact gx_mo_vcall | exact gx_mo_ald | exact gx_mo_ast | refine gx_mo_k ?_ | refine gx_mo_br fun _ => ?_ | refine gx_mo_ldI fun _ => ?_ | refine gx_mo_ldJ fun _ => ?_ | refine gx_mo_ldR fun _ => ?_ | refine gx_mo_stI fun _ _ => ?_ | refine gx_mo_stJ fun _ _ => ?_ | refine gx_mo_stR fun _ _ => ?_ | refine gx_mo_ii fun _ => ?_ | refine gx_mo_jj fun _ => ?_ | refine gx_mo_i1 fun _ => ?_ | refine gx_mo_j1 fun _ => ?_ | refine gx_mo_if1 ?_ ?_ | refine gx_mo_if2 ?_ ?_ | refine gx_mo_ifa ?_ ?_ | split))
  · (repeat' (first | exact gx_mo_none | exact gx_mo_go (gx_le_refl _) | exact gx_mo_go gx_le_put | exact gx_mo_go gx_le_mk | exact gx_mo_done (gx_le_refl _) | exact gx_mo_thr (gx_le_refl _) | exact gx_mo_go (gx_le_same rfl) | exact gx_mo_exc | exact gx_mo_npe | exact gx_mo_oob | exact gx_mo_call | exact gx_mo_vcall | exact gx_mo_ald | exact gx_mo_ast | refine gx_mo_k ?_ | refine gx_mo_br fun _ => ?_ | refine gx_mo_ldI fun _ => ?_ | refine gx_mo_ldJ fun _ => ?_ | refine gx_mo_ldR fun _ => ?_ | refine gx_mo_stI fun _ _ => ?_ | refine gx_mo_stJ fun _ _ => ?_ | refine gx_mo_stR fun _ _ => ?_ | refine gx_mo_ii fun _ => ?_ | refine gx_mo_jj fun _ => ?_ | refine gx_mo_i1 fun _ => ?_ | refine gx_mo_j1 fun _ => ?_ | refine gx_mo_if1 ?_ ?_ | refine gx_mo_if2 ?_ ?_ | refine gx_mo_ifa ?_ ?_ | split))
  · (repeat' (first | exact gx_mo_none | exact gx_mo_go (gx_le_refl _) | exact gx_mo_go gx_le_put | exact gx_mo_go gx_le_mk | exact gx_mo_done (gx_le_refl _) | exact gx_mo_thr (gx_le_refl _) | exact gx_mo_go (gx_le_same rfl) | exact gx_mo_exc | exact gx_mo_npe | exact gx_mo_oob | exact gx_mo_call | exact gx_mo_vcall | exact gx_mo_ald | exact gx_mo_ast | refine gx_mo_k ?_ | refine gx_mo_br fun _ => ?_ | refine gx_mo_ldI fun _ => ?_ | refine gx_mo_ldJ fun _ => ?_ | refine gx_mo_ldR fun _ => ?_ | refine gx_mo_stI fun _ _ => ?_ | refine gx_mo_stJ fun _ _ => ?_ | refine gx_mo_stR fun _ _ => ?_ | refine gx_mo_ii fun _ => ?_ | refine gx_mo_jj fun _ => ?_ | refine gx_mo_i1 fun _ => ?_ | refine gx_mo_j1 fun _ => ?_ | refine gx_mo_if1 ?_ ?_ | refine gx_mo_if2 ?_ ?_ | refine gx_mo_ifa ?_ ?_ | split))
  · exact gx_mo_copy
  · exact gx_mo_none
set_option maxHeartbeats 4000000 in
theorem gx_ins_mo {Y : gx_Y} {pc len : Nat} {ls st : List Value} {i : Instr} : gx_mo S (gx_ins Y pc len ls st S i) := by
  cases i <;> (unfold gx_ins; dsimp only) <;> (try exact gx_mo_none)
  all_goals (first | exact gx_mo_none | ((repeat' (first | exact gx_mo_none | exact gx_mo_go (gx_le_refl _) | exact gx_mo_go gx_le_put | exact gx_mo_go gx_le_mk | exact gx_mo_done (gx_le_refl _) | exact gx_mo_thr (gx_le_refl _) | exact gx_mo_go (gx_le_same rfl) | exact gx_mo_exc | exact gx_mo_npe | exact gx_mo_oob | exact gx_mo_call | exact gx_mo_vcall | exact gx_mo_ald | exact gx_mo_ast | refine gx_mo_k ?_ | refine gx_mo_br fun _ => ?_ | refine gx_mo_ldI fun _ => ?_ | refine gx_mo_ldJ fun _ => ?_ | refine gx_mo_ldR fun _ => ?_ | refine gx_mo_stI fun _ _ => ?_ | refine gx_mo_stJ fun _ _ => ?_ | refine gx_mo_stR fun _ _ => ?_ | refine gx_mo_ii fun _ => ?_ | refine gx_mo_jj fun _ => ?_ | refine gx_mo_i1 fun _ => ?_ | refine gx_mo_j1 fun _ => ?_ | refine gx_mo_if1 ?_ ?_ | refine gx_mo_if2 ?_ ?_ | refine gx_mo_ifa ?_ ?_ | split)); done) | (refine gx_mo_k ?_; split; exact gx_mo_bi; (repeat' (first | exact gx_mo_none | exact gx_mo_go (gx_le_refl _) | exact gx_mo_go gx_le_put | exact gx_mo_go gx_le_mk | exact gx_mo_done (gx_le_refl _) | exact gx_mo_thr (gx_le_refl _) | exact gx_mo_go (gx_le_same rfl) | exact gx_mo_exc | exact gx_mo_npe | exact gx_mo_oob | exact gx_mo_call | exact gx_mo_vcall | exact gx_mo_ald | exact gx_mo_ast | refine gx_mo_k ?_ | refine gx_mo_br fun _ => ?_ | refine gx_mo_ldI fun _ => ?_ | refine gx_mo_ldJ fun _ => ?_ | refine gx_mo_ldR fun _ => ?_ | refine gx_mo_stI fun _ _ => ?_ | refine gx_mo_stJ fun _ _ => ?_ | refine gx_mo_stR fun _ _ => ?_ | refine gx_mo_ii fun _ => ?_ | refine gx_mo_jj fun _ => ?_ | refine gx_mo_i1 fun _ => ?_ | refine gx_mo_j1 fun _ => ?_ | refine gx_mo_if1 ?_ ?_ | refine gx_mo_if2 ?_ ?_ | refine gx_mo_ifa ?_ ?_ | split)); done) | skip)
theorem gx_step_mo {Y : gx_Y} {pc : Nat} {ls st : List Value} : gx_mo S (gx_step Y pc ls st S) := by
  unfold gx_step
  split
  · split
    · exact gx_ins_mo
    · exact gx_mo_none
  · exact gx_mo_none
end GXMO
theorem gx_run_le : ∀ (n : Nat) (Y : gx_Y) (pc : Nat) (ls st : List Value) (S : gx_S) (r : gx_R), gx_run n Y pc ls st S = some r → gx_le S r.2
  | 0, _, _, _, _, _, _, h => by cases h
  | n + 1, Y, pc, ls, st, S, r, h => by
    have hm := gx_step_mo (S := S) (Y := Y) (pc := pc) (ls := ls) (st := st)
    unfold gx_run at h
    split at h
    · cases h
    · rename_i e
      exact (hm _ e).trans (gx_run_le n _ _ _ _ _ _ h)
    · rename_i e
      cases h
      exact hm _ e
    · rename_i e
      have h1 := hm _ e
      split at h
      · cases h
      · rename_i e2
        have h2 := gx_run_le n _ _ _ _ _ _ e2
        split at h
        · exact (h1.trans h2).trans (gx_run_le n _ _ _ _ _ _ h)
        · cases h
      · rename_i e2
        have h2 := gx_run_le n _ _ _ _ _ _ e2
        split at h
        · cases h
        · cases h
          exact h1.trans h2
        · exact (h1.trans h2).trans (gx_run_le n _ _ _ _ _ _ h)
    · rename_i e
      have h1 := hm _ e
      split at h
      · cases h
      · cases h
        exact h1
      · exact h1.trans (gx_run_le n _ _ _ _ _ _ h)
