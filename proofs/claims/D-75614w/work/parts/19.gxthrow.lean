set_option maxRecDepth 100000
/-! ===== an instruction that throws: sound (printed by tools/gen19.py) ===== -/
def gx_nt (x : Option gx_A) : Prop := ∀ q S', x ≠ some (.inr (.inr (.inr (q, S'))))
section GXNT
variable {S : gx_S}
theorem gx_nt_none : gx_nt none := fun _ _ h => by cases h
theorem gx_nt_go {pc : Nat} {ls st : List Value} {S' : gx_S} : gx_nt (gx_go pc ls st S') := fun _ _ e => by cases e
theorem gx_nt_done {v : Option Value} {S' : gx_S} : gx_nt (gx_done v S') := fun _ _ e => by cases e
theorem gx_nt_call {Y Y' : gx_Y} {as rest : List Value} {npc : Nat} {ls : List Value} : gx_nt (gx_call Y Y' as S npc ls rest) := by
  unfold gx_call
  split
  · intro _ _ e
    cases e
  · exact gx_nt_none
theorem gx_nt_vcall {Y : gx_Y} {ix npc tg n : Nat} {b : Value} {ls st as rest : List Value} : gx_nt (gx_vcall Y ix npc ls st S b tg n as rest) := by
  unfold gx_vcall
  split
  · split
    · exact gx_nt_call
    · exact gx_nt_none
  · exact gx_nt_none
theorem gx_nt_k {len n : Nat} {x : Option gx_A} (h : gx_nt x) : gx_nt (gx_k len n x) := by
  unfold gx_k
  split
  · exact h
  · exact gx_nt_none
theorem gx_nt_br {pc : Nat} {off : Int} {f : Nat → Option gx_A} (h : ∀ t, gx_nt (f t)) : gx_nt (gx_br pc off f) := by
  unfold gx_br
  split
  · exact h _
  · exact gx_nt_none
theorem gx_nt_ldI {ls : List Value} {i : Nat} {f : Value → Option gx_A} (h : ∀ v, gx_nt (f v)) : gx_nt (gx_ldI ls i f) := by
  unfold gx_ldI
  split
  · exact h _
  · exact gx_nt_none
theorem gx_nt_ldJ {ls : List Value} {i : Nat} {f : Value → Option gx_A} (h : ∀ v, gx_nt (f v)) : gx_nt (gx_ldJ ls i f) := by
  unfold gx_ldJ
  split
  · exact h _
  · exact gx_nt_none
theorem gx_nt_ldR {ls : List Value} {i : Nat} {f : Value → Option gx_A} (h : ∀ v, gx_nt (f v)) : gx_nt (gx_ldR ls i f) := by
  unfold gx_ldR
  split
  · split
    · exact h _
    · exact gx_nt_none
  · exact gx_nt_none
theorem gx_nt_stI {Y : gx_Y} {i : Nat} {ls st : List Value} {f : List Value → List Value → Option gx_A} (h : ∀ v w, gx_nt (f v w)) : gx_nt (gx_stI Y i ls st f) := by
  unfold gx_stI
  split
  · split
    · exact h _ _
    · exact gx_nt_none
  · exact gx_nt_none
theorem gx_nt_stJ {Y : gx_Y} {i : Nat} {ls st : List Value} {f : List Value → List Value → Option gx_A} (h : ∀ v w, gx_nt (f v w)) : gx_nt (gx_stJ Y i ls st f) := by
  unfold gx_stJ
  split
  · split
    · exact h _ _
    · exact gx_nt_none
  · exact gx_nt_none
theorem gx_nt_stR {Y : gx_Y} {i : Nat} {ls st : List Value} {f : List Value → List Value → Option gx_A} (h : ∀ v w, gx_nt (f v w)) : gx_nt (gx_stR Y i ls st f) := by
  unfold gx_stR
  split
  · split
    · exact h _ _
    · exact gx_nt_none
  · exact gx_nt_none
theorem gx_nt_ii {st : List Value} {f : Int32 → Int32 → Option Value} {k : List Value → Option gx_A} (h : ∀ l, gx_nt (k l)) : gx_nt (gx_ii st f k) := by
  unfold gx_ii
  split
  · split
    · exact h _
    · exact gx_nt_none
  · exact gx_nt_none
theorem gx_nt_jj {st : List Value} {f : Int64 → Int64 → Option Value} {k : List Value → Option gx_A} (h : ∀ l, gx_nt (k l)) : gx_nt (gx_jj st f k) := by
  unfold gx_jj
  split
  · split
    · exact h _
    · exact gx_nt_none
  · exact gx_nt_none
theorem gx_nt_i1 {st : List Value} {f : Int32 → Value} {k : List Value → Option gx_A} (h : ∀ l, gx_nt (k l)) : gx_nt (gx_i1 st f k) := by
  unfold gx_i1
  split
  · exact h _
  · exact gx_nt_none
theorem gx_nt_j1 {st : List Value} {f : Int64 → Value} {k : List Value → Option gx_A} (h : ∀ l, gx_nt (k l)) : gx_nt (gx_j1 st f k) := by
  unfold gx_j1
  split
  · exact h _
  · exact gx_nt_none
theorem gx_nt_if1 {c : Jvm.ClassFile.Cond} {x : Int32} {A B : Option gx_A} (h1 : gx_nt A) (h2 : gx_nt B) : gx_nt (gx_if1 c x A B) := by
  unfold gx_if1
  split <;> split <;> assumption
theorem gx_nt_if2 {c : Jvm.ClassFile.Cond} {x y : Int32} {A B : Option gx_A} (h1 : gx_nt A) (h2 : gx_nt B) : gx_nt (gx_if2 c x y A B) := by
  unfold gx_if2
  split <;> split <;> assumption
theorem gx_nt_ifa {c : ACond} {v w : Value} {A B : Option gx_A} (h1 : gx_nt A) (h2 : gx_nt B) : gx_nt (gx_ifa c v w A B) := by
  unfold gx_ifa
  split <;> split <;> assumption
end GXNT
section GXTH
variable {p : Program} {l : Launch} {e : Env} {R : Room} {s : State} {m : MethodId} {args : Array Value} {below : List Frame} {meth : Method} {c : Code} {Q : State → Prop} {Y : gx_Y} {D : va_G} {dT : Nat → ClassId} {ext : Nat → Value} {A : Nat → Prop} {c0 s0 : Nat}
variable {pc len q : Nat} {ls st : List Value} {S S' : gx_S} {i : Instr}
theorem gx_thr_some {q0 : Nat} {S0 : gx_S} (h : gx_thr q0 S0 = some (.inr (.inr (.inr (q, S'))))) : q = q0 ∧ S' = S0 := by
  unfold gx_thr at h
  cases h
  exact ⟨rfl, rfl⟩
theorem gx_oob_some {S0 : gx_S} {n : Nat} (h : gx_oob S0 n = some (.inr (.inr (.inr (q, S'))))) : n ≤ 65536 ∧ q = S0.1.1 ∧ S' = gx_mk S0 13 0 3 1010 := by
  unfold gx_oob at h
  split at h
  · exact ⟨by assumption, gx_thr_some h⟩
  · cases h
theorem gx_ald_thr {a : Nat} {i : Int32} {v : Value} (h : gx_ald S a i v pc ls st = some (.inr (.inr (.inr (q, S'))))) : (i < 0 ∨ gx_len S a ≤ i.toNatClampNeg) ∧ gx_len S a ≤ 65536 ∧ q = S.1.1 ∧ S' = gx_mk S 13 0 3 1010 := by
  unfold gx_ald at h
  split at h
  · exact ⟨by assumption, gx_oob_some h⟩
  · exact absurd h (gx_nt_go _ _)
theorem gx_ast_thr {a : Nat} {i : Int32} {v : Value} (h : gx_ast S a i v pc ls st = some (.inr (.inr (.inr (q, S'))))) : (i < 0 ∨ gx_len S a ≤ i.toNatClampNeg) ∧ gx_len S a ≤ 65536 ∧ q = S.1.1 ∧ S' = gx_mk S 13 0 3 1010 := by
  unfold gx_ast at h
  split at h
  · exact ⟨by assumption, gx_oob_some h⟩
  · exact absurd h (gx_nt_go _ _)
/-- what arraycopy throws (shown in a part of its own) -/
def gx_NT : Prop := ∀ (p : Program) (l : Launch) (e : Env) (R : Room) (s : State) (m : MethodId) (args : Array Value) (below : List Frame) (meth : Method) (c : Code) (Q : State → Prop) (Y : gx_Y) (D : va_G) (dT : Nat → ClassId) (ext : Nat → Value) (A : Nat → Prop) (c0 s0 pc ix : Nat) (ls st : List Value) (S : gx_S) (q : Nat) (S' : gx_S), gx_Fr p l R s m args meth c Y D dT ext A → decode (gx_cd Y) pc = .ok (.invokestatic ix, 3) → Cond.methodLink (gx_cname (gx_oc Y)) ix arraycopyName ∈ lw_all → st.length ≤ 32 → gx_copy Y pc ls st S = some (.inr (.inr (.inr (q, S')))) → (c0 ≤ S.1.2.2.2.1 ∧ s0 ≤ S.1.2.2.2.2) → (S'.1.2.2.2.1 - c0 ≤ R.cells ∧ S'.1.2.2.2.2 - s0 ≤ R.slots) → gx_X p l e R s m args below meth c Q Y D dT ext A c0 s0 pc ls q S' → gx_K p l e R s m args below meth c Q Y D dT ext A c0 s0 pc ls st S
set_option maxHeartbeats 8000000 in
theorem gx_ins_thr (hNT : gx_NT) (hF : gx_Fr p l R s m args meth c Y D dT ext A) (hd : decode (gx_cd Y) pc = .ok (i, len)) (h32 : st.length ≤ 32) (h : gx_ins Y pc len ls st S i = some (.inr (.inr (.inr (q, S'))))) (hc : c0 ≤ S.1.2.2.2.1 ∧ s0 ≤ S.1.2.2.2.2) (hR : S'.1.2.2.2.1 - c0 ≤ R.cells ∧ S'.1.2.2.2.2 - s0 ≤ R.slots) (hX : gx_X p l e R s m args below meth c Q Y D dT ext A c0 s0 pc ls q S') : gx_K p l e R s m args below meth c Q Y D dT ext A c0 s0 pc ls st S := by
  cases i with
  | iaload =>
    unfold gx_ins at h
    dsimp only at h
    replace h := gx_k_some h
    obtain ⟨hlen, h⟩ := h
    subst hlen
    split at h
    · split at h
      · rename_i ht
        obtain ⟨hin, hn9, rfl, rfl⟩ := gx_ald_thr h
        exact gx_ialdZ hF hd (by simp only [List.length_cons] at h32; omega) ht hin hn9 hc hR hX
      · cases h
    · obtain ⟨rfl, rfl⟩ := gx_thr_some h
      exact gx_ialdN hF hd (by simp only [List.length_cons] at h32; omega) hc hR hX
    · split at h
      · exact absurd h (gx_nt_go _ _)
      · cases h
    · cases h
  | baload =>
    unfold gx_ins at h
    dsimp only at h
    replace h := gx_k_some h
    obtain ⟨hlen, h⟩ := h
    subst hlen
    split at h
    · split at h
      · rename_i ht
        obtain ⟨hin, hn9, rfl, rfl⟩ := gx_ald_thr h
        rcases ht with ht | ht
        · exact gx_baldZ hF hd (by simp only [List.length_cons] at h32; omega) ht hin hn9 hc hR hX
        · exact gx_zaldZ hF hd (by simp only [List.length_cons] at h32; omega) ht hin hn9 hc hR hX
      · cases h
    · split at h
      · exact absurd h (gx_nt_go _ _)
      · cases h
    · cases h
  | saload =>
    unfold gx_ins at h
    dsimp only at h
    replace h := gx_k_some h
    obtain ⟨hlen, h⟩ := h
    subst hlen
    split at h
    · split at h
      · rename_i ht
        obtain ⟨hin, hn9, rfl, rfl⟩ := gx_ald_thr h
        exact gx_saldZ hF hd (by simp only [List.length_cons] at h32; omega) ht hin hn9 hc hR hX
      · cases h
    · cases h
  | laload =>
    unfold gx_ins at h
    dsimp only at h
    replace h := gx_k_some h
    obtain ⟨hlen, h⟩ := h
    subst hlen
    split at h
    · split at h
      · rename_i ht
        obtain ⟨hin, hn9, rfl, rfl⟩ := gx_ald_thr h
        exact gx_laldZ hF hd (by simp only [List.length_cons] at h32; omega) ht hin hn9 hc hR hX
      · cases h
    · obtain ⟨rfl, rfl⟩ := gx_thr_some h
      exact gx_laldN hF hd (by simp only [List.length_cons] at h32; omega) hc hR hX
    · cases h
  | iastore =>
    unfold gx_ins at h
    dsimp only at h
    replace h := gx_k_some h
    obtain ⟨hlen, h⟩ := h
    subst hlen
    split at h
    · split at h
      · rename_i ht
        obtain ⟨hin, hn9, rfl, rfl⟩ := gx_ast_thr h
        exact gx_iastZ hF hd (by simp only [List.length_cons] at h32; omega) ht hin hn9 hc hR hX
      · cases h
    · cases h
  | bastore =>
    unfold gx_ins at h
    dsimp only at h
    replace h := gx_k_some h
    obtain ⟨hlen, h⟩ := h
    subst hlen
    split at h
    · split at h
      · rename_i ht
        obtain ⟨hin, hn9, rfl, rfl⟩ := gx_ast_thr h
        exact gx_bastZ hF hd (by simp only [List.length_cons] at h32; omega) ht hin hn9 hc hR hX
      · split at h
        · rename_i ht
          obtain ⟨hin, hn9, rfl, rfl⟩ := gx_ast_thr h
          exact gx_zastZ hF hd (by simp only [List.length_cons] at h32; omega) ht hin hn9 hc hR hX
        · cases h
    · cases h
  | sastore =>
    unfold gx_ins at h
    dsimp only at h
    replace h := gx_k_some h
    obtain ⟨hlen, h⟩ := h
    subst hlen
    split at h
    · split at h
      · rename_i ht
        obtain ⟨hin, hn9, rfl, rfl⟩ := gx_ast_thr h
        exact gx_sastZ hF hd (by simp only [List.length_cons] at h32; omega) ht hin hn9 hc hR hX
      · cases h
    · cases h
  | lastore =>
    unfold gx_ins at h
    dsimp only at h
    replace h := gx_k_some h
    obtain ⟨hlen, h⟩ := h
    subst hlen
    split at h
    · split at h
      · rename_i ht
        obtain ⟨hin, hn9, rfl, rfl⟩ := gx_ast_thr h
        exact gx_lastZ hF hd (by simp only [List.length_cons] at h32; omega) ht hin hn9 hc hR hX
      · cases h
    · obtain ⟨rfl, rfl⟩ := gx_thr_some h
      exact gx_lastN hF hd (by simp only [List.length_cons] at h32; omega) hc hR hX
    · cases h
  | arraylength =>
    unfold gx_ins at h
    dsimp only at h
    replace h := gx_k_some h
    obtain ⟨hlen, h⟩ := h
    subst hlen
    split at h
    · split at h
      · exact absurd h (gx_nt_go _ _)
      · cases h
    · obtain ⟨rfl, rfl⟩ := gx_thr_some h
      exact gx_alenN hF hd (by simp only [List.length_cons] at h32; omega) hc hR hX
    · split at h
      · exact absurd h (gx_nt_go _ _)
      · cases h
    · cases h
  | newarray at_ =>
    unfold gx_ins at h
    dsimp only at h
    replace h := gx_k_some h
    obtain ⟨hlen, h⟩ := h
    subst hlen
    split at h
    · split at h
      · split at h
        · rename_i hn
          obtain ⟨rfl, rfl⟩ := gx_thr_some h
          exact gx_newZ hF hd (by simp only [List.length_cons] at h32; omega) hn hc hR hX
        · split at h
          · exact absurd h (gx_nt_go _ _)
          · cases h
      · cases h
    · cases h
  | athrow =>
    unfold gx_ins at h
    dsimp only at h
    replace h := gx_k_some h
    obtain ⟨hlen, h⟩ := h
    subst hlen
    split at h
    · split at h
      · rename_i ht
        obtain ⟨rfl, rfl⟩ := gx_thr_some h
        exact gx_athr hF hd ht hX
      · cases h
    · cases h
  | invokestatic ix =>
    unfold gx_ins at h
    dsimp only at h
    replace h := gx_k_some h
    obtain ⟨hlen, h⟩ := h
    subst hlen
    split at h
    · rename_i e9 he
      obtain ⟨hin, hp⟩ := gx_find_in he
      have hix : e9.1 = ix := by simpa using hp
      have hok := gx_bT_ok (gx_oc Y) _ hin
      unfold gx_okB at hok
      rw [hix] at hok
      unfold gx_bi at h
      split at h
      · exact absurd h ((show gx_nt _ by (repeat' (first | exact gx_nt_none | exact gx_nt_go | exact gx_nt_done | exact gx_nt_call | exact gx_nt_vcall | refine gx_nt_k ?_ | refine gx_nt_br fun _ => ?_ | refine gx_nt_ldI fun _ => ?_ | refine gx_nt_ldJ fun _ => ?_ | refine gx_nt_ldR fun _ => ?_ | refine gx_nt_stI fun _ _ => ?_ | refine gx_nt_stJ fun _ _ => ?_ | refine gx_nt_stR fun _ _ => ?_ | refine gx_nt_ii fun _ => ?_ | refine gx_nt_jj fun _ => ?_ | refine gx_nt_i1 fun _ => ?_ | refine gx_nt_j1 fun _ => ?_ | refine gx_nt_if1 ?_ ?_ | refine gx_nt_if2 ?_ ?_ | refine gx_nt_ifa ?_ ?_ | split))) _ _)
      · exact absurd h ((show gx_nt _ by (repeat' (first | exact gx_nt_none | exact gx_nt_go | exact gx_nt_done | exact gx_nt_call | exact gx_nt_vcall | refine gx_nt_k ?_ | refine gx_nt_br fun _ => ?_ | refine gx_nt_ldI fun _ => ?_ | refine gx_nt_ldJ fun _ => ?_ | refine gx_nt_ldR fun _ => ?_ | refine gx_nt_stI fun _ _ => ?_ | refine gx_nt_stJ fun _ _ => ?_ | refine gx_nt_stR fun _ _ => ?_ | refine gx_nt_ii fun _ => ?_ | refine gx_nt_jj fun _ => ?_ | refine gx_nt_i1 fun _ => ?_ | refine gx_nt_j1 fun _ => ?_ | refine gx_nt_if1 ?_ ?_ | refine gx_nt_if2 ?_ ?_ | refine gx_nt_ifa ?_ ?_ | split))) _ _)
      · exact absurd h ((show gx_nt _ by (repeat' (first | exact gx_nt_none | exact gx_nt_go | exact gx_nt_done | exact gx_nt_call | exact gx_nt_vcall | refine gx_nt_k ?_ | refine gx_nt_br fun _ => ?_ | refine gx_nt_ldI fun _ => ?_ | refine gx_nt_ldJ fun _ => ?_ | refine gx_nt_ldR fun _ => ?_ | refine gx_nt_stI fun _ _ => ?_ | refine gx_nt_stJ fun _ _ => ?_ | refine gx_nt_stR fun _ _ => ?_ | refine gx_nt_ii fun _ => ?_ | refine gx_nt_jj fun _ => ?_ | refine gx_nt_i1 fun _ => ?_ | refine gx_nt_j1 fun _ => ?_ | refine gx_nt_if1 ?_ ?_ | refine gx_nt_if2 ?_ ?_ | refine gx_nt_ifa ?_ ?_ | split))) _ _)
      · rename_i hb9
        rw [hb9] at hok
        exact hNT _ _ _ _ _ _ _ _ _ _ _ _ _ _ _ _ _ _ _ _ _ _ _ _ _ hF hd hok h32 h hc hR hX
      · cases h
    · split at h
      · split at h
        · exact absurd h (gx_nt_call _ _)
        · cases h
      · cases h
  | _ =>
    exfalso
    revert h
    show _ → False
    refine (show gx_nt _ from ?_) q S'
    unfold gx_ins
    dsimp only
    (repeat' (first | exact gx_nt_none | exact gx_nt_go | exact gx_nt_done | exact gx_nt_call | exact gx_nt_vcall | refine gx_nt_k ?_ | refine gx_nt_br fun _ => ?_ | refine gx_nt_ldI fun _ => ?_ | refine gx_nt_ldJ fun _ => ?_ | refine gx_nt_ldR fun _ => ?_ | refine gx_nt_stI fun _ _ => ?_ | refine gx_nt_stJ fun _ _ => ?_ | refine gx_nt_stR fun _ _ => ?_ | refine gx_nt_ii fun _ => ?_ | refine gx_nt_jj fun _ => ?_ | refine gx_nt_i1 fun _ => ?_ | refine gx_nt_j1 fun _ => ?_ | refine gx_nt_if1 ?_ ?_ | refine gx_nt_if2 ?_ ?_ | refine gx_nt_ifa ?_ ?_ | split))
end GXTH
