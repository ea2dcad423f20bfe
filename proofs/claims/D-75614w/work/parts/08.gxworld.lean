set_option maxRecDepth 100000
/-! ===== the pure memory in the machine's heap ===== -/
def gx_cv (ad : Nat → Nat) (ext : Nat → Value) (v : Value) : Value := match v with
  | .ref k => .ref (ad k)
  | .retAddr j => ext j
  | v => v
def gx_op (ad : Nat → Nat) (v : Value) : Option Nat := match v with
  | .ref k => some (ad k)
  | _ => none
def gx_ct (ad : Nat → Nat) (S : gx_S) (a : Nat) : (Nat → Int32) ⊕ (Nat → Int64) ⊕ (Nat → UInt32) ⊕ (Nat → UInt64) ⊕ (Nat → Option Nat) :=
  if gx_tag S a = 36 then .inr (.inl (S.2.2.2 a)) else if 37 ≤ gx_tag S a then .inr (.inr (.inr (.inr (fun j => gx_op ad (S.2.1 a j))))) else .inl (S.2.2.1 a)
def gx_fs (ad : Nat → Nat) (ext : Nat → Value) (S : gx_S) (a : Nat) : List Value := (List.range (gx_N (gx_tag S a))).map fun k => gx_cv ad ext (gx_val S a k (gx_kd (gx_ty (gx_tag S a) k)))
def gx_ob (dT : Nat → ClassId) (ext : Nat → Value) (ad : Nat → Nat) (S : gx_S) (a : Nat) : va_E :=
  if gx_tag S a < 32 then .inr (gx_tag S a, gx_fs ad ext S a) else .inl (dT (gx_tag S a), gx_len S a, gx_ct ad S a)
def gx_ws (dT : Nat → ClassId) (ext : Nat → Value) (ad : Nat → Nat) (S : gx_S) : va_W := (List.range (gx_n S)).map fun a => (ad a, gx_ob dT ext ad S a)
def gx_tys (dT : Nat → ClassId) : List (ClassId × FieldType) := (List.range 8).map fun t => (dT (t + 32), gx_aty (t + 32))
/-- a value names objects that are there -/
def gx_c0 (S : gx_S) (v : Value) : Prop := ∀ b, v = .ref b → b < gx_n S
def gx_wf (S : gx_S) : Prop := (∀ a, gx_n S ≤ a → gx_tag S a = 255) ∧ (∀ a, a < gx_n S → gx_tag S a < 15 ∨ (32 ≤ gx_tag S a ∧ gx_tag S a ≤ 39)) ∧ (∀ a k, gx_c0 S (S.2.1 a k)) ∧
  (∀ a j, gx_tag S a = 33 → fits .byte (.int (S.2.2.1 a j)) = true) ∧ (∀ a j, gx_tag S a = 34 → fits .boolean (.int (S.2.2.1 a j)) = true) ∧ (∀ a j, gx_tag S a = 35 → fits .short (.int (S.2.2.1 a j)) = true)
/-- the addresses that were there at the method's start are as they were (kept in D beside the classes) -/
def gx_ag (D : va_G) (S : gx_S) (ad : Nat → Nat) : Prop := D.2 1001 0 ≤ gx_n S ∧ ∀ b, b < D.2 1001 0 → ad b = D.2 1000 b
def gx_Wd (D : va_G) (dT : Nat → ClassId) (ext : Nat → Value) (A : Nat → Prop) (S : gx_S) (ad : Nat → Nat) (H : Heap) : Prop :=
  gx_wf S ∧ va_P D gx_cl (gx_ws dT ext ad S) H ∧ va_D A (gx_ws dT ext ad S) ∧ gx_ag D S ad
theorem gx_ws_get {dT : Nat → ClassId} {ext : Nat → Value} {ad : Nat → Nat} {S : gx_S} {a : Nat} (h : a < gx_n S) : (gx_ws dT ext ad S)[a]? = some (ad a, gx_ob dT ext ad S a) := by
  simp [gx_ws, h]
theorem gx_ws_len {dT : Nat → ClassId} {ext : Nat → Value} {ad : Nat → Nat} {S : gx_S} : (gx_ws dT ext ad S).length = gx_n S := by simp [gx_ws]
theorem gx_ws_lt {dT : Nat → ClassId} {ext : Nat → Value} {ad : Nat → Nat} {S : gx_S} {k : Nat} {q : Nat × va_E} (h : (gx_ws dT ext ad S)[k]? = some q) : k < gx_n S ∧ q = (ad k, gx_ob dT ext ad S k) := by
  have h1 : k < gx_n S := by
    have := (List.getElem?_eq_some_iff.mp h).1
    rwa [gx_ws_len] at this
  rw [gx_ws_get h1] at h
  exact ⟨h1, (Option.some.inj h).symm⟩
theorem gx_ws_set {dT : Nat → ClassId} {ext : Nat → Value} {ad : Nat → Nat} {S S' : gx_S} {a : Nat} (hn : gx_n S' = gx_n S) (h : ∀ b, b < gx_n S → b ≠ a → gx_ob dT ext ad S' b = gx_ob dT ext ad S b) :
    (gx_ws dT ext ad S).set a (ad a, gx_ob dT ext ad S' a) = gx_ws dT ext ad S' := by
  apply List.ext_getElem?
  intro k
  by_cases hk : k < gx_n S
  · rw [gx_ws_get (S := S') (by rw [hn]; exact hk)]
    by_cases hka : k = a
    · subst hka
      rw [List.getElem?_set_self (by rw [gx_ws_len]; exact hk)]
    · rw [List.getElem?_set_ne (Ne.symm hka), gx_ws_get hk, h k hk hka]
  · rw [List.getElem?_eq_none (by rw [List.length_set, gx_ws_len]; omega), List.getElem?_eq_none (by rw [gx_ws_len, hn]; omega)]
theorem gx_ws_push {dT : Nat → ClassId} {ext : Nat → Value} {ad ad' : Nat → Nat} {S S' : gx_S} (hn : gx_n S' = gx_n S + 1) (ha : ∀ b, b < gx_n S → ad' b = ad b) (h : ∀ b, b < gx_n S → gx_ob dT ext ad' S' b = gx_ob dT ext ad S b) :
    gx_ws dT ext ad' S' = gx_ws dT ext ad S ++ [(ad' (gx_n S), gx_ob dT ext ad' S' (gx_n S))] := by
  unfold gx_ws
  rw [hn, List.range_succ, List.map_append]
  congr 1
  apply List.map_congr_left
  intro b hb
  have hb' := List.mem_range.mp hb
  rw [ha b hb', h b hb']
theorem gx_cv_eq {ad ad' : Nat → Nat} {ext : Nat → Value} {S : gx_S} {v : Value} (h : gx_c0 S v) (ha : ∀ b, b < gx_n S → ad' b = ad b) : gx_cv ad' ext v = gx_cv ad ext v := by
  cases v <;> try rfl
  rename_i b
  show Value.ref _ = Value.ref _
  rw [ha b (h b rfl)]
theorem gx_op_eq {ad ad' : Nat → Nat} {S : gx_S} {v : Value} (h : gx_c0 S v) (ha : ∀ b, b < gx_n S → ad' b = ad b) : gx_op ad' v = gx_op ad v := by
  cases v <;> try rfl
  rename_i b
  show some _ = some _
  rw [ha b (h b rfl)]
theorem gx_val_c0 {S : gx_S} (h : gx_wf S) (a k kd : Nat) : gx_c0 S (gx_val S a k kd) := by
  intro b hb
  match kd, hb with
  | 0, hb => cases hb
  | 1, hb => cases hb
  | n + 2, hb => exact h.2.2.1 a k b hb
theorem gx_ob_ad {dT : Nat → ClassId} {ext : Nat → Value} {ad ad' : Nat → Nat} {S : gx_S} (hw : gx_wf S) (ha : ∀ b, b < gx_n S → ad' b = ad b) (b : Nat) : gx_ob dT ext ad' S b = gx_ob dT ext ad S b := by
  unfold gx_ob
  split
  · congr 2
    unfold gx_fs
    apply List.map_congr_left
    intro k _
    exact gx_cv_eq (gx_val_c0 hw b k _) ha
  · congr 3
    unfold gx_ct
    split
    · rfl
    · split
      · congr 4
        funext j
        exact gx_op_eq (hw.2.2.1 b j) ha
      · rfl
/-- an object is the same where its tag, length and memory are -/
theorem gx_ob_same {dT : Nat → ClassId} {ext : Nat → Value} {ad : Nat → Nat} {S S' : gx_S} {b : Nat} (ht : gx_tag S' b = gx_tag S b) (hl : gx_len S' b = gx_len S b) (hR : S'.2.1 b = S.2.1 b) (hI : S'.2.2.1 b = S.2.2.1 b) (hJ : S'.2.2.2 b = S.2.2.2 b) : gx_ob dT ext ad S' b = gx_ob dT ext ad S b := by
  have hv : ∀ k kd, gx_val S' b k kd = gx_val S b k kd := by
    intro k kd
    unfold gx_val
    split
    · rw [hI]
    · rw [hJ]
    · rw [hR]
  unfold gx_ob gx_fs gx_ct
  rw [ht, hl, hR, hI, hJ]
  simp only [hv]
theorem gx_up_ne {α : Type} {f : Nat → Nat → α} {a b k : Nat} {v : α} (h : b ≠ a) : gx_up f a k v b = f b := by
  funext j
  unfold gx_up
  rw [if_neg (fun z => h z.1)]
theorem gx_u1_ne {α : Type} {f : Nat → α} {a b : Nat} {v : α} (h : b ≠ a) : gx_u1 f a v b = f b := if_neg h
theorem gx_u1_eq {α : Type} {f : Nat → α} {a : Nat} {v : α} : gx_u1 f a v a = v := if_pos rfl
theorem gx_put_n {S : gx_S} {a k : Nat} {v : Value} : (gx_put S a k v).1 = S.1 := by cases v <;> rfl
theorem gx_put_ob {dT : Nat → ClassId} {ext : Nat → Value} {ad : Nat → Nat} {S : gx_S} {a k b : Nat} {v : Value} (h : b ≠ a) : gx_ob dT ext ad (gx_put S a k v) b = gx_ob dT ext ad S b := by
  cases v <;> exact gx_ob_same rfl rfl (by first | rfl | exact gx_up_ne h) (by first | rfl | exact gx_up_ne h) (by first | rfl | exact gx_up_ne h)
theorem gx_ag.put {D : va_G} {S : gx_S} {ad : Nat → Nat} {a k : Nat} {v : Value} (h : gx_ag D S ad) : gx_ag D (gx_put S a k v) ad := ⟨by unfold gx_n; rw [gx_put_n]; exact h.1, h.2⟩
theorem gx_ag.mk {D : va_G} {S : gx_S} {ad : Nat → Nat} {tg ln dc ds q : Nat} (h : gx_ag D S ad) : gx_ag D (gx_mk S tg ln dc ds) (gx_u1 ad (gx_n S) q) := ⟨Nat.le_succ_of_le h.1, fun b hb => by
  have := h.1
  rw [gx_u1_ne (by omega)]
  exact h.2 b hb⟩
