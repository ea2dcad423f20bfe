set_option maxRecDepth 100000
/-! ===== what holds around a method: classes, constants, texts ===== -/
def gx_En (D : va_G) (dT : Nat → ClassId) (ext : Nat → Value) (A : Nat → Prop) (U : State) (H : Heap) : Prop :=
  va_K D gx_cl (gx_tys dT) U ∧
  (∀ w ∈ gx_nest, va_Nw w U) ∧
  (∀ q ∈ gx_ncs, va_Nc q.1 q.2 U) ∧
  (∀ C ∈ (["GallRegister$Fading", "GallRegister$Slot", "java/lang/Object"] : List String), va_AO C U) ∧
  (∀ j, j < 10 → va_Z (gx_st j).1 (gx_st j).2.1 (gx_st j).2.2.1 (gx_cv (fun _ => 0) ext (gx_st j).2.2.2) A U H) ∧
  (∃ adK adV : Nat → Nat, vk_S 15 gx_slen gx_sbyt adK adV A U H ∧ ∀ i, i < 15 → ext (16 + i) = .ref (adK i) ∧ ext (48 + i) = .ref (adV i) ∧ vk_R "GallRegister$Reader" (gx_strs.getD i (0, "")).1 (gx_strs.getD i (0, "")).2 (adK i) U) ∧
  (∃ (t : Nat) (f : Nat → Value), ext 5 = .ref t ∧ va_T (.object "java/lang/Object") t 0 f A U H) ∧
  ((∀ j, j < 6 → ∃ t, ext j = .ref t ∧ ¬ A t) ∧ (∀ i j, i < 5 → j < 5 → ext i = ext j → i = j)) ∧
  (vx_Zq Bundle.tN "UNASSIGNED_STACK" Bundle.steD A U H ∧ vx_Zq Bundle.tN "SUPPRESSED_SENTINEL" Bundle.listD A U H) ∧
  (∀ j, ext j = .null ∨ ∃ t, ext j = .ref t)
theorem gx_En.call {D : va_G} {dT : Nat → ClassId} {ext : Nat → Value} {A A' : Nat → Prop} {s U : State} {H : Heap} (h : gx_En D dT ext A s s.heap) (hW : s.WarmedH U.vm) (hq : ∀ a : Nat, a < s.heap.size → ¬ A a → H[a]? = s.heap[a]?) (hA : ∀ q, A' q → A q) : gx_En D dT ext A' U H := by
  obtain ⟨h1, h2, h3, h4, h5, ⟨adK, adV, h6, h7⟩, ⟨t, f, h8, h9⟩, ⟨h10, h11⟩, ⟨h12, h13⟩, h14⟩ := h
  refine ⟨va_K.moved hW.alike h1, gx_nest_warm hW h2, fun q hq => va_Nc.moved hW.alike (h3 q hq), fun C hC => va_AO.moved hW.alike (h4 C hC), fun j hj => ((h5 j hj).moved hW.alike |>.kept hq).narrow hA, ⟨adK, adV, ((h6.moved hW.alike).kept hq).narrow hA, fun i hi => ?_⟩, ⟨t, f, h8, ((h9.moved hW.alike).kept hq).narrow hA⟩, ⟨fun j hj => ?_, h11⟩, ⟨((h12.moved hW.alike).kept hq).narrow hA, ((h13.moved hW.alike).kept hq).narrow hA⟩, h14⟩
  · obtain ⟨e1, e2, e3⟩ := h7 i hi
    exact ⟨e1, e2, vk_R.warm hW e3⟩
  · obtain ⟨t, e1, e2⟩ := h10 j hj
    exact ⟨t, e1, fun z => e2 (hA t z)⟩
theorem gx_En.blind {D : va_G} {dT : Nat → ClassId} {ext : Nat → Value} {A : Nat → Prop} {U : State} {g : JFrame} {mk : MethodId} {a : Array Value} (h : gx_En D dT ext A U U.heap) : gx_En D dT ext A (U.calling g mk a) (U.calling g mk a).heap :=
  gx_En.call (s := U) (U := U.calling g mk a) (H := U.heap) h (State.WarmedH.refl U) (fun _ _ _ => rfl) (fun _ z => z)
/-- the script lies at 64 -/
def gx_sc (s : State) (ext : Nat → Value) (A : Nat → Prop) (Y : gx_Y) : Prop := 0 < gx_sk Y → ∃ b, ext 64 = .ref b ∧ va_X b (gx_scL Y) (gx_scV Y) s s.heap ∧ b < s.heap.size ∧ ¬ A b
/-- a method's frame: what holds of it all along -/
def gx_Fr (p : Program) (l : Launch) (R : Room) (s : State) (m : MethodId) (args : Array Value) (meth : Method) (c : Code) (Y : gx_Y) (D : va_G) (dT : Nat → ClassId) (ext : Nat → Value) (A : Nat → Prop) : Prop :=
  p.tables.exec = Jvm.exec ∧ c.code = gx_cd Y ∧ c.maxLocals = gx_mL Y ∧ s.vm.findClass (gx_cname (gx_oc Y)) = some m.cls ∧ (∀ w ∈ lw_all, w.before args s = true) ∧ gx_En D dT ext A s s.heap ∧ (∀ q : Nat, s.heap.size ≤ q → A q) ∧ meth.locks = false ∧ (((gx_nm Y).name = "<init>" → meth.name = "<init>") ∧ gx_sc s ext A Y) ∧ (gx_sk Y = 0 → c.exceptionTable.toList = tableOf (gx_hh Y)) ∧ l.stackTraces = false ∧ (100 + gx_ht Y ≤ R.frames ∧ 12000 + 64 * gx_ht Y ≤ R.locals)
/-! the locals -/
def gx_lok (v : Value) : Bool := match v with
  | .int _ => true
  | .long _ => true
  | .null => true
  | .ref _ => true
  | .retAddr _ => true
  | _ => false
def gx_lv (ad : Nat → Nat) (ext : Nat → Value) (ls : List Value) : List (Nat × Value) := (List.range ls.length).filterMap fun i => match ls[i]? with
  | some v => if gx_lok v = true then some (i, gx_cv ad ext v) else none
  | none => none
theorem gx_lv_in {ad : Nat → Nat} {ext : Nat → Value} {ls : List Value} {i : Nat} {v : Value} (h : ls[i]? = some v) (hv : gx_lok v = true) : (i, gx_cv ad ext v) ∈ gx_lv ad ext ls := by
  refine List.mem_filterMap.mpr ⟨i, List.mem_range.mpr (List.getElem?_eq_some_iff.mp h).1, ?_⟩
  rw [h]
  exact if_pos hv
theorem gx_lv_of {ad : Nat → Nat} {ext : Nat → Value} {ls : List Value} {q : Nat × Value} (h : q ∈ gx_lv ad ext ls) : ∃ v, ls[q.1]? = some v ∧ gx_lok v = true ∧ q.2 = gx_cv ad ext v := by
  obtain ⟨i, -, hi⟩ := List.mem_filterMap.mp h
  cases hv : ls[i]? with
  | none => rw [hv] at hi; cases hi
  | some v =>
    rw [hv] at hi
    by_cases hk : gx_lok v = true
    · simp only [hk, if_true] at hi
      cases hi
      exact ⟨v, hv, hk, rfl⟩
    · simp only [hk] at hi
      cases hi
theorem gx_lv_sub {lsA : Array Slot} {nL : Nat} {l l' : List (Nat × Value)} (h : lv_has lsA nL l) (hs : ∀ q ∈ l', q ∈ l) : lv_has lsA nL l' := ⟨h.1, h.2.1, fun q hq => h.2.2 q (hs q hq)⟩
theorem gx_lv_at {lsA : Array Slot} {nL : Nat} {ad : Nat → Nat} {ext : Nat → Value} {ls : List Value} (h : lv_has lsA nL (gx_lv ad ext ls)) {i : Nat} {v : Value} (hi : ls[i]? = some v) (hv : gx_lok v = true) : lsA[i]? = some (.val (gx_cv ad ext v)) := h.2.2 _ (gx_lv_in hi hv)
def gx_eok (ext : Nat → Value) : Prop := ∀ j, ext j = .null ∨ ∃ t, ext j = .ref t
theorem gx_cv_cat2 {ad : Nat → Nat} {ext : Nat → Value} (he : gx_eok ext) {v : Value} (hv : gx_lok v = true) (h : (gx_cv ad ext v).category = 2) : ∃ x, v = .long x := by
  cases v with
  | long x => exact ⟨x, rfl⟩
  | retAddr j =>
    rcases he j with h1 | ⟨t, h1⟩
    · rw [show gx_cv ad ext (.retAddr j) = ext j from rfl, h1] at h; cases h
    · rw [show gx_cv ad ext (.retAddr j) = ext j from rfl, h1] at h; cases h
  | int _ => cases h
  | null => cases h
  | ref _ => cases h
  | float _ => cases hv
  | double _ => cases hv
/-- where a store of one slot leaves a value, it was there -/
theorem gx_st1_get {ls : List Value} {i j : Nat} {v w : Value} (h : (gx_st1 ls i v)[j]? = some w) (hw : gx_lok w = true) : (j = i ∧ w = v) ∨ (j ≠ i ∧ ls[j]? = some w ∧ ¬ (j + 1 = i ∧ ∃ x, w = .long x)) := by
  have key : ∀ (l : List Value) (k : Nat), (l.set k v)[j]? = some w → (j = k ∧ w = v) ∨ (j ≠ k ∧ l[j]? = some w) := by
    intro l k hk
    by_cases hjk : j = k
    · subst hjk
      have hlt := (List.getElem?_eq_some_iff.mp hk).1
      rw [List.length_set] at hlt
      rw [List.getElem?_set_self hlt] at hk
      exact Or.inl ⟨rfl, (Option.some.inj hk).symm⟩
    · rw [List.getElem?_set_ne (Ne.symm hjk)] at hk
      exact Or.inr ⟨hjk, hk⟩
  cases i with
  | zero =>
    rcases key ls 0 h with h1 | ⟨h1, h2⟩
    · exact Or.inl h1
    · exact Or.inr ⟨h1, h2, fun z => by omega⟩
  | succ i =>
    simp only [gx_st1] at h
    split at h
    · rename_i x hx
      rcases key _ _ h with h1 | ⟨h1, h2⟩
      · exact Or.inl h1
      · by_cases hji : j = i
        · subst hji
          rw [List.getElem?_set_self (List.getElem?_eq_some_iff.mp hx).1] at h2
          cases h2
          cases hw
        · rw [List.getElem?_set_ne (Ne.symm hji)] at h2
          exact Or.inr ⟨h1, h2, fun z => hji (by omega)⟩
    · rename_i hx
      rcases key _ _ h with h1 | ⟨h1, h2⟩
      · exact Or.inl h1
      · refine Or.inr ⟨h1, h2, fun ⟨z1, x, z2⟩ => ?_⟩
        have : j = i := by omega
        subst this; subst z2
        exact hx x h2
theorem gx_lv_st1 {lsA : Array Slot} {nL : Nat} {ad : Nat → Nat} {ext : Nat → Value} (he : gx_eok ext) {ls : List Value} {i : Nat} {v : Value} (h : lv_has lsA nL ((i, gx_cv ad ext v) :: (gx_lv ad ext ls).filter (fun q => !(q.1 == i) && !(q.1 + 1 == i && q.2.category == 2)))) : lv_has lsA nL (gx_lv ad ext (gx_st1 ls i v)) := by
  refine gx_lv_sub h fun q hq => ?_
  obtain ⟨w, h1, h2, h3⟩ := gx_lv_of hq
  rcases gx_st1_get h1 h2 with ⟨e1, e2⟩ | ⟨e1, e2, e3⟩
  · obtain ⟨q1, q2⟩ := q
    dsimp only at e1 e2 h3
    subst e1; subst e2; subst h3
    exact List.mem_cons_self
  · refine List.mem_cons_of_mem _ (List.mem_filter.mpr ⟨?_, ?_⟩)
    · obtain ⟨q1, q2⟩ := q
      dsimp only at h3 e2
      subst h3
      exact gx_lv_in e2 h2
    · simp only [Bool.and_eq_true, Bool.not_eq_true', beq_eq_false_iff_ne, ne_eq, Bool.and_eq_false_iff]
      refine ⟨e1, ?_⟩
      by_cases hz : q.1 + 1 = i
      · refine Or.inr fun hc => e3 ⟨hz, ?_⟩
        rw [h3] at hc
        exact gx_cv_cat2 he h2 hc
      · exact Or.inl hz
theorem gx_lv_st2 {lsA : Array Slot} {nL : Nat} {ad : Nat → Nat} {ext : Nat → Value} (he : gx_eok ext) {ls : List Value} {i : Nat} {v : Value} (h : lv_has lsA nL ((i, gx_cv ad ext v) :: (gx_lv ad ext ls).filter (fun q => !(q.1 == i) && (!(q.1 == i + 1) && !(q.1 + 1 == i && q.2.category == 2))))) : lv_has lsA nL (gx_lv ad ext (gx_st2 ls i v)) := by
  refine gx_lv_sub h fun q hq => ?_
  obtain ⟨w, h1, h2, h3⟩ := gx_lv_of hq
  have h1' : q.1 ≠ i + 1 ∧ (gx_st1 ls i v)[q.1]? = some w := by
    unfold gx_st2 at h1
    by_cases hz : q.1 = i + 1
    · rw [hz] at h1
      have hlt := (List.getElem?_eq_some_iff.mp h1).1
      rw [List.length_set] at hlt
      rw [List.getElem?_set_self hlt] at h1
      cases h1
      cases h2
    · rw [List.getElem?_set_ne (Ne.symm hz)] at h1
      exact ⟨hz, h1⟩
  rcases gx_st1_get h1'.2 h2 with ⟨e1, e2⟩ | ⟨e1, e2, e3⟩
  · obtain ⟨q1, q2⟩ := q
    dsimp only at e1 e2 h3
    subst e1; subst e2; subst h3
    exact List.mem_cons_self
  · refine List.mem_cons_of_mem _ (List.mem_filter.mpr ⟨?_, ?_⟩)
    · obtain ⟨q1, q2⟩ := q
      dsimp only at h3 e2
      subst h3
      exact gx_lv_in e2 h2
    · simp only [Bool.and_eq_true, Bool.not_eq_true', beq_eq_false_iff_ne, ne_eq, Bool.and_eq_false_iff]
      refine ⟨e1, h1'.1, ?_⟩
      by_cases hz : q.1 + 1 = i
      · refine Or.inr fun hc => e3 ⟨hz, ?_⟩
        rw [h3] at hc
        exact gx_cv_cat2 he h2 hc
      · exact Or.inl hz
/-- all values of a list name objects that are there -/
def gx_cs (S : gx_S) (l : List Value) : Prop := ∀ v ∈ l, gx_c0 S v
theorem gx_cs_cons {S : gx_S} {v : Value} {l : List Value} (hv : gx_c0 S v) (hl : gx_cs S l) : gx_cs S (v :: l) := fun w hw => by
  rcases List.mem_cons.mp hw with rfl | h
  · exact hv
  · exact hl w h
theorem gx_cs_tail {S : gx_S} {v : Value} {l : List Value} (h : gx_cs S (v :: l)) : gx_cs S l := fun w hw => h w (List.mem_cons_of_mem _ hw)
theorem gx_cs_head {S : gx_S} {v : Value} {l : List Value} (h : gx_cs S (v :: l)) : gx_c0 S v := h v List.mem_cons_self
theorem gx_c0_int {S : gx_S} {x : Int32} : gx_c0 S (.int x) := fun _ h => by cases h
theorem gx_c0_long {S : gx_S} {x : Int64} : gx_c0 S (.long x) := fun _ h => by cases h
theorem gx_c0_null {S : gx_S} : gx_c0 S .null := fun _ h => by cases h
theorem gx_c0_ext {S : gx_S} {j : Nat} : gx_c0 S (.retAddr j) := fun _ h => by cases h
theorem gx_c0_un {S : gx_S} : gx_c0 S gx_un := fun _ h => by cases h
theorem gx_cs_set {S : gx_S} {l : List Value} {i : Nat} {v : Value} (h : gx_cs S l) (hv : gx_c0 S v) : gx_cs S (l.set i v) := fun w hw => by
  rcases List.mem_or_eq_of_mem_set hw with h1 | rfl
  · exact h w h1
  · exact hv
theorem gx_cs_st1 {S : gx_S} {l : List Value} {i : Nat} {v : Value} (h : gx_cs S l) (hv : gx_c0 S v) : gx_cs S (gx_st1 l i v) := by
  unfold gx_st1
  split
  · exact gx_cs_set h hv
  · split
    · exact gx_cs_set (gx_cs_set h gx_c0_un) hv
    · exact gx_cs_set h hv
theorem gx_cs_st2 {S : gx_S} {l : List Value} {i : Nat} {v : Value} (h : gx_cs S l) (hv : gx_c0 S v) : gx_cs S (gx_st2 l i v) := gx_cs_set (gx_cs_st1 h hv) gx_c0_un
theorem gx_cs_get {S : gx_S} {l : List Value} {i : Nat} {v : Value} (h : gx_cs S l) (hi : l[i]? = some v) : gx_c0 S v := h v (List.mem_of_getElem? hi)
theorem gx_isR_cv {ad : Nat → Nat} {ext : Nat → Value} (he : gx_eok ext) {v : Value} (h : gx_isR v = true) : gx_cv ad ext v = .null ∨ ∃ x, gx_cv ad ext v = .ref x := by
  cases v with
  | null => exact Or.inl rfl
  | ref k => exact Or.inr ⟨_, rfl⟩
  | retAddr j => exact he j
  | int _ => cases h
  | long _ => cases h
  | float _ => cases h
  | double _ => cases h
theorem gx_isR_lok {v : Value} (h : gx_isR v = true) : gx_lok v = true := by cases v <;> first | rfl | cases h
theorem gx_isR_cat {ad : Nat → Nat} {ext : Nat → Value} (he : gx_eok ext) {v : Value} (h : gx_isR v = true) : (gx_cv ad ext v).category = 1 := by
  rcases gx_isR_cv (ad := ad) he h with e | ⟨x, e⟩ <;> rw [e] <;> rfl
theorem gx_c1_cat {ad : Nat → Nat} {ext : Nat → Value} (he : gx_eok ext) {v : Value} (h : gx_c1 v = true) : (gx_cv ad ext v).category = 1 := by
  cases v with
  | int _ => rfl
  | null => rfl
  | ref _ => rfl
  | retAddr j => exact gx_isR_cat he rfl
  | long _ => cases h
  | float _ => cases h
  | double _ => cases h
theorem gx_cv_cat {ad : Nat → Nat} {ext : Nat → Value} (he : gx_eok ext) (v : Value) : (gx_cv ad ext v).category = v.category := by
  cases v with
  | retAddr j => exact gx_isR_cat he rfl
  | _ => rfl
theorem gx_sum_cat {ad : Nat → Nat} {ext : Nat → Value} (he : gx_eok ext) (l : List Value) : ((l.map (gx_cv ad ext)).map fun v => v.category).sum = (l.map fun v => v.category).sum := by
  rw [List.map_map]
  congr 1
  apply List.map_congr_left
  intro v _
  exact gx_cv_cat he v
/-! what a step's parts say -/
theorem gx_k_some {len n : Nat} {x : Option gx_A} {r : gx_A} (h : gx_k len n x = some r) : len = n ∧ x = some r := by
  unfold gx_k at h
  split at h
  · exact ⟨by assumption, h⟩
  · cases h
theorem gx_go_some {pc pc' : Nat} {ls st ls' st' : List Value} {S S' : gx_S} (h : gx_go pc ls st S = some (.inl (pc', ls', st', S'))) : pc = pc' ∧ ls = ls' ∧ st = st' ∧ S = S' := by
  unfold gx_go at h
  cases h
  exact ⟨rfl, rfl, rfl, rfl⟩
theorem gx_ldI_some {ls : List Value} {i : Nat} {f : Value → Option gx_A} {r : gx_A} (h : gx_ldI ls i f = some r) : ∃ x, ls[i]? = some (.int x) ∧ f (.int x) = some r := by
  unfold gx_ldI at h
  split at h
  · exact ⟨_, by assumption, h⟩
  · cases h
theorem gx_ldJ_some {ls : List Value} {i : Nat} {f : Value → Option gx_A} {r : gx_A} (h : gx_ldJ ls i f = some r) : ∃ x, ls[i]? = some (.long x) ∧ f (.long x) = some r := by
  unfold gx_ldJ at h
  split at h
  · exact ⟨_, by assumption, h⟩
  · cases h
theorem gx_ldR_some {ls : List Value} {i : Nat} {f : Value → Option gx_A} {r : gx_A} (h : gx_ldR ls i f = some r) : ∃ v, ls[i]? = some v ∧ gx_isR v = true ∧ f v = some r := by
  unfold gx_ldR at h
  split at h
  · split at h
    · exact ⟨_, by assumption, by assumption, h⟩
    · cases h
  · cases h
theorem gx_stI_some {Y : gx_Y} {i : Nat} {ls st : List Value} {f : List Value → List Value → Option gx_A} {r : gx_A} (h : gx_stI Y i ls st f = some r) : ∃ x st', st = .int x :: st' ∧ i < gx_mL Y ∧ f (gx_st1 ls i (.int x)) st' = some r := by
  unfold gx_stI at h
  split at h
  · split at h
    · exact ⟨_, _, rfl, by assumption, h⟩
    · cases h
  · cases h
theorem gx_stJ_some {Y : gx_Y} {i : Nat} {ls st : List Value} {f : List Value → List Value → Option gx_A} {r : gx_A} (h : gx_stJ Y i ls st f = some r) : ∃ x st', st = .long x :: st' ∧ i + 1 < gx_mL Y ∧ f (gx_st2 ls i (.long x)) st' = some r := by
  unfold gx_stJ at h
  split at h
  · split at h
    · exact ⟨_, _, rfl, by assumption, h⟩
    · cases h
  · cases h
theorem gx_stR_some {Y : gx_Y} {i : Nat} {ls st : List Value} {f : List Value → List Value → Option gx_A} {r : gx_A} (h : gx_stR Y i ls st f = some r) : ∃ v st', st = v :: st' ∧ i < gx_mL Y ∧ gx_isR v = true ∧ f (gx_st1 ls i v) st' = some r := by
  unfold gx_stR at h
  split at h
  · split at h
    · rename_i hh
      exact ⟨_, _, rfl, hh.1, hh.2, h⟩
    · cases h
  · cases h
theorem gx_ii_some {st : List Value} {f : Int32 → Int32 → Option Value} {k : List Value → Option gx_A} {r : gx_A} (h : gx_ii st f k = some r) : ∃ y x st' v, st = .int y :: .int x :: st' ∧ f x y = some v ∧ k (v :: st') = some r := by
  unfold gx_ii at h
  split at h
  · split at h
    · exact ⟨_, _, _, _, rfl, by assumption, h⟩
    · cases h
  · cases h
theorem gx_jj_some {st : List Value} {f : Int64 → Int64 → Option Value} {k : List Value → Option gx_A} {r : gx_A} (h : gx_jj st f k = some r) : ∃ y x st' v, st = .long y :: .long x :: st' ∧ f x y = some v ∧ k (v :: st') = some r := by
  unfold gx_jj at h
  split at h
  · split at h
    · exact ⟨_, _, _, _, rfl, by assumption, h⟩
    · cases h
  · cases h
theorem gx_i1_some {st : List Value} {f : Int32 → Value} {k : List Value → Option gx_A} {r : gx_A} (h : gx_i1 st f k = some r) : ∃ x st', st = .int x :: st' ∧ k (f x :: st') = some r := by
  unfold gx_i1 at h
  split at h
  · exact ⟨_, _, rfl, h⟩
  · cases h
theorem gx_j1_some {st : List Value} {f : Int64 → Value} {k : List Value → Option gx_A} {r : gx_A} (h : gx_j1 st f k = some r) : ∃ x st', st = .long x :: st' ∧ k (f x :: st') = some r := by
  unfold gx_j1 at h
  split at h
  · exact ⟨_, _, rfl, h⟩
  · cases h
theorem gx_br_some {pc : Nat} {off : Int} {f : Nat → Option gx_A} {r : gx_A} (h : gx_br pc off f = some r) : ∃ t : Nat, (pc : Int) + off = (t : Int) ∧ f t = some r := by
  unfold gx_br at h
  split at h
  · exact ⟨_, (Int.toNat_of_nonneg (by assumption)).symm, h⟩
  · cases h
theorem gx_find_in {α : Type} {l : List α} {p : α → Bool} {e : α} (h : l.find? p = some e) : e ∈ l ∧ p e = true := ⟨List.mem_of_find?_eq_some h, List.find?_some h⟩

theorem gx_cat_le (v : Value) : v.category ≤ 2 := by cases v <;> first | exact Nat.le_refl 2 | exact Nat.le_succ 1
theorem gx_sum_le (l : List Value) : (l.map fun v => v.category).sum ≤ 2 * l.length := by
  induction l with
  | nil => exact Nat.le_refl _
  | cons v l ih =>
    have := gx_cat_le v
    simp only [List.map_cons, List.sum_cons, List.length_cons]
    omega
theorem gx_w8_sum {st : List Value} (h : gx_w8 st = true) : (st.map fun v => v.category).sum ≤ 8 := by
  unfold gx_w8 at h
  rcases Bool.or_eq_true_iff.mp h with h | h
  · have h1 := of_decide_eq_true h
    have := gx_sum_le st
    omega
  · exact of_decide_eq_true h
