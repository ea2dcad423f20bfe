set_option maxRecDepth 100000
/-! ===== what a method answers, as a contract; its frame's start ===== -/
def gx_Dk (D : va_G) (n : Nat) (ad : Nat → Nat) : va_G := (D.1, fun c => if c = 1001 then fun _ => n else if c = 1000 then ad else D.2 c)
theorem gx_Dk_lo {D : va_G} {n : Nat} {ad : Nat → Nat} {c : Nat} (h : c < 15) : (gx_Dk D n ad).2 c = D.2 c := by
  show (if c = 1001 then _ else if c = 1000 then _ else D.2 c) = _
  rw [if_neg (by omega), if_neg (by omega)]
theorem gx_cl_lt {c : Nat} {r : vw_C} (h : gx_cl[c]? = some r) : c < 15 := (List.getElem?_eq_some_iff.mp h).1
theorem gx_P_D {D D' : va_G} (h1 : D'.1 = D.1) (h2 : ∀ c, c < 15 → D'.2 c = D.2 c) {ws : va_W} {H : Heap} (h : va_P D gx_cl ws H) : va_P D' gx_cl ws H := fun k q hk => by
  have h9 := h k q hk
  obtain ⟨a, e⟩ := q
  cases e with
  | inl x => exact h9
  | inr o =>
    obtain ⟨r, e1, e2⟩ := h9
    refine ⟨r, e1, ?_⟩
    show t_OB a (D'.1 o.1) r.2.2 (D'.2 o.1) H (vp_V o.2)
    rw [h1, h2 _ (gx_cl_lt e1)]
    exact e2
theorem gx_K_D {D D' : va_G} (h1 : D'.1 = D.1) (h2 : ∀ c, c < 15 → D'.2 c = D.2 c) {tys : List (ClassId × FieldType)} {U : State} (h : va_K D gx_cl tys U) : va_K D' gx_cl tys U := ⟨fun c q hc => by
  have h9 := h.1 c q hc
  rw [h1, h2 _ (gx_cl_lt hc)]
  exact h9, h.2⟩
theorem gx_En_D {D D' : va_G} {dT : Nat → ClassId} {ext : Nat → Value} {A : Nat → Prop} {U : State} {H : Heap} (h1 : D'.1 = D.1) (h2 : ∀ c, c < 15 → D'.2 c = D.2 c) (h : gx_En D dT ext A U H) : gx_En D' dT ext A U H := ⟨gx_K_D h1 h2 h.1, h.2⟩
theorem gx_Wd_in {D : va_G} {dT : Nat → ClassId} {ext : Nat → Value} {A : Nat → Prop} {S : gx_S} {ad : Nat → Nat} {H : Heap} (sz : Nat) (h : gx_Wd D dT ext A S ad H) : gx_Wd (gx_Dk D (gx_n S) ad) dT ext (va_A (gx_ws dT ext ad S) sz) S ad H :=
  ⟨h.1, gx_P_D (D := D) (D' := gx_Dk D (gx_n S) ad) rfl (fun _ hc => gx_Dk_lo hc) h.2.1, h.2.2.1.self, Nat.le_refl _, fun _ _ => rfl⟩
theorem gx_Wd_out {D : va_G} {dT : Nat → ClassId} {ext : Nat → Value} {A : Nat → Prop} {S S' : gx_S} {ad ad' : Nat → Nat} {H H' : Heap} {sz : Nat} (h0 : gx_Wd D dT ext A S ad H) (hA : ∀ q, sz ≤ q → A q) (h : gx_Wd (gx_Dk D (gx_n S) ad) dT ext (va_A (gx_ws dT ext ad S) sz) S' ad' H') : gx_Wd D dT ext A S' ad' H' ∧ (∀ b, b < gx_n S → ad' b = ad b) ∧ gx_n S ≤ gx_n S' := by
  obtain ⟨h1, h2, h3, h4⟩ := h
  have hn : gx_n S ≤ gx_n S' := h4.1
  have ha : ∀ b, b < gx_n S → ad' b = ad b := h4.2
  have hg := h0.2.2.2
  refine ⟨⟨h1, gx_P_D (D := gx_Dk D (gx_n S) ad) (D' := D) rfl (fun _ hc => (gx_Dk_lo hc).symm) h2, h3.weaken fun k q hk hq => ?_, Nat.le_trans hg.1 hn, fun b hb => ?_⟩, ha, hn⟩
  · rcases hq with ⟨k9, e9, h9⟩ | h9
    · exact h0.2.2.1.2 k9 (q.1, e9) h9
    · exact hA _ h9
  · rw [ha b (Nat.lt_of_lt_of_le hb hg.1)]
    exact hg.2 b hb
def gx_Qc (D : va_G) (dT : Nat → ClassId) (ext : Nat → Value) (A : Nat → Prop) (r : gx_R) : Array Value → State → Outcome → State → Prop := fun _ st o t =>
  ∃ (v : Option Value) (ad : Nat → Nat), r.1 = .inl v ∧ o = .returned (v.map (gx_cv ad ext)) ∧ (∀ w, v = some w → gx_c0 r.2 w) ∧ gx_Wd D dT ext A r.2 ad t.heap ∧ va_F A st t
def gx_XC (D : va_G) (dT : Nat → ClassId) (ext : Nat → Value) (A : Nat → Prop) (r : gx_R) : String → Addr → State → State → Prop := fun E q st t =>
  ∃ (k : Nat) (ad : Nat → Nat), r.1 = .inr k ∧ gx_tag r.2 k < 15 ∧ q = ad k ∧ E = gx_rname (gx_tag r.2 k) ∧ gx_Wd D dT ext A r.2 ad t.heap ∧ va_F A st t
/-- the frame's goal: the method ends as the pure machine says -/
def gx_MQ (below : List Frame) (D : va_G) (dT : Nat → ClassId) (ext : Nat → Value) (A : Nat → Prop) (r : gx_R) (args : Array Value) (s : State) (c0 s0 : Nat) : State → Prop :=
  vx_MQ below (gx_Qc D dT ext A r) (gx_XC D dT ext A r) args s (r.2.1.2.2.2.1 - c0) (r.2.1.2.2.2.2 - s0) A
/-- from the pure machine's point on, in every frame of this method -/
def gx_Gd (Y : gx_Y) (pc : Nat) (ls st : List Value) (S : gx_S) (r : gx_R) : Prop :=
  ∀ (p : Program) (l : Launch) (e : Env) (R : Room) (s : State) (m : MethodId) (args : Array Value) (below : List Frame) (meth : Method) (c : Code) (D : va_G) (dT : Nat → ClassId) (ext : Nat → Value) (A : Nat → Prop) (c0 s0 : Nat),
    gx_Fr p l R s m args meth c Y D dT ext A → meth.sig.returnType = gx_rt Y → (c0 ≤ S.1.2.2.2.1 ∧ s0 ≤ S.1.2.2.2.2) → (r.2.1.2.2.2.1 - c0 ≤ R.cells ∧ r.2.1.2.2.2.2 - s0 ≤ R.slots) →
    gx_K p l e R s m args below meth c (gx_MQ below D dT ext A r args s c0 s0) Y D dT ext A c0 s0 pc ls st S
/-! the entry -/
theorem gx_sl_len {ext : Nat → Value} {ad : Nat → Nat} (he : gx_eok ext) (l : List Value) : (lg_sl (l.map (gx_cv ad ext))).length = (l.map fun v => if v.category = 2 then 2 else 1).sum := by
  induction l with
  | nil => rfl
  | cons v l ih =>
    rw [List.map_cons, List.map_cons, List.sum_cons, ← ih]
    show ((if (gx_cv ad ext v).category = 2 then [Slot.val _, .second] else [Slot.val _]) ++ lg_sl (l.map (gx_cv ad ext))).length = _
    rw [gx_cv_cat he, List.length_append]
    split <;> rfl
theorem gx_cat_pos (v : Value) : 1 ≤ v.category := by cases v <;> first | exact Nat.le_refl 1 | exact Nat.le_succ 1
theorem gx_cat_sum (l : List Value) : (l.map fun v => if v.category = 2 then 2 else 1).sum = (l.map fun v => v.category).sum := by
  congr 1
  apply List.map_congr_left
  intro v _
  have h1 := gx_cat_pos v
  have h2 := gx_cat_le v
  split <;> omega
theorem gx_ent_args {ext : Nat → Value} {ad : Nat → Nat} (he : gx_eok ext) : ∀ (as : List Value) (k i : Nat) (v : Value), (as.flatMap (fun v => if v.category = 2 then [v, gx_un] else [v]))[i]? = some v → gx_lok v = true → (k + i, gx_cv ad ext v) ∈ lv_args k (as.map (gx_cv ad ext))
  | [], _, _, _, h, _ => by simp at h
  | a :: as, k, i, v, h, hv => by
    rw [List.flatMap_cons] at h
    show (k + i, gx_cv ad ext v) ∈ (k, gx_cv ad ext a) :: lv_args (if (gx_cv ad ext a).category = 2 then k + 2 else k + 1) (as.map (gx_cv ad ext))
    rw [gx_cv_cat he]
    by_cases hc : a.category = 2
    · rw [if_pos hc] at h ⊢
      match i, h with
      | 0, h =>
        cases h
        exact List.mem_cons_self
      | 1, h =>
        cases h
        cases hv
      | i + 2, h =>
        have h' : (as.flatMap (fun v => if v.category = 2 then [v, gx_un] else [v]))[i]? = some v := h
        have := gx_ent_args (ad := ad) he as (k + 2) i v h' hv
        rw [show k + (i + 2) = k + 2 + i by omega]
        exact List.mem_cons_of_mem _ this
    · rw [if_neg hc] at h ⊢
      match i, h with
      | 0, h =>
        cases h
        exact List.mem_cons_self
      | i + 1, h =>
        have h' : (as.flatMap (fun v => if v.category = 2 then [v, gx_un] else [v]))[i]? = some v := h
        have := gx_ent_args (ad := ad) he as (k + 1) i v h' hv
        rw [show k + (i + 1) = k + 1 + i by omega]
        exact List.mem_cons_of_mem _ this
theorem gx_entry {ext : Nat → Value} {ad : Nat → Nat} (he : gx_eok ext) {Y : gx_Y} {as : List Value} (h : (as.map fun v => v.category).sum ≤ gx_mL Y) (m : MethodId) : ∃ lsA, entryFrame m (as.map (gx_cv ad ext)).toArray (gx_mL Y) = F0 m 0 lsA [] ∧ lv_has lsA (gx_mL Y) (gx_lv ad ext (gx_ent Y as)) := by
  have hl : (lg_sl (as.map (gx_cv ad ext))).length ≤ gx_mL Y := by rw [gx_sl_len he, gx_cat_sum]; exact h
  refine ⟨_, lg_entry_eq m _ _, gx_lv_sub (lv_entry _ hl) fun q hq => ?_⟩
  obtain ⟨v, h1, h2, h3⟩ := gx_lv_of hq
  obtain ⟨i, w⟩ := q
  dsimp only at h1 h3
  subst h3
  unfold gx_ent at h1
  dsimp only at h1
  rcases Nat.lt_or_ge i (as.flatMap (fun (v : Value) => if v.category = 2 then [v, gx_un] else [v])).length with hi | hi
  · rw [List.getElem?_append_left hi] at h1
    have := gx_ent_args (ad := ad) he as 0 i v h1 h2
    rwa [Nat.zero_add] at this
  · rw [List.getElem?_append_right hi] at h1
    have := List.eq_of_mem_replicate (List.mem_of_getElem? h1)
    subst this
    cases h2
theorem gx_ent_cs {S : gx_S} {Y : gx_Y} {as : List Value} (h : gx_cs S as) : gx_cs S (gx_ent Y as) := by
  intro v hv
  unfold gx_ent at hv
  dsimp only at hv
  rcases List.mem_append.mp hv with hv | hv
  · obtain ⟨w, hw, hv⟩ := List.mem_flatMap.mp hv
    split at hv
    · rcases List.mem_cons.mp hv with rfl | hv
      · exact h _ hw
      · rcases List.mem_singleton.mp hv with rfl
        exact gx_c0_un
    · rcases List.mem_singleton.mp hv with rfl
      exact h _ hw
  · rw [List.eq_of_mem_replicate hv]
    exact gx_c0_un
def gx_ws9 (Y : gx_Y) : List Cond := gx_code Y :: lw_all
def gx_rm (Y : gx_Y) (mc ms : Nat) : Room := { frames := 100 + gx_ht Y, locals := 12000 + 64 * gx_ht Y, cells := mc, slots := ms }
theorem gx_plain : ∀ oc, oc < 21 → plainName (gx_cname oc) = true := by decide +kernel
theorem gx_notMH : ∀ oc, oc < 21 → gx_cname oc ≠ "java/lang/invoke/MethodHandle" ∧ gx_cname oc ≠ "java/lang/invoke/VarHandle" := by decide +kernel
def gx_Pc (D : va_G) (dT : Nat → ClassId) (ext : Nat → Value) (A : Nat → Prop) (sz : Nat) (S : gx_S) (ad : Nat → Nat) (as : List Value) : Array Value → State → Prop :=
  va_Pc (as.map (gx_cv ad ext)) (fun U => U.heap.size = sz ∧ gx_Wd D dT ext A S ad U.heap ∧ gx_En D dT ext A U U.heap)
theorem gx_Pc_blind {D : va_G} {dT : Nat → ClassId} {ext : Nat → Value} {A : Nat → Prop} {sz : Nat} {S : gx_S} {ad : Nat → Nat} {as : List Value} : FrameBlind (gx_Pc D dT ext A sz S ad as) := fun _ _ _ _ h => ⟨h.1, h.2.1, h.2.2.1, h.2.2.2.blind⟩
/-- a method's contract, out of the pure machine's run -/
theorem gx_met {Y : gx_Y} {as : List Value} {S : gx_S} {r : gx_R} (hok : gx_okY Y) (hsk : gx_sk Y = 0) (hG : gx_Gd Y 0 (gx_ent Y as) [] S r) (hm : (as.map fun v => v.category).sum ≤ gx_mL Y) {l : Launch} (hl : l.stackTraces = false) {D : va_G} {dT : Nat → ClassId} {ext : Nat → Value} {A : Nat → Prop} {sz : Nat} (hA : ∀ q, sz ≤ q → A q) (he : gx_eok ext) {ad : Nat → Nat} (hcs : gx_cs S as) :
    vx_Met l (gx_nm Y) (gx_ws9 Y) (gx_rm Y (r.2.1.2.2.2.1 - S.1.2.2.2.1) (r.2.1.2.2.2.2 - S.1.2.2.2.2)) (gx_Pc D dT ext A sz S ad as) (gx_Qc D dT ext A r) (gx_XC D dT ext A r) (r.2.1.2.2.2.1 - S.1.2.2.2.1) (r.2.1.2.2.2.2 - S.1.2.2.2.2) A := by
  obtain ⟨o1, o2, o3, o4⟩ := hok
  have hpl : plainName (gx_nm Y).cls = true := by rw [o3]; exact gx_plain _ o4
  have body : ∀ (p : Program) (e : Env) (s : State) (m : MethodId) (args : Array Value) (below : List Frame) (meth : Method) (c : Code) (s₁ : State), BodyLoose p l (gx_nm Y) (headSpec (gx_ws9 Y) (gx_rm Y (r.2.1.2.2.2.1 - S.1.2.2.2.1) (r.2.1.2.2.2.2 - S.1.2.2.2.2))) (gx_cd Y) (gx_mL Y) (gx_rt Y) e s m args below meth c s₁ → c.maxLocals = gx_mL Y → c.exceptionTable.toList = tableOf (gx_hh Y) → gx_Pc D dT ext A sz S ad as args s →
      W p l e (headSpec (gx_ws9 Y) (gx_rm Y (r.2.1.2.2.2.1 - S.1.2.2.2.1) (r.2.1.2.2.2.2 - S.1.2.2.2.2))).room s m args below meth c s.heap [] 0 0 (vx_MQ below (gx_Qc D dT ext A r) (gx_XC D dT ext A r) args s (r.2.1.2.2.2.1 - S.1.2.2.2.1) (r.2.1.2.2.2.2 - S.1.2.2.2.2) A) (entryFrame m args (gx_mL Y)) := by
    intro p e s m args below meth c s₁ B hml htab hPc
    obtain ⟨rfl, hsz, hWd, hEn⟩ := hPc
    have hF : gx_Fr p l (gx_rm Y (r.2.1.2.2.2.1 - S.1.2.2.2.1) (r.2.1.2.2.2.2 - S.1.2.2.2.2)) s m (as.map (gx_cv ad ext)).toArray meth c Y D dT ext A :=
      ⟨B.exec, B.bytes, hml, by rw [← o3]; exact findClass_of_methodNamed B.named, fun w hw => atoms_spec (ws := gx_ws9 Y) B.pre w (List.mem_cons_of_mem _ hw), hEn, fun q hq => hA q (by rw [← hsz]; exact hq), B.notSynchronized, ⟨fun h => (name_of_methodNamed B.named B.method).1.trans h, fun h => absurd h (by omega)⟩, fun _ => htab, hl, Nat.le_refl _, Nat.le_refl _⟩
    obtain ⟨lsA, e1, e2⟩ := gx_entry (ad := ad) he hm m
    rw [e1]
    have hk := hG p l e _ s m _ below meth c D dT ext A S.1.2.2.2.1 S.1.2.2.2.2 hF B.returns ⟨Nat.le_refl _, Nat.le_refl _⟩ ⟨Nat.le_refl _, Nat.le_refl _⟩ ad s.heap [] lsA hWd va_S.rf e2 (gx_ent_cs hcs) (fun _ h => absurd h List.not_mem_nil)
    rw [Nat.sub_self, Nat.sub_self] at hk
    exact hk
  cases hh : gx_hh Y with
  | nil =>
    have hc : gx_code Y = Cond.code (gx_nm Y) (gx_cd Y) (gx_mL Y) (gx_rt Y) := by unfold gx_code; rw [hh]
    refine vx_ofW hpl (ws' := lw_all) (by unfold gx_ws9; rw [hc]) fun p e s m args below meth c s₁ B hml htab hPc => body p e s m args below meth c s₁ B hml ?_ hPc
    rw [hh]
    exact List.eq_nil_iff_forall_not_mem.mpr htab
  | cons h t =>
    have hc : gx_code Y = Cond.codeWith (gx_nm Y) (gx_cd Y) (gx_mL Y) (gx_rt Y) (h :: t) := by unfold gx_code; rw [hh]
    refine vx_ofWH (hh := h :: t) hpl (ws' := lw_all) (by unfold gx_ws9; rw [hc]) fun p e s m args below meth c s₁ B hml hPc => body p e s m args below meth c s₁ B hml ?_ hPc
    rw [hh]
    have hb := atoms_spec (ws := gx_ws9 Y) B.pre (gx_code Y) List.mem_cons_self
    rw [hc] at hb
    exact vx_table (x := gx_nm Y) B hb
