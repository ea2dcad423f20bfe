set_option maxRecDepth 100000
/-! ===== objects and arrays made, casts, comparisons, statics, copies ===== -/
theorem gx_lv_eq {ad ad' : Nat → Nat} {ext : Nat → Value} {S : gx_S} {ls : List Value} (h : gx_cs S ls) (ha : ∀ b, b < gx_n S → ad' b = ad b) : gx_lv ad' ext ls = gx_lv ad ext ls := by
  unfold gx_lv
  congr 1
  funext i
  cases hv : ls[i]? with
  | none => rfl
  | some v =>
    dsimp only
    rw [gx_cv_eq (gx_cs_get h hv) ha]
theorem gx_map_eq {ad ad' : Nat → Nat} {ext : Nat → Value} {S : gx_S} {st : List Value} (h : gx_cs S st) (ha : ∀ b, b < gx_n S → ad' b = ad b) : st.map (gx_cv ad' ext) = st.map (gx_cv ad ext) :=
  List.map_congr_left fun v hv => gx_cv_eq (h v hv) ha
theorem gx_mk_n {S : gx_S} {tg ln dc ds : Nat} : gx_n (gx_mk S tg ln dc ds) = gx_n S + 1 := rfl
theorem gx_mk_c0 {S : gx_S} {tg ln dc ds : Nat} {v : Value} (h : gx_c0 S v) : gx_c0 (gx_mk S tg ln dc ds) v := fun b hb => Nat.lt_succ_of_lt (h b hb)
theorem gx_mk_cs {S : gx_S} {tg ln dc ds : Nat} {l : List Value} (h : gx_cs S l) : gx_cs (gx_mk S tg ln dc ds) l := fun v hv => gx_mk_c0 (h v hv)
theorem gx_mk_tag {S : gx_S} {tg ln dc ds : Nat} : gx_tag (gx_mk S tg ln dc ds) (gx_n S) = tg := gx_u1_eq
theorem gx_mk_tag_ne {S : gx_S} {tg ln dc ds b : Nat} (h : b ≠ gx_n S) : gx_tag (gx_mk S tg ln dc ds) b = gx_tag S b := gx_u1_ne h
theorem gx_mk_wf {S : gx_S} {tg ln dc ds : Nat} (hw : gx_wf S) (ht : tg < 15 ∨ (32 ≤ tg ∧ tg ≤ 39)) : gx_wf (gx_mk S tg ln dc ds) := by
  obtain ⟨w1, w2, w3, w4, w5, w6⟩ := hw
  have hI : ∀ b j, (gx_mk S tg ln dc ds).2.2.1 b j = (if b = gx_n S then 0 else S.2.2.1 b j) := by
    intro b j
    show gx_u1 S.2.2.1 S.1.1 (fun _ => 0) b j = _
    unfold gx_u1 gx_n
    split <;> rfl
  have hT : ∀ b, gx_tag (gx_mk S tg ln dc ds) b = (if b = gx_n S then tg else gx_tag S b) := fun b => rfl
  refine ⟨fun b hb => ?_, fun b hb => ?_, fun b j => ?_, fun b j hb => ?_, fun b j hb => ?_, fun b j hb => ?_⟩
  · have hb' : gx_n S + 1 ≤ b := hb
    rw [hT, if_neg (by omega)]
    exact w1 b (by omega)
  · have hb' : b < gx_n S + 1 := hb
    rw [hT]
    by_cases h : b = gx_n S
    · rw [if_pos h]; exact ht
    · rw [if_neg h]; exact w2 b (by omega)
  · show gx_c0 _ (gx_u1 S.2.1 S.1.1 (fun _ => .null) b j)
    unfold gx_u1
    split
    · exact gx_c0_null
    · exact gx_mk_c0 (w3 b j)
  · rw [hI]; rw [hT] at hb
    by_cases h : b = gx_n S
    · rw [if_pos h]; decide
    · rw [if_neg h] at hb ⊢; exact w4 b j hb
  · rw [hI]; rw [hT] at hb
    by_cases h : b = gx_n S
    · rw [if_pos h]; decide
    · rw [if_neg h] at hb ⊢; exact w5 b j hb
  · rw [hI]; rw [hT] at hb
    by_cases h : b = gx_n S
    · rw [if_pos h]; decide
    · rw [if_neg h] at hb ⊢; exact w6 b j hb
theorem gx_mk_ws {dT : Nat → ClassId} {ext : Nat → Value} {ad : Nat → Nat} {S : gx_S} {tg ln dc ds q : Nat} (hw : gx_wf S) : gx_ws dT ext (gx_u1 ad (gx_n S) q) (gx_mk S tg ln dc ds) = gx_ws dT ext ad S ++ [(q, gx_ob dT ext (gx_u1 ad (gx_n S) q) (gx_mk S tg ln dc ds) (gx_n S))] := by
  have ha : ∀ b, b < gx_n S → gx_u1 ad (gx_n S) q b = ad b := fun b hb => gx_u1_ne (by omega)
  rw [gx_ws_push (S := S) (ad := ad) gx_mk_n ha fun b hb => ?_, gx_u1_eq]
  have hne : b ≠ gx_n S := by omega
  rw [gx_ob_same (S := S) (S' := gx_mk S tg ln dc ds) (gx_u1_ne hne) (gx_u1_ne hne) (gx_u1_ne hne) (gx_u1_ne hne) (gx_u1_ne hne)]
  exact gx_ob_ad hw ha b
theorem gx_kd_lt : ∀ ci, ci < 15 → ∀ k, k < gx_N ci → gx_kd (gx_ty ci k) < 3 := by decide +kernel
theorem gx_def_kd {ty : FieldType} (h : gx_kd ty < 3) : defaultValue ty = (match gx_kd ty with | 0 => .int 0 | 1 => .long 0 | _ => .null) := by
  cases ty <;> first | rfl | exact absurd h (by decide)
def gx_f0 (ci : Nat) : List Value := (List.range (gx_N ci)).map fun k => match gx_kd (gx_ty ci k) with | 0 => .int 0 | 1 => .long 0 | _ => .null
theorem gx_mk_fs {ad : Nat → Nat} {ext : Nat → Value} {S : gx_S} {tg ln dc ds : Nat} : gx_fs ad ext (gx_mk S tg ln dc ds) (gx_n S) = gx_f0 tg := by
  unfold gx_fs gx_f0
  rw [gx_mk_tag]
  apply List.map_congr_left
  intro k _
  have hR : (gx_mk S tg ln dc ds).2.1 (gx_n S) = fun _ => .null := gx_u1_eq
  have hI : (gx_mk S tg ln dc ds).2.2.1 (gx_n S) = fun _ => 0 := gx_u1_eq
  have hJ : (gx_mk S tg ln dc ds).2.2.2 (gx_n S) = fun _ => 0 := gx_u1_eq
  unfold gx_val
  split <;> split
  all_goals first | (rw [hI]; rfl) | (rw [hJ]; rfl) | (rw [hR]; rfl) | omega | skip
  all_goals simp_all
theorem gx_RA_eq {U : State} {a b : ClassId} {ty : FieldType} (ha : va_RA U a ty) (hb : va_RA U b ty) : a = b := by
  cases ty with
  | object C =>
    obtain ⟨_, _, -, -, -, h1⟩ := ha
    obtain ⟨_, _, -, -, -, h2⟩ := hb
    exact Option.some.inj (h1.symm.trans h2)
  | _ => exact Option.some.inj (Eq.trans (Eq.symm ha) hb)
section GXM
variable {p : Program} {l : Launch} {e : Env} {R : Room} {s : State} {m : MethodId} {args : Array Value} {below : List Frame} {meth : Method} {c : Code} {Q : State → Prop} {Y : gx_Y} {D : va_G} {dT : Nat → ClassId} {ext : Nat → Value} {A : Nat → Prop} {c0 s0 : Nat}
variable {pc : Nat} {ls st st' : List Value} {S : gx_S} {ix a : Nat} {i : Int32}
theorem gx_new (hF : gx_Fr p l R s m args meth c Y D dT ext A) (hd : decode (gx_cd Y) pc = .ok (.new ix, 3)) {e9 : Nat × Nat} (he : (gx_nT (gx_oc Y)).find? (fun e => e.1 == ix) = some e9) (hc : c0 ≤ S.1.2.2.2.1 ∧ s0 ≤ S.1.2.2.2.2) (hR : S.1.2.2.2.1 + 1 - c0 ≤ R.cells ∧ S.1.2.2.2.2 + gx_N e9.2 - s0 ≤ R.slots)
    (hK : gx_K p l e R s m args below meth c Q Y D dT ext A c0 s0 (pc + 3) ls (.ref S.1.1 :: st) (gx_mk S e9.2 0 1 (gx_N e9.2))) : gx_K p l e R s m args below meth c Q Y D dT ext A c0 s0 pc ls st S := by
  obtain ⟨hx, hb, -, hown, hts, hE, hA, -⟩ := hF
  obtain ⟨hin, hp⟩ := gx_find_in he
  have hix : e9.1 = ix := by simpa using hp
  obtain ⟨o1, o2, o3, o4⟩ := gx_nT_ok (gx_oc Y) _ hin
  obtain ⟨ix9, ci⟩ := e9
  dsimp only at hix o1 o2 o3 o4 hR hK
  subst hix
  intro ad H locs lsA hW hS hL hls hst
  have hG := hW.2.2.2
  have hcl := gx_cl_at (ci := ci) (by omega)
  have hfs : ∀ j, j < gx_N ci → defaultValue (gx_ty ci j) = vp_V (gx_f0 ci) j := by
    intro j hj
    rw [gx_def_kd (gx_kd_lt ci (by omega) j hj)]
    unfold vp_V gx_f0
    rw [List.getD_eq_getElem?_getD, List.getElem?_map, List.getElem?_range hj]
    rfl
  refine va_new hx hb hts (gx_in_cl (by omega)) (gx_ty ci) (gx_ty_ok (by omega)) hown (hts _ o1) (hts _ o2) (hts _ o3) hE.1 hW.2.1 hW.2.2.1 hS hA hcl hfs (by omega) (by omega) hd fun q H1 hP1 hD1 hS1 => ?_
  have hws := gx_mk_ws (dT := dT) (ext := ext) (ad := ad) (tg := ci) (ln := 0) (dc := 1) (ds := gx_N ci) (q := q) hW.1
  have hob : gx_ob dT ext (gx_u1 ad (gx_n S) q) (gx_mk S ci 0 1 (gx_N ci)) (gx_n S) = .inr (ci, gx_f0 ci) := by
    unfold gx_ob
    rw [gx_mk_tag, if_pos (by omega), gx_mk_fs]
  rw [hob] at hws
  rw [← hws] at hP1 hD1
  have ha : ∀ b, b < gx_n S → gx_u1 ad (gx_n S) q b = ad b := fun b hb => gx_u1_ne (by omega)
  have hkk := hK (gx_u1 ad (gx_n S) q) H1 locs lsA ⟨gx_mk_wf hW.1 (Or.inl (by omega)), hP1, hD1, hG.mk⟩ hS1 (by rw [gx_lv_eq hls ha]; exact hL) (gx_mk_cs hls) (gx_cs_cons (fun b hb => by cases hb; exact Nat.lt_succ_self _) (gx_mk_cs hst))
  rw [List.map_cons, gx_map_eq hst ha, show gx_cv (gx_u1 ad (gx_n S) q) ext (.ref S.1.1) = .ref q from congrArg Value.ref gx_u1_eq] at hkk
  have e1 : (gx_mk S ci 0 1 (gx_N ci)).1.2.2.2.1 - c0 = S.1.2.2.2.1 - c0 + 1 := by show S.1.2.2.2.1 + 1 - c0 = _; omega
  have e2 : (gx_mk S ci 0 1 (gx_N ci)).1.2.2.2.2 - s0 = S.1.2.2.2.2 - s0 + gx_N ci := by show S.1.2.2.2.2 + gx_N ci - s0 = _; omega
  rw [e1, e2] at hkk
  exact hkk
/-- behind a new array -/
theorem gx_new_at {ad : Nat → Nat} {H1 : Heap} {locs : List Loc} {lsA : Array Slot} {t N q npc : Nat} {cA : ClassId} {x0 : (Nat → Int32) ⊕ (Nat → Int64) ⊕ (Nat → UInt32) ⊕ (Nat → UInt64) ⊕ (Nat → Option Nat)} (hE : gx_En D dT ext A s s.heap) (ht : 32 ≤ t ∧ t ≤ 39) (hG : gx_ag D S ad) (hw : gx_wf S) (hS1 : va_S A s.heap H1 locs) (hL : lv_has lsA (gx_mL Y) (gx_lv ad ext ls)) (hls : gx_cs S ls) (hst : gx_cs S st') (hc : c0 ≤ S.1.2.2.2.1 ∧ s0 ≤ S.1.2.2.2.2)
    (hx0 : gx_ct (gx_u1 ad (gx_n S) q) (gx_mk S t N 1 N) (gx_n S) = x0) (hK1 : va_K D gx_cl (gx_tys dT ++ [(cA, gx_aty t)]) s) (hP1 : va_P D gx_cl (gx_ws dT ext ad S ++ [(q, .inl (cA, N, x0))]) H1) (hD1 : va_D A (gx_ws dT ext ad S ++ [(q, .inl (cA, N, x0))]))
    (hK : gx_K p l e R s m args below meth c Q Y D dT ext A c0 s0 npc ls (.ref S.1.1 :: st') (gx_mk S t N 1 N)) : W p l e R s m args below meth c H1 locs (S.1.2.2.2.1 - c0 + 1) (S.1.2.2.2.2 - s0 + N) Q (F0 m npc lsA (.ref q :: st'.map (gx_cv ad ext))) := by
  have hcA : cA = dT t := by
    have h1 := (hK1.2 8 (cA, gx_aty t) (by rw [List.getElem?_append_right (by simp [gx_tys])]; simp [gx_tys])).2
    have h2 := (hE.1.2 (t - 32) _ (gx_tys_at ht.1 ht.2)).2
    exact gx_RA_eq h1 h2
  subst hcA
  have hws := gx_mk_ws (dT := dT) (ext := ext) (ad := ad) (tg := t) (ln := N) (dc := 1) (ds := N) (q := q) hw
  have hob : gx_ob dT ext (gx_u1 ad (gx_n S) q) (gx_mk S t N 1 N) (gx_n S) = .inl (dT t, N, x0) := by
    unfold gx_ob
    rw [gx_mk_tag, if_neg (by omega), hx0, show gx_len (gx_mk S t N 1 N) (gx_n S) = N from gx_u1_eq]
  rw [hob] at hws
  rw [← hws] at hP1 hD1
  have ha : ∀ b, b < gx_n S → gx_u1 ad (gx_n S) q b = ad b := fun b hb => gx_u1_ne (by omega)
  have hkk := hK (gx_u1 ad (gx_n S) q) H1 locs lsA ⟨gx_mk_wf hw (Or.inr ht), hP1, hD1, hG.mk⟩ hS1 (by rw [gx_lv_eq hls ha]; exact hL) (gx_mk_cs hls) (gx_cs_cons (fun b hb => by cases hb; exact Nat.lt_succ_self _) (gx_mk_cs hst))
  rw [List.map_cons, gx_map_eq hst ha, show gx_cv (gx_u1 ad (gx_n S) q) ext (.ref S.1.1) = .ref q from congrArg Value.ref gx_u1_eq] at hkk
  have e1 : (gx_mk S t N 1 N).1.2.2.2.1 - c0 = S.1.2.2.2.1 - c0 + 1 := by show S.1.2.2.2.1 + 1 - c0 = _; omega
  have e2 : (gx_mk S t N 1 N).1.2.2.2.2 - s0 = S.1.2.2.2.2 - s0 + N := by show S.1.2.2.2.2 + N - s0 = _; omega
  rw [e1, e2] at hkk
  exact hkk
def gx_at (at_ : ArrayType) : Option Nat := match at_ with
  | .int => some 32
  | .byte => some 33
  | .boolean => some 34
  | .short => some 35
  | .long => some 36
  | _ => none
theorem gx_newarr (hF : gx_Fr p l R s m args meth c Y D dT ext A) {at_ : ArrayType} (hd : decode (gx_cd Y) pc = .ok (.newarray at_, 2)) {t : Nat} (hat : gx_at at_ = some t) {n : Int32} (hn : ¬ n < 0) (hN : n.toNatClampNeg ≤ 65536) (hc : c0 ≤ S.1.2.2.2.1 ∧ s0 ≤ S.1.2.2.2.2) (hR : S.1.2.2.2.1 + 1 - c0 ≤ R.cells ∧ S.1.2.2.2.2 + n.toNatClampNeg - s0 ≤ R.slots)
    (hK : gx_K p l e R s m args below meth c Q Y D dT ext A c0 s0 (pc + 2) ls (.ref S.1.1 :: st') (gx_mk S t n.toNatClampNeg 1 n.toNatClampNeg)) : gx_K p l e R s m args below meth c Q Y D dT ext A c0 s0 pc ls (.int n :: st') S := by
  obtain ⟨hx, hb, -, hown, hts, hE, hA, -⟩ := hF
  intro ad H locs lsA hW hS hL hls hst
  cases at_ with
  | int =>
    cases hat
    refine va_newa hx hb (atype := .int) (ty := .int) (a0 := (n.toNatClampNeg, .inl fun _ => 0)) (hts _ q260) rfl hE.1 hW.2.1 hW.2.2.1 hS hA (fun _ => rfl) hn rfl (by show n.toNatClampNeg * componentBytes .int ≤ _; simp only [componentBytes]; omega) (by omega) (by omega) hd fun q cA H1 hK1 hP1 hD1 hS1 => ?_
    exact gx_new_at hE (by decide) hW.2.2.2 hW.1 hS1 hL hls (gx_cs_tail hst) hc (by rw [gx_ct_int (by rw [gx_mk_tag]; decide)]; exact congrArg Sum.inl gx_u1_eq) hK1 hP1 hD1 hK
  | byte =>
    cases hat
    refine va_newa hx hb (atype := .byte) (ty := .byte) (a0 := (n.toNatClampNeg, .inl fun _ => 0)) (hts _ q271) rfl hE.1 hW.2.1 hW.2.2.1 hS hA (fun _ => rfl) hn rfl (by show n.toNatClampNeg * componentBytes .byte ≤ _; simp only [componentBytes]; omega) (by omega) (by omega) hd fun q cA H1 hK1 hP1 hD1 hS1 => ?_
    exact gx_new_at hE (by decide) hW.2.2.2 hW.1 hS1 hL hls (gx_cs_tail hst) hc (by rw [gx_ct_int (by rw [gx_mk_tag]; decide)]; exact congrArg Sum.inl gx_u1_eq) hK1 hP1 hD1 hK
  | boolean =>
    cases hat
    refine va_newa hx hb (atype := .boolean) (ty := .boolean) (a0 := (n.toNatClampNeg, .inl fun _ => 0)) (hts _ q1607) rfl hE.1 hW.2.1 hW.2.2.1 hS hA (fun _ => rfl) hn rfl (by show n.toNatClampNeg * componentBytes .boolean ≤ _; simp only [componentBytes]; omega) (by omega) (by omega) hd fun q cA H1 hK1 hP1 hD1 hS1 => ?_
    exact gx_new_at hE (by decide) hW.2.2.2 hW.1 hS1 hL hls (gx_cs_tail hst) hc (by rw [gx_ct_int (by rw [gx_mk_tag]; decide)]; exact congrArg Sum.inl gx_u1_eq) hK1 hP1 hD1 hK
  | short =>
    cases hat
    refine va_newa hx hb (atype := .short) (ty := .short) (a0 := (n.toNatClampNeg, .inl fun _ => 0)) (hts _ q1429) rfl hE.1 hW.2.1 hW.2.2.1 hS hA (fun _ => rfl) hn rfl (by show n.toNatClampNeg * componentBytes .short ≤ _; simp only [componentBytes]; omega) (by omega) (by omega) hd fun q cA H1 hK1 hP1 hD1 hS1 => ?_
    exact gx_new_at hE (by decide) hW.2.2.2 hW.1 hS1 hL hls (gx_cs_tail hst) hc (by rw [gx_ct_int (by rw [gx_mk_tag]; decide)]; exact congrArg Sum.inl gx_u1_eq) hK1 hP1 hD1 hK
  | long =>
    cases hat
    refine va_newa hx hb (atype := .long) (ty := .long) (a0 := (n.toNatClampNeg, .inr (.inl fun _ => 0))) (hts _ q1430) rfl hE.1 hW.2.1 hW.2.2.1 hS hA (fun _ => rfl) hn rfl (by show n.toNatClampNeg * componentBytes .long ≤ _; simp only [componentBytes]; omega) (by omega) (by omega) hd fun q cA H1 hK1 hP1 hD1 hS1 => ?_
    exact gx_new_at hE (by decide) hW.2.2.2 hW.1 hS1 hL hls (gx_cs_tail hst) hc (by rw [gx_ct_long (by rw [gx_mk_tag])]; exact congrArg (fun z => Sum.inr (Sum.inl z)) gx_u1_eq) hK1 hP1 hD1 hK
  | _ => cases hat
theorem gx_anew (hF : gx_Fr p l R s m args meth c Y D dT ext A) (hd : decode (gx_cd Y) pc = .ok (.anewarray ix, 3)) {e9 : Nat × Nat} (he : (gx_aT (gx_oc Y)).find? (fun e => e.1 == ix) = some e9) {n : Int32} (hn : ¬ n < 0) (hN : n.toNatClampNeg ≤ 65536) (hc : c0 ≤ S.1.2.2.2.1 ∧ s0 ≤ S.1.2.2.2.2) (hR : S.1.2.2.2.1 + 1 - c0 ≤ R.cells ∧ S.1.2.2.2.2 + n.toNatClampNeg - s0 ≤ R.slots)
    (hK : gx_K p l e R s m args below meth c Q Y D dT ext A c0 s0 (pc + 3) ls (.ref S.1.1 :: st') (gx_mk S e9.2 n.toNatClampNeg 1 n.toNatClampNeg)) : gx_K p l e R s m args below meth c Q Y D dT ext A c0 s0 pc ls (.int n :: st') S := by
  obtain ⟨hx, hb, -, hown, hts, hE, hA, -⟩ := hF
  obtain ⟨hin, hp⟩ := gx_find_in he
  have hix : e9.1 = ix := by simpa using hp
  obtain ⟨C, o1, o2, o3⟩ := gx_aT_ok (gx_oc Y) _ hin
  obtain ⟨ix9, t⟩ := e9
  dsimp only at hix o1 o2 o3 hR hK
  subst hix
  intro ad H locs lsA hW hS hL hls hst
  have hAO : va_AO C s := by
    refine hE.2.2.2.1 C ?_
    have : t = 37 ∨ t = 38 ∨ t = 39 := by omega
    rcases this with rfl | rfl | rfl <;> (cases o2; decide)
  refine va_newq hx hb hown (hts _ o1) hAO hE.1 hW.2.1 hW.2.2.1 hS hA hn rfl (by omega) (by omega) (by omega) hd fun q cA H1 hK1 hP1 hD1 hS1 => ?_
  refine gx_new_at hE ⟨by omega, by omega⟩ hW.2.2.2 hW.1 hS1 hL hls (gx_cs_tail hst) hc ?_ (by rw [o2]; exact hK1) hP1 hD1 hK
  rw [gx_ct_ref (by rw [gx_mk_tag]; exact o3.1)]
  have hRn : (gx_mk S t n.toNatClampNeg 1 n.toNatClampNeg).2.1 (gx_n S) = fun _ => .null := gx_u1_eq
  rw [hRn]
  rfl
theorem gx_vcell_cls {cA : ClassId} {x : vp_A} : (vp_cell cA x).cls = cA ∧ (vp_cell cA x).vm = .none := by
  obtain ⟨n, x⟩ := x
  rcases x with f | f | f | f | f <;> exact ⟨rfl, rfl⟩
theorem gx_aname (hE : gx_En D dT ext A s s.heap) {t : Nat} (h1 : 32 ≤ t) (h2 : t ≤ 36) : s.vm.findClass (gx_tname t) = some (dT t) := by
  have h := (hE.1.2 (t - 32) _ (gx_tys_at h1 (by omega))).2
  have : t = 32 ∨ t = 33 ∨ t = 34 ∨ t = 35 ∨ t = 36 := by omega
  rcases this with rfl | rfl | rfl | rfl | rfl <;> exact h
theorem gx_castL : ∀ oc, oc < 21 → ∀ e ∈ gx_cT oc, e.2 < 15 ∨ (32 ≤ e.2 ∧ e.2 ≤ 36) := by decide +kernel
theorem gx_cast (hF : gx_Fr p l R s m args meth c Y D dT ext A) (hoc : gx_oc Y < 21) (hd : decode (gx_cd Y) pc = .ok (.checkcast ix, 3)) {e9 : Nat × Nat} (he : (gx_cT (gx_oc Y)).find? (fun e => e.1 == ix && e.2 == gx_tag S a) = some e9) (hK : gx_K p l e R s m args below meth c Q Y D dT ext A c0 s0 (pc + 3) ls (.ref a :: st') S) : gx_K p l e R s m args below meth c Q Y D dT ext A c0 s0 pc ls (.ref a :: st') S := by
  obtain ⟨hx, hb, -, hown, hts, hE, hA, -⟩ := hF
  obtain ⟨hin, hp⟩ := gx_find_in he
  have hp2 : e9.1 = ix ∧ e9.2 = gx_tag S a := by simpa using hp
  have o1 := gx_cT_ok (gx_oc Y) _ hin
  have o2 := gx_castL _ hoc _ hin
  obtain ⟨ix9, t⟩ := e9
  dsimp only at hp2 o2
  obtain ⟨rfl, rfl⟩ := hp2
  intro ad H locs lsA hW hS hL hls hst
  have hkk := hK ad H locs lsA hW hS hL hls hst
  rcases o2 with h | ⟨h1, h2⟩
  · have hob := gx_ws_obj (dT := dT) (ext := ext) (ad := ad) hW.1 h
    have hn : gx_tname (gx_tag S a) = gx_rname (gx_tag S a) := by
      unfold gx_tname
      split <;> first | omega | rfl
    have o3 : Cond.classLink (gx_cname (gx_oc Y)) ix9 (gx_rname (gx_tag S a)) ∈ lw_all := by rw [← hn]; exact o1
    exact va_castS hx hb hown (hts _ o3) (hE.1.1 _ _ (gx_cl_at h)).2 (va_recv hE.1 hW.2.1 (gx_cl_at h) hob) hd hkk
  · have hob := gx_ws_arr (dT := dT) (ext := ext) (ad := ad) hW.1 h1 (by omega)
    exact va_castA hx hb hown (hts _ o1) hW.2.1 a hob (gx_aname hE h1 h2) hd hkk
theorem gx_instL : ∀ oc, oc < 21 → ∀ e ∈ gx_iT oc, 32 ≤ e.2.1 ∧ e.2.1 ≤ 36 := by decide +kernel
theorem gx_inst (hF : gx_Fr p l R s m args meth c Y D dT ext A) (hoc : gx_oc Y < 21) (hd : decode (gx_cd Y) pc = .ok (.instanceof ix, 3)) {e9 : Nat × Nat × Nat} (he : (gx_iT (gx_oc Y)).find? (fun e => e.1 == ix && e.2.1 == gx_tag S a) = some e9) (hK : gx_K p l e R s m args below meth c Q Y D dT ext A c0 s0 (pc + 3) ls (.int (if e9.2.2 = 0 then 0 else 1) :: st') S) : gx_K p l e R s m args below meth c Q Y D dT ext A c0 s0 pc ls (.ref a :: st') S := by
  obtain ⟨hx, hb, -, hown, hts, hE, hA, -⟩ := hF
  obtain ⟨hin, hp⟩ := gx_find_in he
  have hp2 : e9.1 = ix ∧ e9.2.1 = gx_tag S a := by simpa using hp
  have o1 := gx_iT_ok (gx_oc Y) _ hin
  obtain ⟨h1, h2⟩ := gx_instL _ hoc _ hin
  obtain ⟨ix9, t, b9⟩ := e9
  dsimp only at hp2 h1 h2 hK
  obtain ⟨rfl, rfl⟩ := hp2
  intro ad H locs lsA hW hS hL hls hst
  have hkk := hK ad H locs lsA hW hS hL hls (gx_cs_cons gx_c0_int (gx_cs_tail hst))
  have hob := gx_ws_arr (dT := dT) (ext := ext) (ad := ad) hW.1 h1 (by omega)
  have hcell : ∃ cell : Cell, H[ad a]? = some cell ∧ cell.vm.isStatics = false ∧ s.vm.findClass (gx_tname (gx_tag S a)) = some cell.cls :=
    ⟨_, hW.2.1 a _ hob, by rw [gx_vcell_cls.2]; rfl, by rw [gx_vcell_cls.1]; exact gx_aname hE h1 h2⟩
  cases b9 with
  | zero =>
    obtain ⟨C, g1, g2⟩ := o1
    exact va_instNo hx hb hown (hts _ g1) (hE.2.2.1 _ g2) hcell hd hkk
  | succ b9 => exact va_instE hx hb hown (hts _ o1.1) hcell hd hkk
/-- two references that may be compared -/
theorem gx_cmp_ok (hE : gx_En D dT ext A s s.heap) {ad : Nat → Nat} {H : Heap} (hW : gx_Wd D dT ext A S ad H) {v w : Value} (h : gx_cmp v w = true) (hv : gx_c0 S v) (hw : gx_c0 S w) : ∃ rx ry, gx_cv ad ext v = va_rf rx ∧ gx_cv ad ext w = va_rf ry ∧ (rx = ry ↔ v = w) := by
  obtain ⟨-, -, -, -, -, -, -, ⟨h10, h11⟩, -⟩ := hE
  have hAd : ∀ b, b < gx_n S → A (ad b) := fun b hb => hW.2.2.1.2 b _ (gx_ws_get hb)
  have hX : ∀ j, j < 6 → ∃ t, ext j = va_rf (some t) ∧ ¬ A t := fun j hj => h10 j hj
  cases v with
  | null =>
    cases w with
    | null => exact ⟨none, none, rfl, rfl, by simp⟩
    | ref b => exact ⟨none, some (ad b), rfl, rfl, by simp⟩
    | retAddr j =>
      have hj : j < 6 := by
        have := h
        unfold gx_cmp at this
        simp [gx_isR] at this
        exact this
      obtain ⟨t, e1, -⟩ := hX j hj
      exact ⟨none, some t, rfl, e1, by simp⟩
    | _ => simp [gx_cmp, gx_isR] at h
  | ref a9 =>
    cases w with
    | null => exact ⟨some (ad a9), none, rfl, rfl, by simp⟩
    | ref b =>
      refine ⟨some (ad a9), some (ad b), rfl, rfl, ⟨fun e => ?_, fun e => by cases e; rfl⟩⟩
      have := hW.2.2.1.1 a9 b _ _ (gx_ws_get (hv a9 rfl)) (gx_ws_get (hw b rfl)) (Option.some.inj e)
      rw [this]
    | retAddr j =>
      have hj : j < 6 := by
        have := h
        unfold gx_cmp at this
        simp [gx_isR] at this
        exact this
      obtain ⟨t, e1, e2⟩ := hX j hj
      exact ⟨some (ad a9), some t, rfl, e1, ⟨fun e => absurd (hAd a9 (hv a9 rfl)) (by rw [Option.some.inj e]; exact e2), fun e => by cases e⟩⟩
    | _ => simp [gx_cmp, gx_isR] at h
  | retAddr j =>
    cases w with
    | null =>
      have hj : j < 6 := by
        have := h
        unfold gx_cmp at this
        simp [gx_isR] at this
        exact this
      obtain ⟨t, e1, -⟩ := hX j hj
      exact ⟨some t, none, e1, rfl, by simp⟩
    | ref b =>
      have hj : j < 6 := by
        have := h
        unfold gx_cmp at this
        simp [gx_isR] at this
        exact this
      obtain ⟨t, e1, e2⟩ := hX j hj
      exact ⟨some t, some (ad b), e1, rfl, ⟨fun e => absurd (hAd b (hw b rfl)) (by rw [← Option.some.inj e]; exact e2), fun e => by cases e⟩⟩
    | retAddr i =>
      have hij : (j < 5 ∧ i < 5) ∨ (j = 5 ∧ i = 5) := by
        have := h
        unfold gx_cmp at this
        exact of_decide_eq_true this
      obtain ⟨t, e1, -⟩ := hX j (by omega)
      obtain ⟨u, e2, -⟩ := hX i (by omega)
      refine ⟨some t, some u, e1, e2, ⟨fun e => ?_, fun e => ?_⟩⟩
      · rcases hij with ⟨a1, a2⟩ | ⟨a1, a2⟩
        · rw [h11 j i a1 a2 (by rw [e1, e2, e])]
        · rw [a1, a2]
      · cases e
        have := e1.symm.trans e2
        exact congrArg some (by simpa [va_rf] using this)
    | _ => simp [gx_cmp, gx_isR] at h
  | _ => cases w <;> simp [gx_cmp, gx_isR] at h
def gx_atg (cnd : ACond) (v w : Value) (tgt npc : Nat) : Nat := match cnd with
  | .eq => if v = w then tgt else npc
  | .ne => if v = w then npc else tgt
theorem gx_acmp (hF : gx_Fr p l R s m args meth c Y D dT ext A) {cnd : ACond} {off : Int} {tgt : Nat} (hd : decode (gx_cd Y) pc = .ok (.if_acmp cnd off, 3)) (ht : (pc : Int) + off = (tgt : Int)) {v w : Value} (h : gx_cmp v w = true)
    (hK : gx_K p l e R s m args below meth c Q Y D dT ext A c0 s0 (gx_atg cnd v w tgt (pc + 3)) ls st' S) : gx_K p l e R s m args below meth c Q Y D dT ext A c0 s0 pc ls (w :: v :: st') S := by
  obtain ⟨hx, hb, -, hown, hts, hE, hA, -⟩ := hF
  intro ad H locs lsA hW hS hL hls hst
  obtain ⟨rx, ry, e1, e2, e3⟩ := gx_cmp_ok hE hW h (gx_cs_head (gx_cs_tail hst)) (gx_cs_head hst)
  have hkk := hK ad H locs lsA hW hS hL hls (gx_cs_tail (gx_cs_tail hst))
  show W p l e R s m args below meth c H locs _ _ Q (F0 m pc lsA (gx_cv ad ext w :: gx_cv ad ext v :: st'.map (gx_cv ad ext)))
  rw [e1, e2]
  cases cnd with
  | eq =>
    refine lv_acmp_eq hx hb hd ht (fun hz => ?_) (fun hz => ?_)
    · rw [show gx_atg .eq v w tgt (pc + 3) = tgt from if_pos (e3.mp hz)] at hkk
      exact hkk
    · rw [show gx_atg .eq v w tgt (pc + 3) = pc + 3 from if_neg (fun z => hz (e3.mpr z))] at hkk
      exact hkk
  | ne =>
    refine lv_acmp_ne hx hb hd ht (fun hz => ?_) (fun hz => ?_)
    · rw [show gx_atg .ne v w tgt (pc + 3) = tgt from if_neg (fun z => hz (e3.mpr z))] at hkk
      exact hkk
    · rw [show gx_atg .ne v w tgt (pc + 3) = pc + 3 from if_pos (e3.mp hz)] at hkk
      exact hkk
theorem gx_gets (hF : gx_Fr p l R s m args meth c Y D dT ext A) (hd : decode (gx_cd Y) pc = .ok (.getstatic ix, 3)) {e9 : Nat × Nat} (he : (gx_gT (gx_oc Y)).find? (fun e => e.1 == ix) = some e9) (hK : gx_K p l e R s m args below meth c Q Y D dT ext A c0 s0 (pc + 3) ls ((gx_st e9.2).2.2.2 :: st) S) : gx_K p l e R s m args below meth c Q Y D dT ext A c0 s0 pc ls st S := by
  obtain ⟨hx, hb, -, hown, hts, hE, hA, -⟩ := hF
  obtain ⟨hin, hp⟩ := gx_find_in he
  have hix : e9.1 = ix := by simpa using hp
  obtain ⟨o1, o2⟩ := gx_gT_ok (gx_oc Y) _ hin
  obtain ⟨ix9, j⟩ := e9
  dsimp only at hix o1 o2 hK
  subst hix
  intro ad H locs lsA hW hS hL hls hst
  have hc : gx_c0 S (gx_st j).2.2.2 ∧ gx_cv ad ext (gx_st j).2.2.2 = gx_cv (fun _ => 0) ext (gx_st j).2.2.2 := by
    match j, o2 with
    | 0, _ => exact ⟨gx_c0_ext, rfl⟩
    | 1, _ => exact ⟨gx_c0_ext, rfl⟩
    | 2, _ => exact ⟨gx_c0_ext, rfl⟩
    | 3, _ => exact ⟨gx_c0_ext, rfl⟩
    | 4, _ => exact ⟨gx_c0_ext, rfl⟩
    | 5, _ => exact ⟨gx_c0_ext, rfl⟩
    | 6, _ => exact ⟨gx_c0_ext, rfl⟩
    | 7, _ => exact ⟨gx_c0_ext, rfl⟩
    | 8, _ => exact ⟨gx_c0_ext, rfl⟩
    | 9, _ => exact ⟨gx_c0_int, rfl⟩
    | n + 10, h => exact absurd h (by omega)
  have hkk := hK ad H locs lsA hW hS hL hls (gx_cs_cons hc.1 hst)
  rw [List.map_cons, hc.2] at hkk
  exact va_gets hx hb (hE.2.2.2.2.1 j o2) hS hown (hts _ o1) (fun z hz => hz) hd hkk
end GXM
