set_option maxRecDepth 100000
/-! ===== what is thrown by the machine itself, and athrow (printed by tools/gen17.py) ===== -/
def gx_ms (tg : Nat) : List String := if tg = 13 then ["java/lang/IndexOutOfBoundsException", "java/lang/RuntimeException", "java/lang/Exception"] else ["java/lang/RuntimeException", "java/lang/Exception"]
set_option maxHeartbeats 4000000 in
theorem gx_npe_in : ∀ w ∈ (vx_atN 8).filter goodWord, w ∈ lw_tbl := by decide +kernel
set_option maxHeartbeats 4000000 in
theorem gx_npe_nest : ∀ w ∈ (vx_atN 8).filter (fun w => !goodWord w), w ∈ gx_nest := by decide +kernel
set_option maxHeartbeats 4000000 in
theorem gx_m12_in : ∀ w ∈ (vx_atM (gx_rname 12) (gx_ms 12)).filter goodWord, w ∈ lw_tbl := by decide +kernel
set_option maxHeartbeats 4000000 in
theorem gx_m12_nest : ∀ w ∈ (vx_atM (gx_rname 12) (gx_ms 12)).filter (fun w => !goodWord w), w ∈ gx_nest := by decide +kernel
set_option maxHeartbeats 4000000 in
theorem gx_m13_in : ∀ w ∈ (vx_atM (gx_rname 13) (gx_ms 13)).filter goodWord, w ∈ lw_tbl := by decide +kernel
set_option maxHeartbeats 4000000 in
theorem gx_m13_nest : ∀ w ∈ (vx_atM (gx_rname 13) (gx_ms 13)).filter (fun w => !goodWord w), w ∈ gx_nest := by decide +kernel
set_option maxHeartbeats 4000000 in
theorem gx_m14_in : ∀ w ∈ (vx_atM (gx_rname 14) (gx_ms 14)).filter goodWord, w ∈ lw_tbl := by decide +kernel
set_option maxHeartbeats 4000000 in
theorem gx_m14_nest : ∀ w ∈ (vx_atM (gx_rname 14) (gx_ms 14)).filter (fun w => !goodWord w), w ∈ gx_nest := by decide +kernel
theorem gx_nest_on : ∀ w ∈ gx_nest, w.onTables = true := by decide +kernel
theorem gx_words {args : Array Value} {s : State} {D : va_G} {dT : Nat → ClassId} {ext : Nat → Value} {A : Nat → Prop} {L : List Cond} (hts : ∀ w ∈ lw_all, w.before args s = true) (hE : gx_En D dT ext A s s.heap) (h1 : ∀ w ∈ L.filter goodWord, w ∈ lw_tbl) (h2 : ∀ w ∈ L.filter (fun w => !goodWord w), w ∈ gx_nest) : (∀ w ∈ L, w.before args s = true) ∧ ∀ w ∈ L, vx_ot w = true := by
  refine ⟨vx_hat (B := gx_nest) (fun w hw => hts w (lw_g (h1 w hw) (List.mem_filter.mp hw).2)) h2 (fun w hw => (hE.2.1 w hw).use (gx_nest_on w hw)), fun w hw => ?_⟩
  unfold vx_ot
  by_cases g : goodWord w = true
  · rw [g, Bool.or_true]
  · rw [gx_nest_on w (h2 w (List.mem_filter.mpr ⟨hw, by simpa using g⟩)), Bool.true_or]
theorem gx_mw {args : Array Value} {s : State} {D : va_G} {dT : Nat → ClassId} {ext : Nat → Value} {A : Nat → Prop} (hts : ∀ w ∈ lw_all, w.before args s = true) (hE : gx_En D dT ext A s s.heap) {tg : Nat} (h : tg = 12 ∨ tg = 13 ∨ tg = 14) : (∀ w ∈ vx_atM (gx_rname tg) (gx_ms tg), w.before args s = true) ∧ ∀ w ∈ vx_atM (gx_rname tg) (gx_ms tg), vx_ot w = true := by
  rcases h with rfl | rfl | rfl
  · exact gx_words hts hE gx_m12_in gx_m12_nest
  · exact gx_words hts hE gx_m13_in gx_m13_nest
  · exact gx_words hts hE gx_m14_in gx_m14_nest
theorem gx_fit3 : ∀ tg ∈ [12, 13, 14], Bundle.fit (gx_rname tg) = true ∧ (∀ n ∈ gx_ms tg, Bundle.fit n = true) ∧ (gx_rname tg == "java/lang/StackOverflowError") = false ∧ (gx_rname tg == "java/lang/OutOfMemoryError") = false ∧ (gx_ms tg).length ≤ 3 := by decide +kernel
theorem gx_D_push {A : Nat → Prop} {ws : va_W} {a : Nat} {e : va_E} {D : va_G} {cl : List vw_C} {H : Heap} (hD : va_D A ws) (hP : va_P D cl ws H) (ha : H.size ≤ a) (hA : A a) : va_D A (ws ++ [(a, e)]) := by
  refine va_D.app hD ⟨fun i j p q hi hj _ => ?_, fun k q hk => ?_⟩ fun i j p q hi hj hz => ?_
  · have h1 := (List.getElem?_eq_some_iff.mp hi).1
    have h2 := (List.getElem?_eq_some_iff.mp hj).1
    simp only [List.length_cons, List.length_nil] at h1 h2
    omega
  · rcases List.mem_singleton.mp (List.mem_of_getElem? hk) with rfl
    exact hA
  · have h1 := (hP i p hi).lt
    rcases List.mem_singleton.mp (List.mem_of_getElem? hj) with rfl
    have h2 : p.1 = a := hz
    omega
/-- a new object without fields, beside what was there -/
theorem gx_Wd_mk {s : State} {D : va_G} {dT : Nat → ClassId} {ext : Nat → Value} {A : Nat → Prop} {S : gx_S} {ad : Nat → Nat} {H H1 : Heap} {q9 : Nat} {ce : Cell} {tg dc ds : Nat} {tys : List (ClassId × FieldType)} (hW : gx_Wd D dT ext A S ad H) (hK : va_K D gx_cl tys s) (ht : tg < 15) (hN : gx_N tg = 0) (hq : H.size ≤ q9) (hA : A q9) (hk : ∀ q : Nat, q < H.size → H1[q]? = H[q]?) (hce : H1[q9]? = some ce) (hv : ce.vm = .none) (hcl : s.vm.findClass (gx_rname tg) = some ce.cls) : gx_Wd D dT ext A (gx_mk S tg 0 dc ds) (gx_u1 ad (gx_n S) q9) H1 := by
  have hws := gx_mk_ws (dT := dT) (ext := ext) (ad := ad) (tg := tg) (ln := 0) (dc := dc) (ds := ds) (q := q9) hW.1
  have hob : gx_ob dT ext (gx_u1 ad (gx_n S) q9) (gx_mk S tg 0 dc ds) (gx_n S) = .inr (tg, gx_f0 tg) := by
    unfold gx_ob
    rw [gx_mk_tag, if_pos (by omega), gx_mk_fs]
  rw [hob] at hws
  refine ⟨gx_mk_wf hW.1 (Or.inl ht), ?_, ?_, hW.2.2.2.mk⟩
  · rw [hws]
    refine va_P.app (hW.2.1.kept fun k q hkq => hk q.1 (hW.2.1 k q hkq).lt) fun k q hkq => ?_
    rcases List.mem_singleton.mp (List.mem_of_getElem? hkq) with rfl
    refine ⟨_, gx_cl_at ht, ce, hce, ?_, hv, fun k hk => ?_⟩
    · obtain ⟨-, hfc, -⟩ := hK.1 tg _ (gx_cl_at ht)
      exact Option.some.inj (hcl.symm.trans hfc)
    · have hk' : k < gx_N tg := hk
      omega
  · rw [hws]
    exact gx_D_push hW.2.2.1 hW.2.1 hq hA
/-- from every heap that holds the pure memory with the object q thrown at pc, the machine comes to Q -/
def gx_X (p : Program) (l : Launch) (e : Env) (R : Room) (s : State) (m : MethodId) (args : Array Value) (below : List Frame) (meth : Method) (c : Code) (Q : State → Prop) (Y : gx_Y) (D : va_G) (dT : Nat → ClassId) (ext : Nat → Value) (A : Nat → Prop) (c0 s0 : Nat) (pc : Nat) (ls : List Value) (q : Nat) (S : gx_S) : Prop :=
  ∀ (ad : Nat → Nat) (H : Heap) (locs : List Loc) (lsA : Array Slot) (rest : List Value), gx_Wd D dT ext A S ad H → va_S A s.heap H locs → lv_has lsA (gx_mL Y) (gx_lv ad ext ls) → gx_cs S ls → gx_tag S q < 15 →
    vx_W p l e R s m args below meth c H locs (S.1.2.2.2.1 - c0) (S.1.2.2.2.2 - s0) Q (F0 m pc lsA rest) (ad q)
section GXT
variable {p : Program} {l : Launch} {e : Env} {R : Room} {s : State} {m : MethodId} {args : Array Value} {below : List Frame} {meth : Method} {c : Code} {Q : State → Prop} {Y : gx_Y} {D : va_G} {dT : Nat → ClassId} {ext : Nat → Value} {A : Nat → Prop} {c0 s0 : Nat}
variable {pc len : Nat} {ls st st' : List Value} {S S' : gx_S} {ix a q : Nat} {i : Int32}
theorem gx_npeX (hF : gx_Fr p l R s m args meth c Y D dT ext A) {rest : List Value} (hst9 : rest.length ≤ 32) (hc : c0 ≤ S.1.2.2.2.1 ∧ s0 ≤ S.1.2.2.2.2) (hR : S.1.2.2.2.1 + 1 - c0 ≤ R.cells ∧ S.1.2.2.2.2 + 8 - s0 ≤ R.slots) (hX : gx_X p l e R s m args below meth c Q Y D dT ext A c0 s0 pc ls S.1.1 (gx_mk S 11 0 1 8)) {ad : Nat → Nat} {H : Heap} {locs : List Loc} {lsA : Array Slot} (hW : gx_Wd D dT ext A S ad H) (hS : va_S A s.heap H locs) (hL : lv_has lsA (gx_mL Y) (gx_lv ad ext ls)) (hls : gx_cs S ls) :
    vx_NoteN p l e R s m args below meth c H locs (S.1.2.2.2.1 - c0) (S.1.2.2.2.2 - s0) Q (F0 m pc lsA rest) := by
  obtain ⟨hx, hb, hml, hown, hts, hE, hA, hlocks, -, -, htr, hR1, hR2⟩ := hF
  obtain ⟨w1, w2⟩ := gx_words hts hE gx_npe_in gx_npe_nest
  have hsum := gx_sum_le rest
  refine vx_npe (nb := 8) (A := A) hx htr w1 w2 hE.2.2.2.2.2.2.2.2.1.1 hE.2.2.2.2.2.2.2.2.1.2 hS (hL.1.trans hml.symm) (by omega) (by omega) (by omega) (by omega) hlocks fun H1 q9 ce hq hsz hk hS1 hce hv hcl => ?_
  have hW1 := gx_Wd_mk (tg := 11) (dc := 1) (ds := 8) hW hE.1 (by decide) rfl hq (hA q9 (Nat.le_trans hS.1 hq)) hk hce hv hcl
  have ha : ∀ b, b < gx_n S → gx_u1 ad (gx_n S) q9 b = ad b := fun b hb => gx_u1_ne (by omega)
  have hk1 := hX (gx_u1 ad (gx_n S) q9) H1 locs lsA rest hW1 hS1 (by rw [gx_lv_eq hls ha]; exact hL) (gx_mk_cs hls) (by rw [show S.1.1 = gx_n S from rfl, gx_mk_tag]; decide)
  rw [show gx_u1 ad (gx_n S) q9 S.1.1 = q9 from gx_u1_eq] at hk1
  have e1 : (gx_mk S 11 0 1 8).1.2.2.2.1 - c0 = S.1.2.2.2.1 - c0 + 1 := by show S.1.2.2.2.1 + 1 - c0 = _; omega
  have e2 : (gx_mk S 11 0 1 8).1.2.2.2.2 - s0 = S.1.2.2.2.2 - s0 + 8 := by show S.1.2.2.2.2 + 8 - s0 = _; omega
  rw [e1, e2] at hk1
  exact hk1
theorem gx_vmX (hF : gx_Fr p l R s m args meth c Y D dT ext A) {rest : List Value} (hst9 : rest.length ≤ 32) {tg : Nat} (htg : tg = 12 ∨ tg = 13 ∨ tg = 14) {text : String} (htext : (text == notModelled) = false) (hnb : (stringBytes (stringToUtf16 text)).size ≤ 1000) (hc : c0 ≤ S.1.2.2.2.1 ∧ s0 ≤ S.1.2.2.2.2) (hR : S.1.2.2.2.1 + 3 - c0 ≤ R.cells ∧ S.1.2.2.2.2 + 1010 - s0 ≤ R.slots) (hX : gx_X p l e R s m args below meth c Q Y D dT ext A c0 s0 pc ls S.1.1 (gx_mk S tg 0 3 1010)) {ad : Nat → Nat} {H : Heap} {locs : List Loc} {lsA : Array Slot} (hW : gx_Wd D dT ext A S ad H) (hS : va_S A s.heap H locs) (hL : lv_has lsA (gx_mL Y) (gx_lv ad ext ls)) (hls : gx_cs S ls) :
    vx_Note p l e R s m args below meth c H locs (S.1.2.2.2.1 - c0) (S.1.2.2.2.2 - s0) Q (F0 m pc lsA rest) (gx_rname tg) text := by
  obtain ⟨hx, hb, hml, hown, hts, hE, hA, hlocks, -, -, htr, hR1, hR2⟩ := hF
  obtain ⟨w1, w2⟩ := gx_mw hts hE htg
  obtain ⟨f1, f2, f3, f4, f5⟩ := gx_fit3 tg (by rcases htg with rfl | rfl | rfl <;> decide)
  have hsum := gx_sum_le rest
  refine vx_vm (nb := 1000) (A := A) (names := gx_ms tg) hx htr f1 f2 f3 f4 w1 w2 hE.2.2.2.2.2.2.2.2.1.1 hE.2.2.2.2.2.2.2.2.1.2 hS (hL.1.trans hml.symm) htext hnb (by omega) (by omega) (by omega) (by omega) (by omega) (by omega) hlocks fun H1 q9 ce hq hsz hk hS1 hce hv hcl => ?_
  have hW1 := gx_Wd_mk (tg := tg) (dc := 3) (ds := 1010) hW hE.1 (by omega) (by rcases htg with rfl | rfl | rfl <;> rfl) hq (hA q9 (Nat.le_trans hS.1 hq)) hk hce hv hcl
  have ha : ∀ b, b < gx_n S → gx_u1 ad (gx_n S) q9 b = ad b := fun b hb => gx_u1_ne (by omega)
  have hk1 := hX (gx_u1 ad (gx_n S) q9) H1 locs lsA rest hW1 hS1 (by rw [gx_lv_eq hls ha]; exact hL) (gx_mk_cs hls) (by rw [show S.1.1 = gx_n S from rfl, gx_mk_tag]; omega)
  rw [show gx_u1 ad (gx_n S) q9 S.1.1 = q9 from gx_u1_eq] at hk1
  have e1 : (gx_mk S tg 0 3 1010).1.2.2.2.1 - c0 = S.1.2.2.2.1 - c0 + 3 := by show S.1.2.2.2.1 + 3 - c0 = _; omega
  have e2 : (gx_mk S tg 0 3 1010).1.2.2.2.2 - s0 = S.1.2.2.2.2 - s0 + (1000 + 10) := by show S.1.2.2.2.2 + 1010 - s0 = _; omega
  rw [e1, e2] at hk1
  exact hk1
theorem gx_oobT (i : Int32) {n : Nat} (h : n ≤ 65536) {tx : String} (e9 : tx = (toString "Index " ++ toString i ++ toString " out of bounds for length " ++ toString n : String)) : (tx == notModelled) = false ∧ (stringBytes (stringToUtf16 tx)).size ≤ 1000 := by
  subst e9
  exact ⟨index_text_modelled i n, Nat.le_trans (index_text_bytes i (n := n) (by omega)) (by decide)⟩

theorem gx_ialdZ (hF : gx_Fr p l R s m args meth c Y D dT ext A) (hd : decode (gx_cd Y) pc = .ok (.iaload, 1)) (hst9 : st'.length ≤ 32) (ht : gx_tag S a = 32) (hin : i < 0 ∨ gx_len S a ≤ i.toNatClampNeg) (hn9 : gx_len S a ≤ 65536) (hc : c0 ≤ S.1.2.2.2.1 ∧ s0 ≤ S.1.2.2.2.2) (hR : S.1.2.2.2.1 + 3 - c0 ≤ R.cells ∧ S.1.2.2.2.2 + 1010 - s0 ≤ R.slots) (hX : gx_X p l e R s m args below meth c Q Y D dT ext A c0 s0 pc ls S.1.1 (gx_mk S 13 0 3 1010)) : gx_K p l e R s m args below meth c Q Y D dT ext A c0 s0 pc ls (.int i :: .ref a :: st') S := by
  have hF9 := hF
  obtain ⟨hx, hb, -, hown, hts, hE, -⟩ := hF
  intro ad H locs lsA hW hS hL hls hst
  have hob := gx_ws_arr (dT := dT) (ext := ext) (ad := ad) (a := a) hW.1 (by omega) (by omega)
  rw [gx_ct_int (by omega), ht] at hob
  refine vx_ialdZ hx hb hE.1 hW.2.1 a 0 hob rfl (not_not_intro hin) hd fun tx htx => ?_
  obtain ⟨t1, t2⟩ := gx_oobT i hn9 htx
  exact gx_vmX hF9 (by rw [List.length_map]; exact hst9) (Or.inr (Or.inl rfl)) t1 t2 hc hR hX hW hS hL hls
theorem gx_baldZ (hF : gx_Fr p l R s m args meth c Y D dT ext A) (hd : decode (gx_cd Y) pc = .ok (.baload, 1)) (hst9 : st'.length ≤ 32) (ht : gx_tag S a = 33) (hin : i < 0 ∨ gx_len S a ≤ i.toNatClampNeg) (hn9 : gx_len S a ≤ 65536) (hc : c0 ≤ S.1.2.2.2.1 ∧ s0 ≤ S.1.2.2.2.2) (hR : S.1.2.2.2.1 + 3 - c0 ≤ R.cells ∧ S.1.2.2.2.2 + 1010 - s0 ≤ R.slots) (hX : gx_X p l e R s m args below meth c Q Y D dT ext A c0 s0 pc ls S.1.1 (gx_mk S 13 0 3 1010)) : gx_K p l e R s m args below meth c Q Y D dT ext A c0 s0 pc ls (.int i :: .ref a :: st') S := by
  have hF9 := hF
  obtain ⟨hx, hb, -, hown, hts, hE, -⟩ := hF
  intro ad H locs lsA hW hS hL hls hst
  have hob := gx_ws_arr (dT := dT) (ext := ext) (ad := ad) (a := a) hW.1 (by omega) (by omega)
  rw [gx_ct_int (by omega), ht] at hob
  refine vx_baldZ hx hb hE.1 hW.2.1 a 1 hob rfl (not_not_intro hin) hd fun tx htx => ?_
  obtain ⟨t1, t2⟩ := gx_oobT i hn9 htx
  exact gx_vmX hF9 (by rw [List.length_map]; exact hst9) (Or.inr (Or.inl rfl)) t1 t2 hc hR hX hW hS hL hls
theorem gx_zaldZ (hF : gx_Fr p l R s m args meth c Y D dT ext A) (hd : decode (gx_cd Y) pc = .ok (.baload, 1)) (hst9 : st'.length ≤ 32) (ht : gx_tag S a = 34) (hin : i < 0 ∨ gx_len S a ≤ i.toNatClampNeg) (hn9 : gx_len S a ≤ 65536) (hc : c0 ≤ S.1.2.2.2.1 ∧ s0 ≤ S.1.2.2.2.2) (hR : S.1.2.2.2.1 + 3 - c0 ≤ R.cells ∧ S.1.2.2.2.2 + 1010 - s0 ≤ R.slots) (hX : gx_X p l e R s m args below meth c Q Y D dT ext A c0 s0 pc ls S.1.1 (gx_mk S 13 0 3 1010)) : gx_K p l e R s m args below meth c Q Y D dT ext A c0 s0 pc ls (.int i :: .ref a :: st') S := by
  have hF9 := hF
  obtain ⟨hx, hb, -, hown, hts, hE, -⟩ := hF
  intro ad H locs lsA hW hS hL hls hst
  have hob := gx_ws_arr (dT := dT) (ext := ext) (ad := ad) (a := a) hW.1 (by omega) (by omega)
  rw [gx_ct_int (by omega), ht] at hob
  refine vx_zaldZ hx hb hE.1 hW.2.1 a 2 hob rfl (not_not_intro hin) hd fun tx htx => ?_
  obtain ⟨t1, t2⟩ := gx_oobT i hn9 htx
  exact gx_vmX hF9 (by rw [List.length_map]; exact hst9) (Or.inr (Or.inl rfl)) t1 t2 hc hR hX hW hS hL hls
theorem gx_saldZ (hF : gx_Fr p l R s m args meth c Y D dT ext A) (hd : decode (gx_cd Y) pc = .ok (.saload, 1)) (hst9 : st'.length ≤ 32) (ht : gx_tag S a = 35) (hin : i < 0 ∨ gx_len S a ≤ i.toNatClampNeg) (hn9 : gx_len S a ≤ 65536) (hc : c0 ≤ S.1.2.2.2.1 ∧ s0 ≤ S.1.2.2.2.2) (hR : S.1.2.2.2.1 + 3 - c0 ≤ R.cells ∧ S.1.2.2.2.2 + 1010 - s0 ≤ R.slots) (hX : gx_X p l e R s m args below meth c Q Y D dT ext A c0 s0 pc ls S.1.1 (gx_mk S 13 0 3 1010)) : gx_K p l e R s m args below meth c Q Y D dT ext A c0 s0 pc ls (.int i :: .ref a :: st') S := by
  have hF9 := hF
  obtain ⟨hx, hb, -, hown, hts, hE, -⟩ := hF
  intro ad H locs lsA hW hS hL hls hst
  have hob := gx_ws_arr (dT := dT) (ext := ext) (ad := ad) (a := a) hW.1 (by omega) (by omega)
  rw [gx_ct_int (by omega), ht] at hob
  refine vx_saldZ hx hb hE.1 hW.2.1 a 3 hob rfl (not_not_intro hin) hd fun tx htx => ?_
  obtain ⟨t1, t2⟩ := gx_oobT i hn9 htx
  exact gx_vmX hF9 (by rw [List.length_map]; exact hst9) (Or.inr (Or.inl rfl)) t1 t2 hc hR hX hW hS hL hls
theorem gx_laldZ (hF : gx_Fr p l R s m args meth c Y D dT ext A) (hd : decode (gx_cd Y) pc = .ok (.laload, 1)) (hst9 : st'.length ≤ 32) (ht : gx_tag S a = 36) (hin : i < 0 ∨ gx_len S a ≤ i.toNatClampNeg) (hn9 : gx_len S a ≤ 65536) (hc : c0 ≤ S.1.2.2.2.1 ∧ s0 ≤ S.1.2.2.2.2) (hR : S.1.2.2.2.1 + 3 - c0 ≤ R.cells ∧ S.1.2.2.2.2 + 1010 - s0 ≤ R.slots) (hX : gx_X p l e R s m args below meth c Q Y D dT ext A c0 s0 pc ls S.1.1 (gx_mk S 13 0 3 1010)) : gx_K p l e R s m args below meth c Q Y D dT ext A c0 s0 pc ls (.int i :: .ref a :: st') S := by
  have hF9 := hF
  obtain ⟨hx, hb, -, hown, hts, hE, -⟩ := hF
  intro ad H locs lsA hW hS hL hls hst
  have hob := gx_ws_arr (dT := dT) (ext := ext) (ad := ad) (a := a) hW.1 (by omega) (by omega)
  rw [gx_ct_long ht, ht] at hob
  refine vx_laldZ hx hb hE.1 hW.2.1 a 4 hob rfl (not_not_intro hin) hd fun tx htx => ?_
  obtain ⟨t1, t2⟩ := gx_oobT i hn9 htx
  exact gx_vmX hF9 (by rw [List.length_map]; exact hst9) (Or.inr (Or.inl rfl)) t1 t2 hc hR hX hW hS hL hls
theorem gx_iastZ (hF : gx_Fr p l R s m args meth c Y D dT ext A) (hd : decode (gx_cd Y) pc = .ok (.iastore, 1)) (hst9 : st'.length ≤ 32) (ht : gx_tag S a = 32) {x : Int32} (hin : i < 0 ∨ gx_len S a ≤ i.toNatClampNeg) (hn9 : gx_len S a ≤ 65536) (hc : c0 ≤ S.1.2.2.2.1 ∧ s0 ≤ S.1.2.2.2.2) (hR : S.1.2.2.2.1 + 3 - c0 ≤ R.cells ∧ S.1.2.2.2.2 + 1010 - s0 ≤ R.slots) (hX : gx_X p l e R s m args below meth c Q Y D dT ext A c0 s0 pc ls S.1.1 (gx_mk S 13 0 3 1010)) : gx_K p l e R s m args below meth c Q Y D dT ext A c0 s0 pc ls (.int x :: .int i :: .ref a :: st') S := by
  have hF9 := hF
  obtain ⟨hx, hb, -, hown, hts, hE, -⟩ := hF
  intro ad H locs lsA hW hS hL hls hst
  have hob := gx_ws_arr (dT := dT) (ext := ext) (ad := ad) (a := a) hW.1 (by omega) (by omega)
  rw [gx_ct_int (by omega), ht] at hob
  refine vx_iastZ hx hb hE.1 hW.2.1 a 0 hob rfl (not_not_intro hin) hd fun tx htx => ?_
  obtain ⟨t1, t2⟩ := gx_oobT i hn9 htx
  exact gx_vmX hF9 (by rw [List.length_map]; exact hst9) (Or.inr (Or.inl rfl)) t1 t2 hc hR hX hW hS hL hls
theorem gx_bastZ (hF : gx_Fr p l R s m args meth c Y D dT ext A) (hd : decode (gx_cd Y) pc = .ok (.bastore, 1)) (hst9 : st'.length ≤ 32) (ht : gx_tag S a = 33) {x : Int32} (hin : i < 0 ∨ gx_len S a ≤ i.toNatClampNeg) (hn9 : gx_len S a ≤ 65536) (hc : c0 ≤ S.1.2.2.2.1 ∧ s0 ≤ S.1.2.2.2.2) (hR : S.1.2.2.2.1 + 3 - c0 ≤ R.cells ∧ S.1.2.2.2.2 + 1010 - s0 ≤ R.slots) (hX : gx_X p l e R s m args below meth c Q Y D dT ext A c0 s0 pc ls S.1.1 (gx_mk S 13 0 3 1010)) : gx_K p l e R s m args below meth c Q Y D dT ext A c0 s0 pc ls (.int x :: .int i :: .ref a :: st') S := by
  have hF9 := hF
  obtain ⟨hx, hb, -, hown, hts, hE, -⟩ := hF
  intro ad H locs lsA hW hS hL hls hst
  have hob := gx_ws_arr (dT := dT) (ext := ext) (ad := ad) (a := a) hW.1 (by omega) (by omega)
  rw [gx_ct_int (by omega), ht] at hob
  refine vx_bastZ hx hb hE.1 hW.2.1 a 1 hob rfl (not_not_intro hin) hd fun tx htx => ?_
  obtain ⟨t1, t2⟩ := gx_oobT i hn9 htx
  exact gx_vmX hF9 (by rw [List.length_map]; exact hst9) (Or.inr (Or.inl rfl)) t1 t2 hc hR hX hW hS hL hls
theorem gx_zastZ (hF : gx_Fr p l R s m args meth c Y D dT ext A) (hd : decode (gx_cd Y) pc = .ok (.bastore, 1)) (hst9 : st'.length ≤ 32) (ht : gx_tag S a = 34) {x : Int32} (hin : i < 0 ∨ gx_len S a ≤ i.toNatClampNeg) (hn9 : gx_len S a ≤ 65536) (hc : c0 ≤ S.1.2.2.2.1 ∧ s0 ≤ S.1.2.2.2.2) (hR : S.1.2.2.2.1 + 3 - c0 ≤ R.cells ∧ S.1.2.2.2.2 + 1010 - s0 ≤ R.slots) (hX : gx_X p l e R s m args below meth c Q Y D dT ext A c0 s0 pc ls S.1.1 (gx_mk S 13 0 3 1010)) : gx_K p l e R s m args below meth c Q Y D dT ext A c0 s0 pc ls (.int x :: .int i :: .ref a :: st') S := by
  have hF9 := hF
  obtain ⟨hx, hb, -, hown, hts, hE, -⟩ := hF
  intro ad H locs lsA hW hS hL hls hst
  have hob := gx_ws_arr (dT := dT) (ext := ext) (ad := ad) (a := a) hW.1 (by omega) (by omega)
  rw [gx_ct_int (by omega), ht] at hob
  refine vx_zastZ hx hb hE.1 hW.2.1 a 2 hob rfl (not_not_intro hin) hd fun tx htx => ?_
  obtain ⟨t1, t2⟩ := gx_oobT i hn9 htx
  exact gx_vmX hF9 (by rw [List.length_map]; exact hst9) (Or.inr (Or.inl rfl)) t1 t2 hc hR hX hW hS hL hls
theorem gx_sastZ (hF : gx_Fr p l R s m args meth c Y D dT ext A) (hd : decode (gx_cd Y) pc = .ok (.sastore, 1)) (hst9 : st'.length ≤ 32) (ht : gx_tag S a = 35) {x : Int32} (hin : i < 0 ∨ gx_len S a ≤ i.toNatClampNeg) (hn9 : gx_len S a ≤ 65536) (hc : c0 ≤ S.1.2.2.2.1 ∧ s0 ≤ S.1.2.2.2.2) (hR : S.1.2.2.2.1 + 3 - c0 ≤ R.cells ∧ S.1.2.2.2.2 + 1010 - s0 ≤ R.slots) (hX : gx_X p l e R s m args below meth c Q Y D dT ext A c0 s0 pc ls S.1.1 (gx_mk S 13 0 3 1010)) : gx_K p l e R s m args below meth c Q Y D dT ext A c0 s0 pc ls (.int x :: .int i :: .ref a :: st') S := by
  have hF9 := hF
  obtain ⟨hx, hb, -, hown, hts, hE, -⟩ := hF
  intro ad H locs lsA hW hS hL hls hst
  have hob := gx_ws_arr (dT := dT) (ext := ext) (ad := ad) (a := a) hW.1 (by omega) (by omega)
  rw [gx_ct_int (by omega), ht] at hob
  refine vx_sastZ hx hb hE.1 hW.2.1 a 3 hob rfl (not_not_intro hin) hd fun tx htx => ?_
  obtain ⟨t1, t2⟩ := gx_oobT i hn9 htx
  exact gx_vmX hF9 (by rw [List.length_map]; exact hst9) (Or.inr (Or.inl rfl)) t1 t2 hc hR hX hW hS hL hls
theorem gx_lastZ (hF : gx_Fr p l R s m args meth c Y D dT ext A) (hd : decode (gx_cd Y) pc = .ok (.lastore, 1)) (hst9 : st'.length ≤ 32) (ht : gx_tag S a = 36) {x : Int64} (hin : i < 0 ∨ gx_len S a ≤ i.toNatClampNeg) (hn9 : gx_len S a ≤ 65536) (hc : c0 ≤ S.1.2.2.2.1 ∧ s0 ≤ S.1.2.2.2.2) (hR : S.1.2.2.2.1 + 3 - c0 ≤ R.cells ∧ S.1.2.2.2.2 + 1010 - s0 ≤ R.slots) (hX : gx_X p l e R s m args below meth c Q Y D dT ext A c0 s0 pc ls S.1.1 (gx_mk S 13 0 3 1010)) : gx_K p l e R s m args below meth c Q Y D dT ext A c0 s0 pc ls (.long x :: .int i :: .ref a :: st') S := by
  have hF9 := hF
  obtain ⟨hx, hb, -, hown, hts, hE, -⟩ := hF
  intro ad H locs lsA hW hS hL hls hst
  have hob := gx_ws_arr (dT := dT) (ext := ext) (ad := ad) (a := a) hW.1 (by omega) (by omega)
  rw [gx_ct_long ht, ht] at hob
  refine vx_lastZ hx hb hE.1 hW.2.1 a 4 hob rfl (not_not_intro hin) hd fun tx htx => ?_
  obtain ⟨t1, t2⟩ := gx_oobT i hn9 htx
  exact gx_vmX hF9 (by rw [List.length_map]; exact hst9) (Or.inr (Or.inl rfl)) t1 t2 hc hR hX hW hS hL hls
theorem gx_alenN (hF : gx_Fr p l R s m args meth c Y D dT ext A) (hd : decode (gx_cd Y) pc = .ok (.arraylength, 1)) (hst9 : st'.length ≤ 32) (hc : c0 ≤ S.1.2.2.2.1 ∧ s0 ≤ S.1.2.2.2.2) (hR : S.1.2.2.2.1 + 1 - c0 ≤ R.cells ∧ S.1.2.2.2.2 + 8 - s0 ≤ R.slots) (hX : gx_X p l e R s m args below meth c Q Y D dT ext A c0 s0 pc ls S.1.1 (gx_mk S 11 0 1 8)) : gx_K p l e R s m args below meth c Q Y D dT ext A c0 s0 pc ls (.null :: st') S := by
  have hF9 := hF
  obtain ⟨hx, hb, -⟩ := hF
  intro ad H locs lsA hW hS hL hls hst
  exact vx_arraylengthN hx hb hd (gx_npeX hF9 (by rw [List.length_map]; exact hst9) hc hR hX hW hS hL hls)
theorem gx_ialdN (hF : gx_Fr p l R s m args meth c Y D dT ext A) (hd : decode (gx_cd Y) pc = .ok (.iaload, 1)) (hst9 : st'.length ≤ 32) (hc : c0 ≤ S.1.2.2.2.1 ∧ s0 ≤ S.1.2.2.2.2) (hR : S.1.2.2.2.1 + 1 - c0 ≤ R.cells ∧ S.1.2.2.2.2 + 8 - s0 ≤ R.slots) (hX : gx_X p l e R s m args below meth c Q Y D dT ext A c0 s0 pc ls S.1.1 (gx_mk S 11 0 1 8)) : gx_K p l e R s m args below meth c Q Y D dT ext A c0 s0 pc ls (.int i :: .null :: st') S := by
  have hF9 := hF
  obtain ⟨hx, hb, -⟩ := hF
  intro ad H locs lsA hW hS hL hls hst
  exact vx_ialoadN hx hb hd (gx_npeX hF9 (by rw [List.length_map]; exact hst9) hc hR hX hW hS hL hls)
theorem gx_laldN (hF : gx_Fr p l R s m args meth c Y D dT ext A) (hd : decode (gx_cd Y) pc = .ok (.laload, 1)) (hst9 : st'.length ≤ 32) (hc : c0 ≤ S.1.2.2.2.1 ∧ s0 ≤ S.1.2.2.2.2) (hR : S.1.2.2.2.1 + 1 - c0 ≤ R.cells ∧ S.1.2.2.2.2 + 8 - s0 ≤ R.slots) (hX : gx_X p l e R s m args below meth c Q Y D dT ext A c0 s0 pc ls S.1.1 (gx_mk S 11 0 1 8)) : gx_K p l e R s m args below meth c Q Y D dT ext A c0 s0 pc ls (.int i :: .null :: st') S := by
  have hF9 := hF
  obtain ⟨hx, hb, -⟩ := hF
  intro ad H locs lsA hW hS hL hls hst
  exact vx_laloadN hx hb hd (gx_npeX hF9 (by rw [List.length_map]; exact hst9) hc hR hX hW hS hL hls)
theorem gx_lastN {x : Int64} (hF : gx_Fr p l R s m args meth c Y D dT ext A) (hd : decode (gx_cd Y) pc = .ok (.lastore, 1)) (hst9 : st'.length ≤ 32) (hc : c0 ≤ S.1.2.2.2.1 ∧ s0 ≤ S.1.2.2.2.2) (hR : S.1.2.2.2.1 + 1 - c0 ≤ R.cells ∧ S.1.2.2.2.2 + 8 - s0 ≤ R.slots) (hX : gx_X p l e R s m args below meth c Q Y D dT ext A c0 s0 pc ls S.1.1 (gx_mk S 11 0 1 8)) : gx_K p l e R s m args below meth c Q Y D dT ext A c0 s0 pc ls (.long x :: .int i :: .null :: st') S := by
  have hF9 := hF
  obtain ⟨hx, hb, -⟩ := hF
  intro ad H locs lsA hW hS hL hls hst
  exact vx_lastoreN hx hb hd (gx_npeX hF9 (by rw [List.length_map]; exact hst9) hc hR hX hW hS hL hls)
theorem gx_newZ (hF : gx_Fr p l R s m args meth c Y D dT ext A) {at_ : ArrayType} (hd : decode (gx_cd Y) pc = .ok (.newarray at_, 2)) (hst9 : st'.length ≤ 32) {n : Int32} (hn : n < 0) (hc : c0 ≤ S.1.2.2.2.1 ∧ s0 ≤ S.1.2.2.2.2) (hR : S.1.2.2.2.1 + 3 - c0 ≤ R.cells ∧ S.1.2.2.2.2 + 1010 - s0 ≤ R.slots) (hX : gx_X p l e R s m args below meth c Q Y D dT ext A c0 s0 pc ls S.1.1 (gx_mk S 12 0 3 1010)) : gx_K p l e R s m args below meth c Q Y D dT ext A c0 s0 pc ls (.int n :: st') S := by
  have hF9 := hF
  obtain ⟨hx, hb, -⟩ := hF
  intro ad H locs lsA hW hS hL hls hst
  refine vx_newarrayZ hx hb hn hd fun tx htx => ?_
  subst htx
  exact gx_vmX hF9 (by rw [List.length_map]; exact hst9) (Or.inl rfl) (negative_text_modelled hn) (Nat.le_trans (negative_text_bytes n) (by decide)) hc hR hX hW hS hL hls
theorem gx_athr (hF : gx_Fr p l R s m args meth c Y D dT ext A) (hd : decode (gx_cd Y) pc = .ok (.athrow, 1)) (ht : gx_tag S q = 9 ∨ (11 ≤ gx_tag S q ∧ gx_tag S q ≤ 14)) (hX : gx_X p l e R s m args below meth c Q Y D dT ext A c0 s0 pc ls q S) : gx_K p l e R s m args below meth c Q Y D dT ext A c0 s0 pc ls (.ref q :: st') S := by
  obtain ⟨hx, hb, -⟩ := hF
  intro ad H locs lsA hW hS hL hls hst
  exact vx_athrow hx hb hd (hX ad H locs lsA _ hW hS hL hls (by omega))
end GXT
