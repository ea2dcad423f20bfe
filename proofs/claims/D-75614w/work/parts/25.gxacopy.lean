set_option maxRecDepth 100000
/-! ===== arraycopy's exceptions: the texts; then gx_NT ===== -/
theorem gx_ts (s : String) : toString s = s := rfl
theorem gx_ac_text {what : String} (h : what.toList.length ≤ 200) : (("arraycopy: " ++ what) == notModelled) = false ∧ (stringBytes (stringToUtf16 ("arraycopy: " ++ what))).size ≤ 1000 := by
  constructor
  · rw [beq_eq_false_iff_ne]
    intro hh
    have h2 := congrArg String.toList hh
    have h3 : ("arraycopy: " ++ what).toList = 'a' :: ("rraycopy: ".toList ++ what.toList) := by
      rw [String.toList_append]
      rfl
    rw [h3] at h2
    have h4 : notModelled.toList = '\u0000' :: " a message that is not modelled".toList := by decide
    rw [h4] at h2
    simp at h2
  · have b1 := stringBytes_size_le (stringToUtf16 ("arraycopy: " ++ what))
    have b2 := utf16_size_le ("arraycopy: " ++ what)
    have b3 : ("arraycopy: " ++ what).toList.length = 11 + what.toList.length := by
      rw [String.toList_append, List.length_append]
      have : "arraycopy: ".toList.length = 11 := by decide
      omega
    omega
theorem gx_kn {t : Nat} (h1 : 32 ≤ t) (h2 : t ≤ 36) : (Native.java_lang_System.arraycopy.kindName (gx_aty t)).toList.length ≤ 10 := by
  have : t = 32 ∨ t = 33 ∨ t = 34 ∨ t = 35 ∨ t = 36 := by omega
  rcases this with rfl | rfl | rfl | rfl | rfl <;> decide
theorem gx_int_print {z : Int} (h0 : 0 ≤ z) (h : z < 2 ^ 33) : (toString z).toList.length ≤ 10 := by
  cases z with
  | ofNat m =>
    have h9 : (m : Int) < 2 ^ 33 := h
    have := nat_print (n := m) (by omega)
    show (toString m).toList.length ≤ 10
    exact this
  | negSucc m => exact absurd h0 (by omega)
theorem gx_fault {t : Nat} (h1 : 32 ≤ t) (h2 : t ≤ 36) {n0 n1 : Nat} (hn0 : n0 ≤ 65536) (hn1 : n1 ≤ 65536) {sp dp n : Int32} (hbad : sp < 0 ∨ dp < 0 ∨ n < 0 ∨ n0 < sp.toNatClampNeg + n.toNatClampNeg ∨ n1 < dp.toNatClampNeg + n.toNatClampNeg) : ∃ what, copyFault (gx_aty t) (gx_aty t) n0 n1 sp dp n = some what ∧ what.toList.length ≤ 200 := by
  have nn : ∀ z : Int32, ¬ z < 0 → z.toInt = (z.toNatClampNeg : Int) ∧ z.toNatClampNeg < 2 ^ 31 := by
    intro z hz
    have hz0 : (0 : Int) ≤ z.toInt := by
      have := Int32.not_lt.mp hz
      simpa using Int32.le_iff_toInt_le.mp this
    have h3 := Int32.toInt_lt z
    have h4 : z.toInt = ((z.toInt.toNat : Nat) : Int) := by omega
    exact ⟨h4, by show z.toInt.toNat < _; omega⟩
  have k1 := gx_kn h1 h2
  have k2 := nat_print (n := n0) (by omega)
  have k3 := nat_print (n := n1) (by omega)
  have p1 := int32_print sp
  have p2 := int32_print dp
  have p3 := int32_print n
  have c1 : "source index ".toList.length = 13 := by decide
  have c2 : " out of bounds for ".toList.length = 19 := by decide
  have c3 : "[".toList.length = 1 := by decide
  have c4 : "]".toList.length = 1 := by decide
  have c5 : "destination index ".toList.length = 18 := by decide
  have c6 : "length ".toList.length = 7 := by decide
  have c7 : " is negative".toList.length = 12 := by decide
  have c8 : "last source index ".toList.length = 18 := by decide
  have c9 : "last destination index ".toList.length = 23 := by decide
  have c10 : "".toList.length = 0 := by decide
  unfold copyFault
  by_cases g1 : sp < 0
  · rw [if_pos g1]
    refine ⟨_, rfl, ?_⟩
    simp only [gx_ts, String.toList_append, List.length_append]
    omega
  by_cases g2 : dp < 0
  · rw [if_neg g1, if_pos g2]
    refine ⟨_, rfl, ?_⟩
    simp only [gx_ts, String.toList_append, List.length_append]
    omega
  by_cases g3 : n < 0
  · rw [if_neg g1, if_neg g2, if_pos g3]
    refine ⟨_, rfl, ?_⟩
    simp only [gx_ts, String.toList_append, List.length_append]
    omega
  obtain ⟨a1, a2⟩ := nn sp g1
  obtain ⟨b1, b2⟩ := nn dp g2
  obtain ⟨d1, d2⟩ := nn n g3
  by_cases g4 : sp.toInt + n.toInt > (n0 : Int)
  · rw [if_neg g1, if_neg g2, if_neg g3, if_pos g4]
    have p4 := gx_int_print (z := sp.toInt + n.toInt) (by omega) (by omega)
    refine ⟨_, rfl, ?_⟩
    simp only [gx_ts, String.toList_append, List.length_append]
    omega
  · have g5 : dp.toInt + n.toInt > (n1 : Int) := by
      rcases hbad with h | h | h | h | h
      · exact absurd h g1
      · exact absurd h g2
      · exact absurd h g3
      · exact absurd (by omega) g4
      · omega
    rw [if_neg g1, if_neg g2, if_neg g3, if_neg g4, if_pos g5]
    have p4 := gx_int_print (z := dp.toInt + n.toInt) (by omega) (by omega)
    refine ⟨_, rfl, ?_⟩
    simp only [gx_ts, String.toList_append, List.length_append]
    omega
section GXAC
variable {p : Program} {l : Launch} {e : Env} {R : Room} {s : State} {m : MethodId} {args : Array Value} {below : List Frame} {meth : Method} {c : Code} {Q : State → Prop} {Y : gx_Y} {D : va_G} {dT : Nat → ClassId} {ext : Nat → Value} {A : Nat → Prop} {c0 s0 : Nat}
variable {pc q ix : Nat} {ls st : List Value} {S S' : gx_S}
/-- behind the making of an exception -/
theorem gx_kkX (hF : gx_Fr p l R s m args meth c Y D dT ext A) {rest : List Value} {tg dc ds : Nat} (h15 : tg < 15) (hN0 : gx_N tg = 0) (hc : c0 ≤ S.1.2.2.2.1 ∧ s0 ≤ S.1.2.2.2.2) (hX : gx_X p l e R s m args below meth c Q Y D dT ext A c0 s0 pc ls S.1.1 (gx_mk S tg 0 dc ds)) {ad : Nat → Nat} {H : Heap} {locs : List Loc} {lsA : Array Slot} (hW : gx_Wd D dT ext A S ad H) (hS : va_S A s.heap H locs) (hL : lv_has lsA (gx_mL Y) (gx_lv ad ext ls)) (hls : gx_cs S ls)
    {H1 : Heap} {q9 : Addr} {ce : Cell} (hq : H.size ≤ q9) (hk : ∀ q : Nat, q < H.size → H1[q]? = H[q]?) (hS1 : va_S A s.heap H1 locs) (hce : H1[q9]? = some ce) (hv : ce.vm = .none) (hcl : s.vm.findClass (gx_rname tg) = some ce.cls) :
    vx_W p l e R s m args below meth c H1 locs (S.1.2.2.2.1 - c0 + dc) (S.1.2.2.2.2 - s0 + ds) Q (F0 m pc lsA rest) q9 := by
  obtain ⟨hx, hb, hml, hown, hts, hE, hA, -⟩ := hF
  have hW1 := gx_Wd_mk (tg := tg) (dc := dc) (ds := ds) hW hE.1 h15 hN0 hq (hA q9 (Nat.le_trans hS.1 hq)) hk hce hv hcl
  have ha : ∀ b, b < gx_n S → gx_u1 ad (gx_n S) q9 b = ad b := fun b hb => gx_u1_ne (by omega)
  have hk1 := hX (gx_u1 ad (gx_n S) q9) H1 locs lsA rest hW1 hS1 (by rw [gx_lv_eq hls ha]; exact hL) (gx_mk_cs hls) (by rw [show S.1.1 = gx_n S from rfl, gx_mk_tag]; exact h15)
  rw [show gx_u1 ad (gx_n S) q9 S.1.1 = q9 from gx_u1_eq] at hk1
  have e1 : (gx_mk S tg 0 dc ds).1.2.2.2.1 - c0 = S.1.2.2.2.1 - c0 + dc := by show S.1.2.2.2.1 + dc - c0 = _; omega
  have e2 : (gx_mk S tg 0 dc ds).1.2.2.2.2 - s0 = S.1.2.2.2.2 - s0 + ds := by show S.1.2.2.2.2 + ds - s0 = _; omega
  rw [e1, e2] at hk1
  exact hk1
theorem gx_ac_npe (hF : gx_Fr p l R s m args meth c Y D dT ext A) (hd : decode (gx_cd Y) pc = .ok (.invokestatic ix, 3)) (hl : Cond.methodLink (gx_cname (gx_oc Y)) ix arraycopyName ∈ lw_all) {n dp sp : Int32} {v1 v2 : Value} {st' : List Value} (h32 : st'.length ≤ 32) (hv : (v1 = .null ∧ gx_isR v2 = true) ∨ (v2 = .null ∧ ∃ b, v1 = .ref b))
    (hc : c0 ≤ S.1.2.2.2.1 ∧ s0 ≤ S.1.2.2.2.2) (hR : S.1.2.2.2.1 + 1 - c0 ≤ R.cells ∧ S.1.2.2.2.2 + 8 - s0 ≤ R.slots) (hX : gx_X p l e R s m args below meth c Q Y D dT ext A c0 s0 pc ls S.1.1 (gx_mk S 11 0 1 8)) : gx_K p l e R s m args below meth c Q Y D dT ext A c0 s0 pc ls (.int n :: .int dp :: v2 :: .int sp :: v1 :: st') S := by
  have heok : gx_eok ext := gx_eok_of hF
  have hF9 := hF
  obtain ⟨hx, hb, hml, hown, hts, hE, hA, hlocks, -, -, htr, hR1, hR2⟩ := hF
  intro ad H locs lsA hW hS hL hls hst
  have hsum : ((st'.map (gx_cv ad ext)).map fun v => v.category).sum ≤ 64 := by
    have := gx_sum_le st'
    rw [gx_sum_cat heok]
    omega
  have hr1 : gx_cv ad ext v1 = .null ∨ ∃ a, gx_cv ad ext v1 = .ref a := by
    rcases hv with ⟨rfl, -⟩ | ⟨-, b, rfl⟩
    · exact Or.inl rfl
    · exact Or.inr ⟨_, rfl⟩
  have hr2 : gx_cv ad ext v2 = .null ∨ ∃ a, gx_cv ad ext v2 = .ref a := by
    rcases hv with ⟨-, h⟩ | ⟨rfl, -⟩
    · exact gx_isR_cv heok h
    · exact Or.inl rfl
  refine gx_acopyX (E := "java/lang/NullPointerException") (msg := none) (k := 1) (z := 8) (A := A) hx hb (hml.trans hL.1.symm) hown (hts _ hl) (hts _ q791) (hts _ q790) (hts _ q148) hr1 hr2 hS (by omega) (by omega) hd (fun U fs P hU hWm hP => ?_) (fun T nf hnf hT X => ?_) fun H1 q9 ce hq hsz hk hS1 hce hv9 hcl => ?_
  · rcases hv with ⟨rfl, -⟩ | ⟨rfl, b, rfl⟩
    · exact Jvm.W.arraycopy_null1 sp dp n _ (hP _)
    · exact Jvm.W.arraycopy_null2 (ad b) sp dp n (hP _)
  · obtain ⟨w1, w2⟩ := gx_words hts hE gx_npe_in gx_npe_nest
    exact gx_npeN X hx htr hnf w1 w2 hE.2.2.2.2.2.2.2.2.1.1 hE.2.2.2.2.2.2.2.2.1.2 (by rw [hT]; exact hS) (hL.1.trans hml.symm) (by omega) (by show 2 * 0 + ((st'.map (gx_cv ad ext)).map fun v => v.category).sum + 10240 ≤ R.locals; omega) (by omega) (by omega)
  · exact gx_kkX (tg := 11) hF9 (by decide) rfl hc hX hW hS hL hls hq hk hS1 hce hv9 hcl
theorem gx_ac_msg (hF : gx_Fr p l R s m args meth c Y D dT ext A) (hd : decode (gx_cd Y) pc = .ok (.invokestatic ix, 3)) (hl : Cond.methodLink (gx_cname (gx_oc Y)) ix arraycopyName ∈ lw_all) {n dp sp : Int32} {a b : Nat} {st' : List Value} (h32 : st'.length ≤ 32) {tg : Nat} (htg : tg = 13 ∨ tg = 14) {what : String} (hwl : what.toList.length ≤ 200)
    (hw : ∀ (ad : Nat → Nat) (H : Heap) (U : State) (fs : List Frame) (P : CtlPost), gx_Wd D dT ext A S ad H → U.heap = H → s.WarmedH U.vm → (∀ acts', P (.throwNew (gx_rname tg) (some ("arraycopy: " ++ what))) acts' (U.setFrames fs)) → wp (Native.java_lang_System.arraycopy.sem #[.ref (ad b), .int sp, .ref (ad a), .int dp, .int n]) (fun _ _ _ _ => False) P e false [] (U.setFrames fs))
    (hc : c0 ≤ S.1.2.2.2.1 ∧ s0 ≤ S.1.2.2.2.2) (hR : S.1.2.2.2.1 + 3 - c0 ≤ R.cells ∧ S.1.2.2.2.2 + 1010 - s0 ≤ R.slots) (hX : gx_X p l e R s m args below meth c Q Y D dT ext A c0 s0 pc ls S.1.1 (gx_mk S tg 0 3 1010)) : gx_K p l e R s m args below meth c Q Y D dT ext A c0 s0 pc ls (.int n :: .int dp :: .ref a :: .int sp :: .ref b :: st') S := by
  have heok : gx_eok ext := gx_eok_of hF
  have hF9 := hF
  obtain ⟨hx, hb, hml, hown, hts, hE, hA, hlocks, -, -, htr, hR1, hR2⟩ := hF
  intro ad H locs lsA hW hS hL hls hst
  have hsum : ((st'.map (gx_cv ad ext)).map fun v => v.category).sum ≤ 64 := by
    have := gx_sum_le st'
    rw [gx_sum_cat heok]
    omega
  obtain ⟨t1, t2⟩ := gx_ac_text hwl
  refine gx_acopyX (E := gx_rname tg) (msg := some ("arraycopy: " ++ what)) (k := 3) (z := 1000 + 10) (A := A) hx hb (hml.trans hL.1.symm) hown (hts _ hl) (hts _ q791) (hts _ q790) (hts _ q148) (Or.inr ⟨_, rfl⟩) (Or.inr ⟨_, rfl⟩) hS (by omega) (by omega) hd (fun U fs P hU hWm hP => hw ad H U fs P hW hU hWm hP) (fun T nf hnf hT X => ?_) fun H1 q9 ce hq hsz hk hS1 hce hv9 hcl => ?_
  · obtain ⟨w1, w2⟩ := gx_mw hts hE (tg := tg) (by omega)
    obtain ⟨f1, f2, f3, f4, f5⟩ := gx_fit3 tg (by rcases htg with rfl | rfl <;> decide)
    exact gx_vmN X hx htr hnf f1 f2 f3 f4 w1 w2 hE.2.2.2.2.2.2.2.2.1.1 hE.2.2.2.2.2.2.2.2.1.2 (by rw [hT]; exact hS) (hL.1.trans hml.symm) t1 t2 (by decide) (by omega) (by show 2 * 0 + ((st'.map (gx_cv ad ext)).map fun v => v.category).sum + 10240 ≤ R.locals; omega) (by omega) (by omega) (by omega)
  · exact gx_kkX (tg := tg) (dc := 3) (ds := 1000 + 10) hF9 (by omega) (by rcases htg with rfl | rfl <;> rfl) hc hX hW hS hL hls hq hk hS1 hce hv9 hcl
theorem gx_prim : ∀ t, t < 37 → 32 ≤ t → refKind (gx_aty t) = false := by decide
theorem gx_prim_ne : ∀ t, t < 37 → 32 ≤ t → ∀ u, u < 37 → 32 ≤ u → t ≠ u → (gx_aty t != gx_aty u) = true := by decide
theorem gx_arr_kind {ad : Nat → Nat} {H : Heap} {U : State} (hE : gx_En D dT ext A s s.heap) (hW : gx_Wd D dT ext A S ad H) (hWm : s.WarmedH U.vm) {a : Nat} (h1 : 32 ≤ gx_tag S a) (h2 : gx_tag S a ≤ 36) : ∃ (cell : Cell) (k : Class) (comp : ClassId), H[ad a]? = some cell ∧ cell.vm = .none ∧ U.vm.classes[cell.cls]? = some k ∧ k.kind = .array comp (gx_aty (gx_tag S a)) ∧ cell.slots.size = gx_len S a := by
  have hob := gx_ws_arr (dT := dT) (ext := ext) (ad := ad) hW.1 h1 (by omega)
  have hc := hW.2.1 a _ hob
  have hK := gx_K_D (D := D) (D' := D) rfl (fun _ _ => rfl) (va_K.moved hWm.alike hE.1)
  obtain ⟨-, k0, hk0, cm0, hkk0⟩ := (hK.2 (gx_tag S a - 32) _ (gx_tys_at h1 (by omega))).1 (gx_len S a) (fun j => .int 0)
  refine ⟨_, k0, cm0, hc, gx_vcell_cls.2, by rw [gx_vcell_cls.1]; exact hk0, hkk0, ?_⟩
  by_cases h36 : gx_tag S a = 36
  · rw [gx_ct_long h36]
    exact arrV_size _ _ _
  · rw [gx_ct_int (by omega)]
    exact arrV_size _ _ _
end GXAC
theorem gx_natThr : gx_NT := by
  intro p l e R s m args below meth c Q Y D dT ext A c0 s0 pc ix ls st S q S' hF hd hl h32 h hc hR hX
  have hE := hF.2.2.2.2.2.1
  unfold gx_copy at h
  split at h
  · rename_i n dp a sp b st'
    have h32' : st'.length ≤ 32 := by simp only [List.length_cons] at h32; omega
    split at h
    · split at h
      · rename_i htt
        split at h
        · rename_i hpr
          obtain ⟨rfl, rfl⟩ := gx_thr_some h
          have hwl : ("type mismatch: can not copy " ++ Native.java_lang_System.arraycopy.kindName (gx_aty (gx_tag S b)) ++ "[] into " ++ Native.java_lang_System.arraycopy.kindName (gx_aty (gx_tag S a)) ++ "[]" : String).toList.length ≤ 200 := by
            have k1 := gx_kn hpr.2.1 hpr.2.2
            have k2 := gx_kn hpr.1.1 hpr.1.2
            have c1 : "type mismatch: can not copy ".toList.length = 28 := by decide
            have c2 : "[] into ".toList.length = 8 := by decide
            have c3 : "[]".toList.length = 2 := by decide
            simp only [gx_ts, String.toList_append, List.length_append]
            omega
          refine gx_ac_msg (tg := 14) hF hd hl h32' (Or.inr rfl) hwl (fun ad H U fs P hW hU hWm hP => ?_) hc hR hX
          obtain ⟨cs, ks, sComp, g1, g2, g3, g4, g5⟩ := gx_arr_kind (a := b) hE hW hWm hpr.2.1 hpr.2.2
          obtain ⟨cd, kd, dComp, j1, j2, j3, j4, j5⟩ := gx_arr_kind (a := a) hE hW hWm hpr.1.1 hpr.1.2
          rw [← hU] at g1 j1
          refine Jvm.W.arraycopy_types (s := U.setFrames fs) g1 j1 (fun z hz => by rw [g2] at hz; cases hz) (fun z hz => by rw [j2] at hz; cases hz) g3 j3 g4 j4 ?_ ?_
          · rw [gx_prim _ (by omega) hpr.2.1, gx_prim _ (by omega) hpr.1.1, gx_prim_ne _ (by omega) hpr.2.1 _ (by omega) hpr.1.1 (fun z => htt z.symm)]
            rfl
          · have ht : ("arraycopy: " ++ ("type mismatch: can not copy " ++ Native.java_lang_System.arraycopy.kindName (gx_aty (gx_tag S b)) ++ "[] into " ++ Native.java_lang_System.arraycopy.kindName (gx_aty (gx_tag S a)) ++ "[]") : String) = toString "arraycopy: type mismatch: can not copy " ++ toString (Native.java_lang_System.arraycopy.kindName (gx_aty (gx_tag S b))) ++ toString "[] into " ++ toString (Native.java_lang_System.arraycopy.kindName (gx_aty (gx_tag S a))) ++ toString "[]" := by
              simp only [gx_ts, ← String.append_assoc]
              rfl
            have h9 := hP
            rw [ht] at h9
            exact h9 _
        · cases h
      · rename_i htt
        have htt' := Classical.not_not.mp htt
        split at h
        · rename_i hbad
          split at h
          · rename_i hpr
            obtain ⟨hn9, rfl, rfl⟩ := gx_oob_some h
            obtain ⟨what, hf, hwl⟩ := gx_fault hpr.1 hpr.2 (n0 := gx_len S b) (n1 := gx_len S a) (by omega) (by omega) hbad
            refine gx_ac_msg (tg := 13) hF hd hl h32' (Or.inl rfl) hwl (fun ad H U fs P hW hU hWm hP => ?_) hc hR hX
            obtain ⟨cs, ks, sComp, g1, g2, g3, g4, g5⟩ := gx_arr_kind (a := b) hE hW hWm (by omega) (by omega)
            obtain ⟨cd, kd, dComp, j1, j2, j3, j4, j5⟩ := gx_arr_kind (a := a) hE hW hWm hpr.1 hpr.2
            rw [← hU] at g1 j1
            rw [← htt'] at g4
            refine Jvm.W.arraycopy_bounds (s := U.setFrames fs) g1 j1 (fun z hz => by rw [g2] at hz; cases hz) (fun z hz => by rw [j2] at hz; cases hz) g3 j3 g4 j4 ?_ (by rw [g5, j5]; exact hf) (hP _)
            rw [gx_prim _ (by omega) hpr.1]
            simp
          · cases h
        · split at h
          · exact absurd h (gx_nt_go _ _)
          · split at h
            · exact absurd h (gx_nt_go _ _)
            · cases h
    · cases h
  · rename_i n dp sp b st'
    split at h
    · obtain ⟨rfl, rfl⟩ := gx_thr_some h
      exact gx_ac_npe hF hd hl (by simp only [List.length_cons] at h32; omega) (Or.inr ⟨rfl, b, rfl⟩) hc hR hX
    · cases h
  · rename_i n dp v sp st'
    split at h
    · rename_i hv
      obtain ⟨rfl, rfl⟩ := gx_thr_some h
      exact gx_ac_npe hF hd hl (by simp only [List.length_cons] at h32; omega) (Or.inl ⟨rfl, hv.2.2⟩) hc hR hX
    · cases h
  · cases h
/-- every run of the pure machine is the machine's -/
theorem gx_run_G {n : Nat} {Y : gx_Y} {pc : Nat} {ls st : List Value} {S : gx_S} {r : gx_R} (h : gx_run n Y pc ls st S = some r) (hok : gx_oc Y < 21) : gx_Gd Y pc ls st S r := gx_run_ok gx_natThr n Y pc ls st S r h hok
