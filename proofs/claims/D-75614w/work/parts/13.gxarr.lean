set_option maxRecDepth 100000
/-! ===== arrays, objects made, casts (printed in part by tools/gen13.py) ===== -/
theorem gx_ct_int {ad : Nat → Nat} {S : gx_S} {a : Nat} (h : gx_tag S a ≤ 35) : gx_ct ad S a = .inl (S.2.2.1 a) := by
  unfold gx_ct
  rw [if_neg (by omega), if_neg (by omega)]
theorem gx_ct_long {ad : Nat → Nat} {S : gx_S} {a : Nat} (h : gx_tag S a = 36) : gx_ct ad S a = .inr (.inl (S.2.2.2 a)) := by
  unfold gx_ct
  rw [if_pos h]
theorem gx_ct_ref {ad : Nat → Nat} {S : gx_S} {a : Nat} (h : 37 ≤ gx_tag S a) : gx_ct ad S a = .inr (.inr (.inr (.inr (fun j => gx_op ad (S.2.1 a j))))) := by
  unfold gx_ct
  rw [if_neg (by omega), if_pos h]
theorem gx_upd_eq {f : Nat → Nat → Int32} {a k : Nat} {x : Int32} : gx_up f a k x a = upd (f a) k x := by
  funext j
  unfold gx_up upd
  by_cases h : j = k
  · rw [if_pos ⟨rfl, h⟩, if_pos h]
  · rw [if_neg (fun z => h z.2), if_neg h]
theorem gx_updL_eq {f : Nat → Nat → Int64} {a k : Nat} {x : Int64} : gx_up f a k x a = vp_updL (f a) k x := by
  funext j
  unfold gx_up vp_updL
  by_cases h : j = k
  · rw [if_pos ⟨rfl, h⟩, if_pos h]
  · rw [if_neg (fun z => h z.2), if_neg h]
theorem gx_updR_eq {ad : Nat → Nat} {f : Nat → Nat → Value} {a k : Nat} {v : Value} : (fun j => gx_op ad (gx_up f a k v a j)) = va_up (fun j => gx_op ad (f a j)) k (gx_op ad v) := by
  funext j
  unfold gx_up va_up
  by_cases h : j = k
  · rw [if_pos ⟨rfl, h⟩, if_pos h]
  · rw [if_neg (fun z => h z.2), if_neg h]
theorem gx_ast_ws {dT : Nat → ClassId} {ext : Nat → Value} {ad : Nat → Nat} {S : gx_S} {a k : Nat} {x : Int32} (h1 : 32 ≤ gx_tag S a) (h2 : gx_tag S a ≤ 35) :
    (gx_ws dT ext ad S).set a (ad a, .inl (dT (gx_tag S a), gx_len S a, .inl (upd (S.2.2.1 a) k x))) = gx_ws dT ext ad (gx_put S a k (.int x)) := by
  rw [← gx_ws_set (S := S) (S' := gx_put S a k (.int x)) (a := a) (by unfold gx_n; rw [gx_put_n]) (fun b _ hba => gx_put_ob hba)]
  congr 2
  unfold gx_ob
  rw [gx_put_tag, gx_put_len, if_neg (by omega), gx_ct_int (by rw [gx_put_tag]; exact h2)]
  congr 3
  exact congrArg _ gx_upd_eq.symm
theorem gx_last_ws {dT : Nat → ClassId} {ext : Nat → Value} {ad : Nat → Nat} {S : gx_S} {a k : Nat} {x : Int64} (h1 : gx_tag S a = 36) :
    (gx_ws dT ext ad S).set a (ad a, .inl (dT (gx_tag S a), gx_len S a, .inr (.inl (vp_updL (S.2.2.2 a) k x)))) = gx_ws dT ext ad (gx_put S a k (.long x)) := by
  rw [← gx_ws_set (S := S) (S' := gx_put S a k (.long x)) (a := a) (by unfold gx_n; rw [gx_put_n]) (fun b _ hba => gx_put_ob hba)]
  congr 2
  unfold gx_ob
  rw [gx_put_tag, gx_put_len, if_neg (by omega), gx_ct_long (by rw [gx_put_tag]; exact h1)]
  congr 3
  exact congrArg (fun z => Sum.inr (Sum.inl z)) gx_updL_eq.symm
theorem gx_aast_ws {dT : Nat → ClassId} {ext : Nat → Value} {ad : Nat → Nat} {S : gx_S} {a k : Nat} {v : Value} (hv : gx_isR v = true) (h1 : 37 ≤ gx_tag S a) (h2 : gx_tag S a ≤ 39) :
    (gx_ws dT ext ad S).set a (ad a, .inl (dT (gx_tag S a), gx_len S a, .inr (.inr (.inr (.inr (va_up (fun j => gx_op ad (S.2.1 a j)) k (gx_op ad v))))))) = gx_ws dT ext ad (gx_put S a k v) := by
  rw [← gx_ws_set (S := S) (S' := gx_put S a k v) (a := a) (by unfold gx_n; rw [gx_put_n]) (fun b _ hba => gx_put_ob hba)]
  congr 2
  unfold gx_ob
  rw [gx_put_tag, gx_put_len, if_neg (by omega), gx_ct_ref (by rw [gx_put_tag]; exact h1)]
  congr 3
  rw [gx_put_ref hv]
  exact congrArg (fun z => Sum.inr (Sum.inr (Sum.inr (Sum.inr z)))) gx_updR_eq.symm
theorem gx_nar_b (x : Int32) : fits .byte (.int (vp_nar .byte x)) = true := by rw [vp_nar_byte]; exact pk_fb x
theorem gx_nar_s (x : Int32) : fits .short (.int (vp_nar .short x)) = true := by rw [vp_nar_short]; exact pk_fs x
theorem gx_nar_z (x : Int32) : fits .boolean (.int (vp_nar .boolean x)) = true := by
  show fits .boolean (.int (x &&& 1)) = true
  obtain ⟨j, hj, h⟩ := pk_andE x (m := 1) 1 (by decide)
  rw [h]
  have : j = 0 ∨ j = 1 := by omega
  rcases this with rfl | rfl <;> decide
section GXA
variable {p : Program} {l : Launch} {e : Env} {R : Room} {s : State} {m : MethodId} {args : Array Value} {below : List Frame} {meth : Method} {c : Code} {Q : State → Prop} {Y : gx_Y} {D : va_G} {dT : Nat → ClassId} {ext : Nat → Value} {A : Nat → Prop} {c0 s0 : Nat}
variable {pc : Nat} {ls st' : List Value} {S : gx_S} {ix a : Nat} {i : Int32}
theorem gx_iald (hF : gx_Fr p l R s m args meth c Y D dT ext A) (hd : decode (gx_cd Y) pc = .ok (.iaload, 1)) (ht : gx_tag S a = 32) (hin : ¬ (i < 0 ∨ gx_len S a ≤ i.toNatClampNeg)) (hK : gx_K p l e R s m args below meth c Q Y D dT ext A c0 s0 (pc + 1) ls (.int (S.2.2.1 a i.toNatClampNeg) :: st') S) : gx_K p l e R s m args below meth c Q Y D dT ext A c0 s0 pc ls (.int i :: .ref a :: st') S := by
  obtain ⟨hx, hb, -, hown, hts, hE, -⟩ := hF
  intro ad H locs lsA hW hS hL hls hst
  have hob := gx_ws_arr (dT := dT) (ext := ext) (ad := ad) (a := a) hW.1 (by omega) (by omega)
  rw [gx_ct_int (by omega), ht] at hob
  exact va_iald hx hb hE.1 hW.2.1 a 0 hob rfl hin hd (hK ad H locs lsA hW hS hL hls (gx_cs_cons gx_c0_int (gx_cs_tail (gx_cs_tail hst))))
theorem gx_bald (hF : gx_Fr p l R s m args meth c Y D dT ext A) (hd : decode (gx_cd Y) pc = .ok (.baload, 1)) (ht : gx_tag S a = 33) (hin : ¬ (i < 0 ∨ gx_len S a ≤ i.toNatClampNeg)) (hK : gx_K p l e R s m args below meth c Q Y D dT ext A c0 s0 (pc + 1) ls (.int (S.2.2.1 a i.toNatClampNeg) :: st') S) : gx_K p l e R s m args below meth c Q Y D dT ext A c0 s0 pc ls (.int i :: .ref a :: st') S := by
  obtain ⟨hx, hb, -, hown, hts, hE, -⟩ := hF
  intro ad H locs lsA hW hS hL hls hst
  have hob := gx_ws_arr (dT := dT) (ext := ext) (ad := ad) (a := a) hW.1 (by omega) (by omega)
  rw [gx_ct_int (by omega), ht] at hob
  exact va_bald hx hb hE.1 hW.2.1 a 1 hob rfl hin hd (hK ad H locs lsA hW hS hL hls (gx_cs_cons gx_c0_int (gx_cs_tail (gx_cs_tail hst))))
theorem gx_zald (hF : gx_Fr p l R s m args meth c Y D dT ext A) (hd : decode (gx_cd Y) pc = .ok (.baload, 1)) (ht : gx_tag S a = 34) (hin : ¬ (i < 0 ∨ gx_len S a ≤ i.toNatClampNeg)) (hK : gx_K p l e R s m args below meth c Q Y D dT ext A c0 s0 (pc + 1) ls (.int (S.2.2.1 a i.toNatClampNeg) :: st') S) : gx_K p l e R s m args below meth c Q Y D dT ext A c0 s0 pc ls (.int i :: .ref a :: st') S := by
  obtain ⟨hx, hb, -, hown, hts, hE, -⟩ := hF
  intro ad H locs lsA hW hS hL hls hst
  have hob := gx_ws_arr (dT := dT) (ext := ext) (ad := ad) (a := a) hW.1 (by omega) (by omega)
  rw [gx_ct_int (by omega), ht] at hob
  exact va_zald hx hb hE.1 hW.2.1 a 2 hob rfl hin hd (hK ad H locs lsA hW hS hL hls (gx_cs_cons gx_c0_int (gx_cs_tail (gx_cs_tail hst))))
theorem gx_sald (hF : gx_Fr p l R s m args meth c Y D dT ext A) (hd : decode (gx_cd Y) pc = .ok (.saload, 1)) (ht : gx_tag S a = 35) (hin : ¬ (i < 0 ∨ gx_len S a ≤ i.toNatClampNeg)) (hK : gx_K p l e R s m args below meth c Q Y D dT ext A c0 s0 (pc + 1) ls (.int (S.2.2.1 a i.toNatClampNeg) :: st') S) : gx_K p l e R s m args below meth c Q Y D dT ext A c0 s0 pc ls (.int i :: .ref a :: st') S := by
  obtain ⟨hx, hb, -, hown, hts, hE, -⟩ := hF
  intro ad H locs lsA hW hS hL hls hst
  have hob := gx_ws_arr (dT := dT) (ext := ext) (ad := ad) (a := a) hW.1 (by omega) (by omega)
  rw [gx_ct_int (by omega), ht] at hob
  exact va_sald hx hb hE.1 hW.2.1 a 3 hob rfl hin hd (hK ad H locs lsA hW hS hL hls (gx_cs_cons gx_c0_int (gx_cs_tail (gx_cs_tail hst))))
theorem gx_lald (hF : gx_Fr p l R s m args meth c Y D dT ext A) (hd : decode (gx_cd Y) pc = .ok (.laload, 1)) (ht : gx_tag S a = 36) (hin : ¬ (i < 0 ∨ gx_len S a ≤ i.toNatClampNeg)) (hK : gx_K p l e R s m args below meth c Q Y D dT ext A c0 s0 (pc + 1) ls (.long (S.2.2.2 a i.toNatClampNeg) :: st') S) : gx_K p l e R s m args below meth c Q Y D dT ext A c0 s0 pc ls (.int i :: .ref a :: st') S := by
  obtain ⟨hx, hb, -, hown, hts, hE, -⟩ := hF
  intro ad H locs lsA hW hS hL hls hst
  have hob := gx_ws_arr (dT := dT) (ext := ext) (ad := ad) (a := a) hW.1 (by omega) (by omega)
  rw [gx_ct_long ht, ht] at hob
  exact va_lald hx hb hE.1 hW.2.1 a 4 hob rfl hin hd (hK ad H locs lsA hW hS hL hls (gx_cs_cons gx_c0_long (gx_cs_tail (gx_cs_tail hst))))
theorem gx_iast {x : Int32} (hF : gx_Fr p l R s m args meth c Y D dT ext A) (hd : decode (gx_cd Y) pc = .ok (.iastore, 1)) (ht : gx_tag S a = 32) (hin : ¬ (i < 0 ∨ gx_len S a ≤ i.toNatClampNeg)) (hK : gx_K p l e R s m args below meth c Q Y D dT ext A c0 s0 (pc + 1) ls st' (gx_put S a i.toNatClampNeg (.int x))) : gx_K p l e R s m args below meth c Q Y D dT ext A c0 s0 pc ls (.int x :: .int i :: .ref a :: st') S := by
  obtain ⟨hx, hb, -, hown, hts, hE, -⟩ := hF
  intro ad H locs lsA hW hS hL hls hst
  have hob := gx_ws_arr (dT := dT) (ext := ext) (ad := ad) (a := a) hW.1 (by omega) (by omega)
  rw [gx_ct_int (by omega), ht] at hob
  have hset := gx_ast_ws (dT := dT) (ext := ext) (ad := ad) (S := S) (a := a) (k := i.toNatClampNeg) (x := x) (by omega) (by omega)
  rw [ht] at hset
  have hwf : gx_wf (gx_put S a i.toNatClampNeg (.int x)) := gx_put_wf hW.1 gx_c0_int (fun z => by omega) (fun z => by omega) (fun z => by omega)
  refine va_iast hx hb hE.1 hW.2.1 hW.2.2.1 hS a 0 hob rfl hin hd fun H1 locs1 hP1 hD1 hS1 => ?_
  rw [hset] at hP1 hD1
  have hkk := hK ad H1 locs1 lsA ⟨hwf, hP1, hD1, hW.2.2.2.put⟩ hS1 hL (gx_put_cs hls) (gx_put_cs (gx_cs_tail (gx_cs_tail (gx_cs_tail hst))))
  rwa [gx_put_n] at hkk
theorem gx_bast {x : Int32} (hF : gx_Fr p l R s m args meth c Y D dT ext A) (hd : decode (gx_cd Y) pc = .ok (.bastore, 1)) (ht : gx_tag S a = 33) (hin : ¬ (i < 0 ∨ gx_len S a ≤ i.toNatClampNeg)) (hK : gx_K p l e R s m args below meth c Q Y D dT ext A c0 s0 (pc + 1) ls st' (gx_put S a i.toNatClampNeg (.int (vp_nar .byte x)))) : gx_K p l e R s m args below meth c Q Y D dT ext A c0 s0 pc ls (.int x :: .int i :: .ref a :: st') S := by
  obtain ⟨hx, hb, -, hown, hts, hE, -⟩ := hF
  intro ad H locs lsA hW hS hL hls hst
  have hob := gx_ws_arr (dT := dT) (ext := ext) (ad := ad) (a := a) hW.1 (by omega) (by omega)
  rw [gx_ct_int (by omega), ht] at hob
  have hset := gx_ast_ws (dT := dT) (ext := ext) (ad := ad) (S := S) (a := a) (k := i.toNatClampNeg) (x := (vp_nar .byte x)) (by omega) (by omega)
  rw [ht] at hset
  have hwf : gx_wf (gx_put S a i.toNatClampNeg (.int (vp_nar .byte x))) := gx_put_wf hW.1 gx_c0_int (fun _ y hy => by cases hy; exact gx_nar_b x) (fun z => by omega) (fun z => by omega)
  refine va_bast hx hb hE.1 hW.2.1 hW.2.2.1 hS a 1 hob rfl hin hd fun H1 locs1 hP1 hD1 hS1 => ?_
  rw [hset] at hP1 hD1
  have hkk := hK ad H1 locs1 lsA ⟨hwf, hP1, hD1, hW.2.2.2.put⟩ hS1 hL (gx_put_cs hls) (gx_put_cs (gx_cs_tail (gx_cs_tail (gx_cs_tail hst))))
  rwa [gx_put_n] at hkk
theorem gx_zast {x : Int32} (hF : gx_Fr p l R s m args meth c Y D dT ext A) (hd : decode (gx_cd Y) pc = .ok (.bastore, 1)) (ht : gx_tag S a = 34) (hin : ¬ (i < 0 ∨ gx_len S a ≤ i.toNatClampNeg)) (hK : gx_K p l e R s m args below meth c Q Y D dT ext A c0 s0 (pc + 1) ls st' (gx_put S a i.toNatClampNeg (.int (vp_nar .boolean x)))) : gx_K p l e R s m args below meth c Q Y D dT ext A c0 s0 pc ls (.int x :: .int i :: .ref a :: st') S := by
  obtain ⟨hx, hb, -, hown, hts, hE, -⟩ := hF
  intro ad H locs lsA hW hS hL hls hst
  have hob := gx_ws_arr (dT := dT) (ext := ext) (ad := ad) (a := a) hW.1 (by omega) (by omega)
  rw [gx_ct_int (by omega), ht] at hob
  have hset := gx_ast_ws (dT := dT) (ext := ext) (ad := ad) (S := S) (a := a) (k := i.toNatClampNeg) (x := (vp_nar .boolean x)) (by omega) (by omega)
  rw [ht] at hset
  have hwf : gx_wf (gx_put S a i.toNatClampNeg (.int (vp_nar .boolean x))) := gx_put_wf hW.1 gx_c0_int (fun z => by omega) (fun _ y hy => by cases hy; exact gx_nar_z x) (fun z => by omega)
  refine va_zast hx hb hE.1 hW.2.1 hW.2.2.1 hS a 2 hob rfl hin hd fun H1 locs1 hP1 hD1 hS1 => ?_
  rw [hset] at hP1 hD1
  have hkk := hK ad H1 locs1 lsA ⟨hwf, hP1, hD1, hW.2.2.2.put⟩ hS1 hL (gx_put_cs hls) (gx_put_cs (gx_cs_tail (gx_cs_tail (gx_cs_tail hst))))
  rwa [gx_put_n] at hkk
theorem gx_sast {x : Int32} (hF : gx_Fr p l R s m args meth c Y D dT ext A) (hd : decode (gx_cd Y) pc = .ok (.sastore, 1)) (ht : gx_tag S a = 35) (hin : ¬ (i < 0 ∨ gx_len S a ≤ i.toNatClampNeg)) (hK : gx_K p l e R s m args below meth c Q Y D dT ext A c0 s0 (pc + 1) ls st' (gx_put S a i.toNatClampNeg (.int (vp_nar .short x)))) : gx_K p l e R s m args below meth c Q Y D dT ext A c0 s0 pc ls (.int x :: .int i :: .ref a :: st') S := by
  obtain ⟨hx, hb, -, hown, hts, hE, -⟩ := hF
  intro ad H locs lsA hW hS hL hls hst
  have hob := gx_ws_arr (dT := dT) (ext := ext) (ad := ad) (a := a) hW.1 (by omega) (by omega)
  rw [gx_ct_int (by omega), ht] at hob
  have hset := gx_ast_ws (dT := dT) (ext := ext) (ad := ad) (S := S) (a := a) (k := i.toNatClampNeg) (x := (vp_nar .short x)) (by omega) (by omega)
  rw [ht] at hset
  have hwf : gx_wf (gx_put S a i.toNatClampNeg (.int (vp_nar .short x))) := gx_put_wf hW.1 gx_c0_int (fun z => by omega) (fun z => by omega) (fun _ y hy => by cases hy; exact gx_nar_s x)
  refine va_sast hx hb hE.1 hW.2.1 hW.2.2.1 hS a 3 hob rfl hin hd fun H1 locs1 hP1 hD1 hS1 => ?_
  rw [hset] at hP1 hD1
  have hkk := hK ad H1 locs1 lsA ⟨hwf, hP1, hD1, hW.2.2.2.put⟩ hS1 hL (gx_put_cs hls) (gx_put_cs (gx_cs_tail (gx_cs_tail (gx_cs_tail hst))))
  rwa [gx_put_n] at hkk
theorem gx_last {x : Int64} (hF : gx_Fr p l R s m args meth c Y D dT ext A) (hd : decode (gx_cd Y) pc = .ok (.lastore, 1)) (ht : gx_tag S a = 36) (hin : ¬ (i < 0 ∨ gx_len S a ≤ i.toNatClampNeg)) (hK : gx_K p l e R s m args below meth c Q Y D dT ext A c0 s0 (pc + 1) ls st' (gx_put S a i.toNatClampNeg (.long x))) : gx_K p l e R s m args below meth c Q Y D dT ext A c0 s0 pc ls (.long x :: .int i :: .ref a :: st') S := by
  obtain ⟨hx, hb, -, hown, hts, hE, -⟩ := hF
  intro ad H locs lsA hW hS hL hls hst
  have hob := gx_ws_arr (dT := dT) (ext := ext) (ad := ad) (a := a) hW.1 (by omega) (by omega)
  rw [gx_ct_long ht, ht] at hob
  have hset := gx_last_ws (dT := dT) (ext := ext) (ad := ad) (S := S) (a := a) (k := i.toNatClampNeg) (x := x) ht
  rw [ht] at hset
  have hwf : gx_wf (gx_put S a i.toNatClampNeg (.long x)) := gx_put_wf hW.1 gx_c0_long (fun z => by omega) (fun z => by omega) (fun z => by omega)
  refine va_last hx hb hE.1 hW.2.1 hW.2.2.1 hS a 4 hob rfl hin hd fun H1 locs1 hP1 hD1 hS1 => ?_
  rw [hset] at hP1 hD1
  have hkk := hK ad H1 locs1 lsA ⟨hwf, hP1, hD1, hW.2.2.2.put⟩ hS1 hL (gx_put_cs hls) (gx_put_cs (gx_cs_tail (gx_cs_tail (gx_cs_tail hst))))
  rwa [gx_put_n] at hkk
/-- .. of a text's bytes -/
theorem gx_xald (hF : gx_Fr p l R s m args meth c Y D dT ext A) {j : Nat} (hd : decode (gx_cd Y) pc = .ok (.baload, 1)) (hj : 48 ≤ j ∧ j < 63) (hin : ¬ (i < 0 ∨ gx_slen.getD (j - 48) 0 ≤ i.toNatClampNeg)) (hK : gx_K p l e R s m args below meth c Q Y D dT ext A c0 s0 (pc + 1) ls (.int (gx_xb j i.toNatClampNeg) :: st') S) : gx_K p l e R s m args below meth c Q Y D dT ext A c0 s0 pc ls (.int i :: .retAddr j :: st') S := by
  obtain ⟨hx, hb, -, hown, hts, hE, -⟩ := hF
  obtain ⟨-, -, -, -, -, ⟨adK, adV, h6, h7⟩, -⟩ := hE
  obtain ⟨-, e2, -⟩ := h7 (j - 48) (by omega)
  rw [show 48 + (j - 48) = j by omega] at e2
  intro ad H locs lsA hW hS hL hls hst
  show W p l e R s m args below meth c H locs _ _ Q (F0 m pc lsA (.int i :: ext j :: st'.map (gx_cv ad ext)))
  rw [e2]
  exact va_tb hx hb (h6.1 (j - 48) (by omega)).2.2.2 hS hin rfl hd (hK ad H locs lsA hW hS hL hls (gx_cs_cons gx_c0_int (gx_cs_tail (gx_cs_tail hst))))
theorem gx_sald9 (hF : gx_Fr p l R s m args meth c Y D dT ext A) {j : Nat} (hd : decode (gx_cd Y) pc = .ok (.iaload, 1)) (hj : j = 64 ∧ 0 < gx_sk Y) (hin : ¬ (i < 0 ∨ gx_scL Y ≤ i.toNatClampNeg)) (hK : gx_K p l e R s m args below meth c Q Y D dT ext A c0 s0 (pc + 1) ls (.int (gx_scV Y i.toNatClampNeg) :: st') S) : gx_K p l e R s m args below meth c Q Y D dT ext A c0 s0 pc ls (.int i :: .retAddr j :: st') S := by
  obtain ⟨hx, hb, -, hown, hts, hE, -, -, ⟨-, hsc⟩, -⟩ := hF
  obtain ⟨b9, e9, hX9, hl9, hA9⟩ := hsc hj.2
  intro ad H locs lsA hW hS hL hls hst
  show W p l e R s m args below meth c H locs _ _ Q (F0 m pc lsA (.int i :: ext j :: st'.map (gx_cv ad ext)))
  rw [hj.1, e9]
  exact va_sld hx hb hX9 hl9 hA9 hS hin hd (hK ad H locs lsA hW hS hL hls (gx_cs_cons gx_c0_int (gx_cs_tail (gx_cs_tail hst))))
theorem gx_aald (hF : gx_Fr p l R s m args meth c Y D dT ext A) (hd : decode (gx_cd Y) pc = .ok (.aaload, 1)) (h1 : 37 ≤ gx_tag S a) (h2 : gx_tag S a ≤ 39) (hin : ¬ (i < 0 ∨ gx_len S a ≤ i.toNatClampNeg)) {v : Value} (hv : S.2.1 a i.toNatClampNeg = v) (hv2 : v = .null ∨ ∃ b, v = .ref b) (hK : gx_K p l e R s m args below meth c Q Y D dT ext A c0 s0 (pc + 1) ls (v :: st') S) : gx_K p l e R s m args below meth c Q Y D dT ext A c0 s0 pc ls (.int i :: .ref a :: st') S := by
  obtain ⟨hx, hb, -, hown, hts, hE, -⟩ := hF
  intro ad H locs lsA hW hS hL hls hst
  have hob := gx_ws_arr (dT := dT) (ext := ext) (ad := ad) (a := a) hW.1 (by omega) (by omega)
  rw [gx_ct_ref h1] at hob
  have hc : gx_c0 S v := by rw [← hv]; exact hW.1.2.2.1 a _
  have hkk := hK ad H locs lsA hW hS hL hls (gx_cs_cons hc (gx_cs_tail (gx_cs_tail hst)))
  have hty : ∃ C, gx_aty (gx_tag S a) = .object C := by
    have : gx_tag S a = 37 ∨ gx_tag S a = 38 ∨ gx_tag S a = 39 := by omega
    rcases this with h | h | h <;> rw [h] <;> exact ⟨_, rfl⟩
  obtain ⟨C, hC⟩ := hty
  have htt := gx_tys_at (dT := dT) (t := gx_tag S a) (by omega) (by omega)
  rw [hC] at htt
  refine va_aldq hx hb hE.1 hW.2.1 a (gx_tag S a - 32) hob htt hin hd ?_
  have e : va_rf (gx_op ad (S.2.1 a i.toNatClampNeg)) = gx_cv ad ext v := by
    rw [hv]
    rcases hv2 with rfl | ⟨b, rfl⟩ <;> rfl
  rw [e]
  exact hkk
theorem gx_aastN (hF : gx_Fr p l R s m args meth c Y D dT ext A) (hd : decode (gx_cd Y) pc = .ok (.aastore, 1)) (h1 : 37 ≤ gx_tag S a) (h2 : gx_tag S a ≤ 39) (hin : ¬ (i < 0 ∨ gx_len S a ≤ i.toNatClampNeg)) (hK : gx_K p l e R s m args below meth c Q Y D dT ext A c0 s0 (pc + 1) ls st' (gx_put S a i.toNatClampNeg .null)) : gx_K p l e R s m args below meth c Q Y D dT ext A c0 s0 pc ls (.null :: .int i :: .ref a :: st') S := by
  obtain ⟨hx, hb, -, hown, hts, hE, -⟩ := hF
  intro ad H locs lsA hW hS hL hls hst
  have hob := gx_ws_arr (dT := dT) (ext := ext) (ad := ad) (a := a) hW.1 (by omega) (by omega)
  rw [gx_ct_ref h1] at hob
  have hset := gx_aast_ws (dT := dT) (ext := ext) (ad := ad) (S := S) (a := a) (k := i.toNatClampNeg) (v := .null) rfl h1 h2
  have hwf : gx_wf (gx_put S a i.toNatClampNeg .null) := gx_put_wf hW.1 gx_c0_null (fun z => by omega) (fun z => by omega) (fun z => by omega)
  have hty : ∃ C, gx_aty (gx_tag S a) = .object C := by
    have : gx_tag S a = 37 ∨ gx_tag S a = 38 ∨ gx_tag S a = 39 := by omega
    rcases this with h | h | h <;> rw [h] <;> exact ⟨_, rfl⟩
  obtain ⟨C, hC⟩ := hty
  have htt := gx_tys_at (dT := dT) (t := gx_tag S a) (by omega) (by omega)
  rw [hC] at htt
  refine va_astqN hx hb hE.1 hW.2.1 hW.2.2.1 hS a (gx_tag S a - 32) hob htt hin hd fun H1 locs1 hP1 hD1 hS1 => ?_
  have hP2 : va_P D gx_cl (gx_ws dT ext ad (gx_put S a i.toNatClampNeg .null)) H1 := by rw [← hset]; exact hP1
  have hD2 : va_D A (gx_ws dT ext ad (gx_put S a i.toNatClampNeg .null)) := by rw [← hset]; exact hD1
  have hkk := hK ad H1 locs1 lsA ⟨hwf, hP2, hD2, hW.2.2.2.put⟩ hS1 hL (gx_put_cs hls) (gx_put_cs (gx_cs_tail (gx_cs_tail (gx_cs_tail hst))))
  rwa [gx_put_n] at hkk
theorem gx_nest_cast (hE : gx_En D dT ext A s s.heap) {C E : String} (h : (Cond.castable C E) ∈ gx_nest) : va_Nw (.castable C E) s := hE.2.1 _ h
theorem gx_aast (hF : gx_Fr p l R s m args meth c Y D dT ext A) {b : Nat} (hd : decode (gx_cd Y) pc = .ok (.aastore, 1)) (hin : ¬ (i < 0 ∨ gx_len S a ≤ i.toNatClampNeg)) (hk : (gx_tag S a = 37 ∧ 2 ≤ gx_tag S b ∧ gx_tag S b ≤ 5) ∨ (gx_tag S a = 38 ∧ gx_tag S b = 6) ∨ (gx_tag S a = 39 ∧ gx_tag S b = 1)) (hK : gx_K p l e R s m args below meth c Q Y D dT ext A c0 s0 (pc + 1) ls st' (gx_put S a i.toNatClampNeg (.ref b))) : gx_K p l e R s m args below meth c Q Y D dT ext A c0 s0 pc ls (.ref b :: .int i :: .ref a :: st') S := by
  obtain ⟨hx, hb, -, hown, hts, hE, -⟩ := hF
  have h1 : 37 ≤ gx_tag S a := by omega
  have h2 : gx_tag S a ≤ 39 := by omega
  intro ad H locs lsA hW hS hL hls hst
  have hob := gx_ws_arr (dT := dT) (ext := ext) (ad := ad) (a := a) hW.1 (by omega) (by omega)
  rw [gx_ct_ref h1] at hob
  have hob2 := gx_ws_obj (dT := dT) (ext := ext) (ad := ad) (a := b) hW.1 (by omega)
  have hcl := gx_cl_at (ci := gx_tag S b) (by omega)
  have hset := gx_aast_ws (dT := dT) (ext := ext) (ad := ad) (S := S) (a := a) (k := i.toNatClampNeg) (v := .ref b) rfl h1 h2
  have hwf : gx_wf (gx_put S a i.toNatClampNeg (.ref b)) := gx_put_wf hW.1 (gx_cs_head hst) (fun z => by omega) (fun z => by omega) (fun z => by omega)
  have htt := gx_tys_at (dT := dT) (t := gx_tag S a) (by omega) (by omega)
  have hkk : ∀ (H1 : Heap) (locs1 : List Loc), va_P D gx_cl ((gx_ws dT ext ad S).set a (ad a, .inl (dT (gx_tag S a), gx_len S a, .inr (.inr (.inr (.inr (va_up (fun j => gx_op ad (S.2.1 a j)) i.toNatClampNeg (some (ad b))))))))) H1 → va_D A ((gx_ws dT ext ad S).set a (ad a, .inl (dT (gx_tag S a), gx_len S a, .inr (.inr (.inr (.inr (va_up (fun j => gx_op ad (S.2.1 a j)) i.toNatClampNeg (some (ad b))))))))) → va_S A s.heap H1 locs1 → W p l e R s m args below meth c H1 locs1 (S.1.2.2.2.1 - c0) (S.1.2.2.2.2 - s0) Q (F0 m (pc + 1) lsA (st'.map (gx_cv ad ext))) := by
    intro H1 locs1 hP1 hD1 hS1
    have hP2 : va_P D gx_cl (gx_ws dT ext ad (gx_put S a i.toNatClampNeg (.ref b))) H1 := by rw [← hset]; exact hP1
    have hD2 : va_D A (gx_ws dT ext ad (gx_put S a i.toNatClampNeg (.ref b))) := by rw [← hset]; exact hD1
    have hkk := hK ad H1 locs1 lsA ⟨hwf, hP2, hD2, hW.2.2.2.put⟩ hS1 hL (gx_put_cs hls) (gx_put_cs (gx_cs_tail (gx_cs_tail (gx_cs_tail hst))))
    rwa [gx_put_n] at hkk
  by_cases hz : (gx_tag S a = 37 ∧ gx_tag S b = 2) ∨ (gx_tag S a = 38 ∧ gx_tag S b = 6)
  · have hq : gx_aty (gx_tag S a) = .object (gx_rname (gx_tag S b)) := by
      rcases hz with ⟨e1, e2⟩ | ⟨e1, e2⟩ <;> rw [e1, e2] <;> rfl
    rw [hq] at htt
    exact va_astq hx hb hE.1 hW.2.1 hW.2.2.1 hS a (gx_tag S a - 32) b (gx_tag S b) hob htt hob2 hcl hin hd hkk
  · have hq : ∃ E, gx_aty (gx_tag S a) = .object E ∧ (Cond.castable (gx_rname (gx_tag S b)) E) ∈ gx_nest := by
      have : (gx_tag S a = 37 ∧ gx_tag S b = 3) ∨ (gx_tag S a = 37 ∧ gx_tag S b = 4) ∨ (gx_tag S a = 37 ∧ gx_tag S b = 5) ∨ (gx_tag S a = 39 ∧ gx_tag S b = 1) := by omega
      rcases this with ⟨e1, e2⟩ | ⟨e1, e2⟩ | ⟨e1, e2⟩ | ⟨e1, e2⟩ <;> rw [e1, e2] <;> exact ⟨_, rfl, by decide +kernel⟩
    obtain ⟨E, hq1, hq2⟩ := hq
    rw [hq1] at htt
    exact va_astqO hx hb hE.1 hW.2.1 hW.2.2.1 hS a (gx_tag S a - 32) b (gx_tag S b) hob htt (hE.2.1 _ hq2) hob2 hcl hin hd hkk
theorem gx_alen (hF : gx_Fr p l R s m args meth c Y D dT ext A) (hd : decode (gx_cd Y) pc = .ok (.arraylength, 1)) (h1 : 32 ≤ gx_tag S a) (h2 : gx_tag S a ≤ 39) (hK : gx_K p l e R s m args below meth c Q Y D dT ext A c0 s0 (pc + 1) ls (.int (Int32.ofNat (gx_len S a)) :: st') S) : gx_K p l e R s m args below meth c Q Y D dT ext A c0 s0 pc ls (.ref a :: st') S := by
  obtain ⟨hx, hb, -, hown, hts, hE, -⟩ := hF
  intro ad H locs lsA hW hS hL hls hst
  have hob := gx_ws_arr (dT := dT) (ext := ext) (ad := ad) (a := a) hW.1 h1 h2
  exact va_alen hx hb hE.1 hW.2.1 a (gx_tag S a - 32) hob (gx_tys_at (by omega) (by omega)) rfl hd (hK ad H locs lsA hW hS hL hls (gx_cs_cons gx_c0_int (gx_cs_tail hst)))
theorem gx_xlen (hF : gx_Fr p l R s m args meth c Y D dT ext A) {j n : Nat} (hd : decode (gx_cd Y) pc = .ok (.arraylength, 1)) (hj : gx_xl Y j = some n) (hK : gx_K p l e R s m args below meth c Q Y D dT ext A c0 s0 (pc + 1) ls (.int (Int32.ofNat n) :: st') S) : gx_K p l e R s m args below meth c Q Y D dT ext A c0 s0 pc ls (.retAddr j :: st') S := by
  obtain ⟨hx, hb, -, hown, hts, hE, -, -, ⟨-, hsc⟩, -⟩ := hF
  obtain ⟨-, -, -, -, -, ⟨adK, adV, h6, h7⟩, ⟨t5, f5, h8, h9⟩, -⟩ := hE
  intro ad H locs lsA hW hS hL hls hst
  show W p l e R s m args below meth c H locs _ _ Q (F0 m pc lsA (ext j :: st'.map (gx_cv ad ext)))
  have hkk := hK ad H locs lsA hW hS hL hls (gx_cs_cons gx_c0_int (gx_cs_tail hst))
  unfold gx_xl at hj
  split at hj
  · rename_i hj9
    cases hj
    obtain ⟨b9, e9, hX9, hl9, hA9⟩ := hsc hj9.2
    rw [hj9.1, e9]
    exact va_slen hx hb hX9 hl9 hA9 hS hd hkk
  split at hj
  · rename_i h5
    cases hj
    rw [h5, h8]
    exact va_tlen hx hb h9 hS rfl hd hkk
  · split at hj
    · rename_i hjj
      cases hj
      obtain ⟨-, e2, -⟩ := h7 (j - 48) (by omega)
      rw [show 48 + (j - 48) = j by omega] at e2
      rw [e2]
      exact va_tlen hx hb (h6.1 (j - 48) (by omega)).2.2.2 hS rfl hd hkk
    · cases hj
end GXA
