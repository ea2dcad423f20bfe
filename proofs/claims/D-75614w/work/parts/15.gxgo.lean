set_option maxRecDepth 100000
/-! ===== Math, arraycopy, Object(); then every instruction that goes on in the same frame ===== -/
section GXB
variable {p : Program} {l : Launch} {e : Env} {R : Room} {s : State} {m : MethodId} {args : Array Value} {below : List Frame} {meth : Method} {c : Code} {Q : State → Prop} {Y : gx_Y} {D : va_G} {dT : Nat → ClassId} {ext : Nat → Value} {A : Nat → Prop} {c0 s0 : Nat}
variable {pc : Nat} {ls st st' : List Value} {S : gx_S} {ix a : Nat} {i : Int32}
theorem gx_min (hF : gx_Fr p l R s m args meth c Y D dT ext A) (hd : decode (gx_cd Y) pc = .ok (.invokestatic ix, 3)) (hl : Cond.methodLink (gx_cname (gx_oc Y)) ix Lib.Math.min.name ∈ lw_all) (hs : (st'.map fun v => v.category).sum ≤ 8) (hc : S.1.2.2.2.1 - c0 ≤ R.cells ∧ S.1.2.2.2.2 - s0 ≤ R.slots) {x y : Int32} (hK : gx_K p l e R s m args below meth c Q Y D dT ext A c0 s0 (pc + 3) ls (.int (if y < x then y else x) :: st') S) : gx_K p l e R s m args below meth c Q Y D dT ext A c0 s0 pc ls (.int y :: .int x :: st') S := by
  have heok : gx_eok ext := gx_eok_of hF
  obtain ⟨hx, hb, hml, hown, hts, hE, hA, -, -, -, -, hR1, hR2⟩ := hF
  intro ad H locs lsA hW hS hL hls hst
  exact va_mmin hx hb (hml.trans hL.1.symm) hown (hts _ hl) (hts _ q493) (hts _ q140) (hts _ q494) (by omega) (by rw [gx_sum_cat heok]; omega) hc.1 hc.2 hd (hK ad H locs lsA hW hS hL hls (gx_cs_cons gx_c0_int (gx_cs_tail (gx_cs_tail hst))))
theorem gx_max (hF : gx_Fr p l R s m args meth c Y D dT ext A) (hd : decode (gx_cd Y) pc = .ok (.invokestatic ix, 3)) (hl : Cond.methodLink (gx_cname (gx_oc Y)) ix Lib.Math.max.name ∈ lw_all) (hs : (st'.map fun v => v.category).sum ≤ 8) (hc : S.1.2.2.2.1 - c0 ≤ R.cells ∧ S.1.2.2.2.2 - s0 ≤ R.slots) {x y : Int32} (hK : gx_K p l e R s m args below meth c Q Y D dT ext A c0 s0 (pc + 3) ls (.int (if x < y then y else x) :: st') S) : gx_K p l e R s m args below meth c Q Y D dT ext A c0 s0 pc ls (.int y :: .int x :: st') S := by
  have heok : gx_eok ext := gx_eok_of hF
  obtain ⟨hx, hb, hml, hown, hts, hE, hA, -, -, -, -, hR1, hR2⟩ := hF
  intro ad H locs lsA hW hS hL hls hst
  exact va_mmax hx hb (hml.trans hL.1.symm) hown (hts _ hl) (hts _ q829) (hts _ q140) (hts _ q830) (by omega) (by rw [gx_sum_cat heok]; omega) hc.1 hc.2 hd (hK ad H locs lsA hW hS hL hls (gx_cs_cons gx_c0_int (gx_cs_tail (gx_cs_tail hst))))
theorem gx_abs (hF : gx_Fr p l R s m args meth c Y D dT ext A) (hd : decode (gx_cd Y) pc = .ok (.invokestatic ix, 3)) (hl : Cond.methodLink (gx_cname (gx_oc Y)) ix Lib.MathLoose.abs_long.x ∈ lw_all) (hs : (st'.map fun v => v.category).sum ≤ 8) (hc : S.1.2.2.2.1 - c0 ≤ R.cells ∧ S.1.2.2.2.2 - s0 ≤ R.slots) {x : Int64} (hK : gx_K p l e R s m args below meth c Q Y D dT ext A c0 s0 (pc + 3) ls (.long (if 0 < x then x else -x) :: st') S) : gx_K p l e R s m args below meth c Q Y D dT ext A c0 s0 pc ls (.long x :: st') S := by
  have heok : gx_eok ext := gx_eok_of hF
  obtain ⟨hx, hb, hml, hown, hts, hE, hA, -, -, -, -, hR1, hR2⟩ := hF
  intro ad H locs lsA hW hS hL hls hst
  exact va_mabs_long hx hb (hml.trans hL.1.symm) hown (hts _ hl) (hts _ q1212) (hts _ q140) (hts _ q1213) (by omega) (by rw [gx_sum_cat heok]; omega) hc.1 hc.2 hd (hK ad H locs lsA hW hS hL hls (gx_cs_cons gx_c0_long (gx_cs_tail hst)))
theorem gx_objI (hF : gx_Fr p l R s m args meth c Y D dT ext A) (hd : decode (gx_cd Y) pc = .ok (.invokespecial ix, 3)) (hl : Cond.methodLink (gx_cname (gx_oc Y)) ix Lib.objectInit ∈ lw_all) (hs : (st'.map fun v => v.category).sum ≤ 8) (hK : gx_K p l e R s m args below meth c Q Y D dT ext A c0 s0 (pc + 3) ls st' S) : gx_K p l e R s m args below meth c Q Y D dT ext A c0 s0 pc ls (.ref a :: st') S := by
  have heok : gx_eok ext := gx_eok_of hF
  obtain ⟨hx, hb, hml, hown, hts, hE, hA, -, -, -, -, hR1, hR2⟩ := hF
  intro ad H locs lsA hW hS hL hls hst
  refine W.objInit hx hb hown (hts _ hl) (hts _ q165) (hts _ q166) rfl (hL.1.trans hml.symm) rfl hd (by omega) ?_ (hK ad H locs lsA hW hS hL hls (gx_cs_tail hst))
  have := gx_sum_cat (ad := ad) heok st'
  show 2 * 0 + ((st'.map (gx_cv ad ext)).map fun v => v.category).sum + 12 ≤ R.locals
  omega
theorem gx_cpy_fit {S : gx_S} {a b sp dp n : Nat} {P : Int32 → Prop} (ha : ∀ j, P (S.2.2.1 a j)) (hb : ∀ j, P (S.2.2.1 b j)) (j : Nat) : P (va_cpy (S.2.2.1 b) (S.2.2.1 a) sp dp n j) := by
  unfold va_cpy
  split
  · exact hb _
  · exact ha _
theorem gx_copyI (hF : gx_Fr p l R s m args meth c Y D dT ext A) {b : Nat} (hd : decode (gx_cd Y) pc = .ok (.invokestatic ix, 3)) (hl : Cond.methodLink (gx_cname (gx_oc Y)) ix arraycopyName ∈ lw_all) (hs : (st'.map fun v => v.category).sum ≤ 8) {sp dp n : Int32} (ht : gx_tag S a = gx_tag S b) (ht1 : 32 ≤ gx_tag S a) (ht2 : gx_tag S a < 36)
    (h1 : ¬ (sp < 0 ∨ dp < 0 ∨ n < 0 ∨ gx_len S b < sp.toNatClampNeg + n.toNatClampNeg ∨ gx_len S a < dp.toNatClampNeg + n.toNatClampNeg)) (hK : gx_K p l e R s m args below meth c Q Y D dT ext A c0 s0 (pc + 3) ls st' (S.1, S.2.1, gx_u1 S.2.2.1 a (va_cpy (S.2.2.1 b) (S.2.2.1 a) sp.toNatClampNeg dp.toNatClampNeg n.toNatClampNeg), S.2.2.2)) : gx_K p l e R s m args below meth c Q Y D dT ext A c0 s0 pc ls (.int n :: .int dp :: .ref a :: .int sp :: .ref b :: st') S := by
  have heok : gx_eok ext := gx_eok_of hF
  obtain ⟨hx, hb, hml, hown, hts, hE, hA, -, -, -, -, hR1, hR2⟩ := hF
  simp only [not_or, Nat.not_lt] at h1
  obtain ⟨g1, g2, g3, g4, g5⟩ := h1
  intro ad H locs lsA hW hS hL hls hst
  obtain ⟨hw, hP, hD, hG⟩ := hW
  have hoa := gx_ws_arr (dT := dT) (ext := ext) (ad := ad) (a := a) hw ht1 (by omega)
  have hob := gx_ws_arr (dT := dT) (ext := ext) (ad := ad) (a := b) hw (by omega) (by omega)
  rw [gx_ct_int (by omega)] at hoa hob
  have hta := gx_tys_at (dT := dT) (t := gx_tag S a) ht1 (by omega)
  have htb := hta
  rw [ht] at htb
  have hty : refKind (gx_aty (gx_tag S a)) = false ∧ (∀ j, fits (gx_aty (gx_tag S a)) (.int (S.2.2.1 b j)) = true) := by
    have : gx_tag S a = 32 ∨ gx_tag S a = 33 ∨ gx_tag S a = 34 ∨ gx_tag S a = 35 := by omega
    rcases this with h | h | h | h <;> rw [h]
    · exact ⟨rfl, fun _ => rfl⟩
    · exact ⟨rfl, fun j => hw.2.2.2.1 b j (by omega)⟩
    · exact ⟨rfl, fun j => hw.2.2.2.2.1 b j (by omega)⟩
    · exact ⟨rfl, fun j => hw.2.2.2.2.2 b j (by omega)⟩
  have e5 : nativeFrameWords "java/lang/System" "arraycopy" 5 = 7 := by decide
  refine va_copyi hx hb (hml.trans hL.1.symm) hown (hts _ hl) (hts _ q791) (hts _ q790) (hts _ q148) hE.1 hP hD hS b a (gx_tag S a - 32) (gx_tag S a - 32) (ty := gx_aty (gx_tag S a)) hob hoa (by rw [ht]; exact htb) hta hty.1 g1 g2 g3 g4 g5 (fun j _ => hty.2 _) (by omega) (by rw [gx_sum_cat heok, e5]; omega) hd fun H1 locs1 hP1 hD1 hS1 => ?_
  have hset := gx_ws_set (dT := dT) (ext := ext) (ad := ad) (S := S) (S' := (S.1, S.2.1, gx_u1 S.2.2.1 a (va_cpy (S.2.2.1 b) (S.2.2.1 a) sp.toNatClampNeg dp.toNatClampNeg n.toNatClampNeg), S.2.2.2)) (a := a) rfl (fun z _ hz => gx_ob_same rfl rfl rfl (gx_u1_ne hz) rfl)
  have hoba : gx_ob dT ext ad (S.1, S.2.1, gx_u1 S.2.2.1 a (va_cpy (S.2.2.1 b) (S.2.2.1 a) sp.toNatClampNeg dp.toNatClampNeg n.toNatClampNeg), S.2.2.2) a = .inl (dT (gx_tag S a), gx_len S a, .inl (va_cpy (S.2.2.1 b) (S.2.2.1 a) sp.toNatClampNeg dp.toNatClampNeg n.toNatClampNeg)) := by
    unfold gx_ob
    rw [if_neg (by show ¬ gx_tag S a < 32; omega), gx_ct_int (by show gx_tag S a ≤ 35; omega)]
    show Sum.inl (dT (gx_tag S a), gx_len S a, Sum.inl (gx_u1 _ _ _ a)) = _
    rw [gx_u1_eq]
  rw [hoba] at hset
  rw [hset] at hP1 hD1
  refine hK ad H1 locs1 lsA ⟨⟨hw.1, hw.2.1, hw.2.2.1, fun z j hz => ?_, fun z j hz => ?_, fun z j hz => ?_⟩, hP1, hD1, hG⟩ hS1 hL hls (gx_cs_tail (gx_cs_tail (gx_cs_tail (gx_cs_tail (gx_cs_tail hst)))))
  · show fits .byte (.int (gx_u1 S.2.2.1 a _ z j)) = true
    have hz' : gx_tag S z = 33 := hz
    by_cases hza : z = a
    · subst hza
      rw [gx_u1_eq]
      exact gx_cpy_fit (P := fun x => fits .byte (.int x) = true) (fun j => hw.2.2.2.1 z j hz') (fun j => hw.2.2.2.1 b j (by omega)) j
    · rw [gx_u1_ne hza]; exact hw.2.2.2.1 z j hz'
  · show fits .boolean (.int (gx_u1 S.2.2.1 a _ z j)) = true
    have hz' : gx_tag S z = 34 := hz
    by_cases hza : z = a
    · subst hza
      rw [gx_u1_eq]
      exact gx_cpy_fit (P := fun x => fits .boolean (.int x) = true) (fun j => hw.2.2.2.2.1 z j hz') (fun j => hw.2.2.2.2.1 b j (by omega)) j
    · rw [gx_u1_ne hza]; exact hw.2.2.2.2.1 z j hz'
  · show fits .short (.int (gx_u1 S.2.2.1 a _ z j)) = true
    have hz' : gx_tag S z = 35 := hz
    by_cases hza : z = a
    · subst hza
      rw [gx_u1_eq]
      exact gx_cpy_fit (P := fun x => fits .short (.int x) = true) (fun j => hw.2.2.2.2.2 z j hz') (fun j => hw.2.2.2.2.2 b j (by omega)) j
    · rw [gx_u1_ne hza]; exact hw.2.2.2.2.2 z j hz'
theorem gx_copyL (hF : gx_Fr p l R s m args meth c Y D dT ext A) {b : Nat} (hd : decode (gx_cd Y) pc = .ok (.invokestatic ix, 3)) (hl : Cond.methodLink (gx_cname (gx_oc Y)) ix arraycopyName ∈ lw_all) (hs : (st'.map fun v => v.category).sum ≤ 8) {sp dp n : Int32} (ht : gx_tag S a = gx_tag S b) (ht1 : gx_tag S a = 36)
    (h1 : ¬ (sp < 0 ∨ dp < 0 ∨ n < 0 ∨ gx_len S b < sp.toNatClampNeg + n.toNatClampNeg ∨ gx_len S a < dp.toNatClampNeg + n.toNatClampNeg)) (hK : gx_K p l e R s m args below meth c Q Y D dT ext A c0 s0 (pc + 3) ls st' (S.1, S.2.1, S.2.2.1, gx_u1 S.2.2.2 a (va_cpy (S.2.2.2 b) (S.2.2.2 a) sp.toNatClampNeg dp.toNatClampNeg n.toNatClampNeg))) : gx_K p l e R s m args below meth c Q Y D dT ext A c0 s0 pc ls (.int n :: .int dp :: .ref a :: .int sp :: .ref b :: st') S := by
  have heok : gx_eok ext := gx_eok_of hF
  obtain ⟨hx, hb, hml, hown, hts, hE, hA, -, -, -, -, hR1, hR2⟩ := hF
  simp only [not_or, Nat.not_lt] at h1
  obtain ⟨g1, g2, g3, g4, g5⟩ := h1
  intro ad H locs lsA hW hS hL hls hst
  obtain ⟨hw, hP, hD, hG⟩ := hW
  have hoa := gx_ws_arr (dT := dT) (ext := ext) (ad := ad) (a := a) hw (by omega) (by omega)
  have hob := gx_ws_arr (dT := dT) (ext := ext) (ad := ad) (a := b) hw (by omega) (by omega)
  rw [gx_ct_long (by omega)] at hoa hob
  have e5 : nativeFrameWords "java/lang/System" "arraycopy" 5 = 7 := by decide
  refine va_copyl hx hb (hml.trans hL.1.symm) hown (hts _ hl) (hts _ q791) (hts _ q790) (hts _ q148) hE.1 hP hD hS b a 4 4 (ty := .long) hob hoa (by rw [← ht, ht1]; rfl) (by rw [ht1]; rfl) rfl g1 g2 g3 g4 g5 (fun j _ => rfl) (by omega) (by rw [gx_sum_cat heok, e5]; omega) hd fun H1 locs1 hP1 hD1 hS1 => ?_
  have hset := gx_ws_set (dT := dT) (ext := ext) (ad := ad) (S := S) (S' := (S.1, S.2.1, S.2.2.1, gx_u1 S.2.2.2 a (va_cpy (S.2.2.2 b) (S.2.2.2 a) sp.toNatClampNeg dp.toNatClampNeg n.toNatClampNeg))) (a := a) rfl (fun z _ hz => gx_ob_same rfl rfl rfl rfl (gx_u1_ne hz))
  have hoba : gx_ob dT ext ad (S.1, S.2.1, S.2.2.1, gx_u1 S.2.2.2 a (va_cpy (S.2.2.2 b) (S.2.2.2 a) sp.toNatClampNeg dp.toNatClampNeg n.toNatClampNeg)) a = .inl (dT (gx_tag S a), gx_len S a, .inr (.inl (va_cpy (S.2.2.2 b) (S.2.2.2 a) sp.toNatClampNeg dp.toNatClampNeg n.toNatClampNeg))) := by
    unfold gx_ob
    rw [if_neg (by show ¬ gx_tag S a < 32; omega), gx_ct_long (by exact ht1)]
    show Sum.inl (dT (gx_tag S a), gx_len S a, Sum.inr (Sum.inl (gx_u1 _ _ _ a))) = _
    rw [gx_u1_eq]
  rw [hoba] at hset
  rw [hset] at hP1 hD1
  exact hK ad H1 locs1 lsA ⟨hw, hP1, hD1, hG⟩ hS1 hL hls (gx_cs_tail (gx_cs_tail (gx_cs_tail (gx_cs_tail (gx_cs_tail hst)))))
end GXB
