set_option maxRecDepth 100000
/-! ===== fields ===== -/
theorem gx_fl_lt : ∀ oc, oc < 21 → ∀ e ∈ gx_flT oc, e.2.1 < 11 ∧ e.2.2.1 < gx_N e.2.1 := by decide +kernel
theorem gx_lt_of_tag {S : gx_S} (hw : gx_wf S) {a : Nat} (h : gx_tag S a < 200) : a < gx_n S := by
  rcases Nat.lt_or_ge a (gx_n S) with h1 | h1
  · exact h1
  · rw [hw.1 a h1] at h
    exact absurd h (by decide)
theorem gx_ws_obj {dT : Nat → ClassId} {ext : Nat → Value} {ad : Nat → Nat} {S : gx_S} (hw : gx_wf S) {a : Nat} (h : gx_tag S a < 15) : (gx_ws dT ext ad S)[a]? = some (ad a, .inr (gx_tag S a, gx_fs ad ext S a)) := by
  rw [gx_ws_get (gx_lt_of_tag hw (by omega))]
  unfold gx_ob
  rw [if_pos (by omega)]
theorem gx_ws_arr {dT : Nat → ClassId} {ext : Nat → Value} {ad : Nat → Nat} {S : gx_S} (hw : gx_wf S) {a : Nat} (h1 : 32 ≤ gx_tag S a) (h2 : gx_tag S a ≤ 39) : (gx_ws dT ext ad S)[a]? = some (ad a, .inl (dT (gx_tag S a), gx_len S a, gx_ct ad S a)) := by
  rw [gx_ws_get (gx_lt_of_tag hw (by omega))]
  unfold gx_ob
  rw [if_neg (by omega)]
theorem gx_fs_at {ad : Nat → Nat} {ext : Nat → Value} {S : gx_S} {a k : Nat} (h : k < gx_N (gx_tag S a)) : (gx_fs ad ext S a)[k]? = some (gx_cv ad ext (gx_val S a k (gx_kd (gx_ty (gx_tag S a) k)))) := by
  unfold gx_fs
  rw [List.getElem?_map, List.getElem?_range h]
  rfl
theorem gx_fs_len {ad : Nat → Nat} {ext : Nat → Value} {S : gx_S} {a : Nat} : (gx_fs ad ext S a).length = gx_N (gx_tag S a) := by simp [gx_fs]
theorem gx_fit_kd {ty : FieldType} {v : Value} (h : gx_fit ty v = true) : (gx_kd ty = 0 ∧ ∃ x, v = .int x) ∨ (gx_kd ty = 1 ∧ ∃ x, v = .long x) ∨ (gx_kd ty = 2 ∧ gx_isR v = true) := by
  unfold gx_fit at h
  split at h
  · exact Or.inl ⟨rfl, _, rfl⟩
  · exact Or.inl ⟨rfl, _, rfl⟩
  · exact Or.inr (Or.inl ⟨rfl, _, rfl⟩)
  · exact Or.inr (Or.inr ⟨rfl, h⟩)
  · exact Or.inr (Or.inr ⟨rfl, h⟩)
  · cases h
theorem gx_put_ref {S : gx_S} {a k : Nat} {v : Value} (h : gx_isR v = true) : gx_put S a k v = (S.1, gx_up S.2.1 a k v, S.2.2.1, S.2.2.2) := by
  cases v <;> first | rfl | cases h
theorem gx_up_at {α : Type} {f : Nat → Nat → α} {a k : Nat} {v : α} : gx_up f a k v a k = v := if_pos ⟨rfl, rfl⟩
theorem gx_up_nk {α : Type} {f : Nat → Nat → α} {a k b j : Nat} {v : α} (h : ¬ (b = a ∧ j = k)) : gx_up f a k v b j = f b j := if_neg h
theorem gx_put_val {S : gx_S} {a k : Nat} {v : Value} {ty : FieldType} (h : gx_fit ty v = true) (j : Nat) (kd : Nat) (hj : j = k → kd = gx_kd ty) : gx_val (gx_put S a k v) a j kd = if j = k then v else gx_val S a j kd := by
  by_cases hjk : j = k
  · rw [if_pos hjk, hj hjk]
    subst hjk
    rcases gx_fit_kd h with ⟨h1, x, rfl⟩ | ⟨h1, x, rfl⟩ | ⟨h1, h2⟩
    · rw [h1]; show Value.int _ = _; congr 1; exact gx_up_at
    · rw [h1]; show Value.long _ = _; congr 1; exact gx_up_at
    · rw [h1, gx_put_ref h2]; exact gx_up_at
  · rw [if_neg hjk]
    have hne : ¬ (a = a ∧ j = k) := fun z => hjk z.2
    rcases gx_fit_kd h with ⟨-, x, rfl⟩ | ⟨-, x, rfl⟩ | ⟨-, h2⟩
    · unfold gx_val gx_put
      split
      · congr 1; exact gx_up_nk hne
      · rfl
      · rfl
    · unfold gx_val gx_put
      split
      · rfl
      · congr 1; exact gx_up_nk hne
      · rfl
    · rw [gx_put_ref h2]
      unfold gx_val
      split
      · rfl
      · rfl
      · exact gx_up_nk hne
theorem gx_put_fs {ad : Nat → Nat} {ext : Nat → Value} {S : gx_S} {a k : Nat} {v : Value} (h : gx_fit (gx_ty (gx_tag S a) k) v = true) (hk : k < gx_N (gx_tag S a)) : gx_fs ad ext (gx_put S a k v) a = (gx_fs ad ext S a).set k (gx_cv ad ext v) := by
  have ht : gx_tag (gx_put S a k v) a = gx_tag S a := by unfold gx_tag; rw [gx_put_n]
  apply List.ext_getElem?
  intro j
  by_cases hj : j < gx_N (gx_tag S a)
  · rw [gx_fs_at (by rw [ht]; exact hj), ht, gx_put_val h j _ (fun z => by rw [z])]
    by_cases hjk : j = k
    · subst hjk
      rw [if_pos rfl, List.getElem?_set_self (by rw [gx_fs_len]; exact hj)]
    · rw [if_neg hjk, List.getElem?_set_ne (Ne.symm hjk), gx_fs_at hj]
  · rw [List.getElem?_eq_none (by rw [gx_fs_len, ht]; omega), List.getElem?_eq_none (by rw [List.length_set, gx_fs_len]; omega)]
theorem gx_put_tag {S : gx_S} {a k b : Nat} {v : Value} : gx_tag (gx_put S a k v) b = gx_tag S b := by unfold gx_tag; rw [gx_put_n]
theorem gx_put_len {S : gx_S} {a k b : Nat} {v : Value} : gx_len (gx_put S a k v) b = gx_len S b := by unfold gx_len; rw [gx_put_n]
theorem gx_put_c0 {S : gx_S} {a k : Nat} {v w : Value} (h : gx_c0 S w) : gx_c0 (gx_put S a k v) w := fun b hb => by
  show b < (gx_put S a k v).1.1
  rw [gx_put_n]
  exact h b hb
theorem gx_put_cs {S : gx_S} {a k : Nat} {v : Value} {l : List Value} (h : gx_cs S l) : gx_cs (gx_put S a k v) l := fun w hw => gx_put_c0 (h w hw)
/-- the memory stays in order where what is laid into small arrays fits -/
theorem gx_put_wf {S : gx_S} {a k : Nat} {v : Value} (hw : gx_wf S) (hv : gx_c0 S v) (h3 : gx_tag S a = 33 → ∀ x, v = .int x → fits .byte (.int x) = true) (h4 : gx_tag S a = 34 → ∀ x, v = .int x → fits .boolean (.int x) = true) (h5 : gx_tag S a = 35 → ∀ x, v = .int x → fits .short (.int x) = true) : gx_wf (gx_put S a k v) := by
  obtain ⟨w1, w2, w3, w4, w5, w6⟩ := hw
  have hI : ∀ b j, (gx_put S a k v).2.2.1 b j = S.2.2.1 b j ∨ (b = a ∧ ∃ x, v = .int x ∧ (gx_put S a k v).2.2.1 b j = x) := by
    intro b j
    cases v with
    | int x =>
      by_cases hbj : b = a ∧ j = k
      · exact Or.inr ⟨hbj.1, x, rfl, if_pos hbj⟩
      · exact Or.inl (if_neg hbj)
    | _ => exact Or.inl rfl
  have hR : ∀ b j, (gx_put S a k v).2.1 b j = S.2.1 b j ∨ (gx_put S a k v).2.1 b j = v := by
    intro b j
    cases v with
    | int x => exact Or.inl rfl
    | long x => exact Or.inl rfl
    | _ =>
      by_cases hbj : b = a ∧ j = k
      · exact Or.inr (if_pos hbj)
      · exact Or.inl (if_neg hbj)
  refine ⟨fun b hb => ?_, fun b hb => ?_, fun b j => ?_, fun b j hb => ?_, fun b j hb => ?_, fun b j hb => ?_⟩
  · rw [gx_put_tag]
    refine w1 b ?_
    have : gx_n (gx_put S a k v) = gx_n S := by unfold gx_n; rw [gx_put_n]
    rwa [this] at hb
  · rw [gx_put_tag]
    refine w2 b ?_
    have : gx_n (gx_put S a k v) = gx_n S := by unfold gx_n; rw [gx_put_n]
    rwa [this] at hb
  · rcases hR b j with h | h
    · rw [h]; exact gx_put_c0 (w3 b j)
    · rw [h]; exact gx_put_c0 hv
  · rw [gx_put_tag] at hb
    rcases hI b j with h | ⟨rfl, x, hx, h⟩
    · rw [h]; exact w4 b j hb
    · rw [h]; exact h3 hb x hx
  · rw [gx_put_tag] at hb
    rcases hI b j with h | ⟨rfl, x, hx, h⟩
    · rw [h]; exact w5 b j hb
    · rw [h]; exact h4 hb x hx
  · rw [gx_put_tag] at hb
    rcases hI b j with h | ⟨rfl, x, hx, h⟩
    · rw [h]; exact w6 b j hb
    · rw [h]; exact h5 hb x hx
theorem gx_fit_nf {ad : Nat → Nat} {ext : Nat → Value} (he : gx_eok ext) {ty : FieldType} {v : Value} (h : gx_fit ty v = true) : narrow ty (gx_cv ad ext v) = gx_cv ad ext v ∧ fits ty (gx_cv ad ext v) = true := by
  unfold gx_fit at h
  split at h
  · exact ⟨rfl, rfl⟩
  · rename_i x
    have hx : x = 0 ∨ x = 1 := of_decide_eq_true h
    rcases hx with rfl | rfl
    · exact ⟨show narrow .boolean (.int 0) = .int 0 by decide, show fits .boolean (.int 0) = true by decide⟩
    · exact ⟨show narrow .boolean (.int 1) = .int 1 by decide, show fits .boolean (.int 1) = true by decide⟩
  · exact ⟨rfl, rfl⟩
  · rcases gx_isR_cv (ad := ad) he h with e | ⟨x, e⟩ <;> rw [e] <;> exact ⟨rfl, rfl⟩
  · rcases gx_isR_cv (ad := ad) he h with e | ⟨x, e⟩ <;> rw [e] <;> exact ⟨rfl, rfl⟩
  · cases h
section GXF
variable {p : Program} {l : Launch} {e : Env} {R : Room} {s : State} {m : MethodId} {args : Array Value} {below : List Frame} {meth : Method} {c : Code} {Q : State → Prop} {Y : gx_Y} {D : va_G} {dT : Nat → ClassId} {ext : Nat → Value} {A : Nat → Prop} {c0 s0 : Nat}
variable {pc : Nat} {ls st' : List Value} {S : gx_S} {ix a : Nat}
theorem gx_getf (hF : gx_Fr p l R s m args meth c Y D dT ext A) (hoc : gx_oc Y < 21) (hd : decode (gx_cd Y) pc = .ok (.getfield ix, 3)) {e9 : Nat × Nat × Nat × Nat} (he : (gx_flT (gx_oc Y)).find? (fun e => e.1 == ix && e.2.1 == gx_tag S a) = some e9)
    (hK : gx_K p l e R s m args below meth c Q Y D dT ext A c0 s0 (pc + 3) ls (gx_val S a e9.2.2.1 (gx_kd (gx_ty e9.2.1 e9.2.2.1)) :: st') S) : gx_K p l e R s m args below meth c Q Y D dT ext A c0 s0 pc ls (.ref a :: st') S := by
  obtain ⟨hx, hb, -, hown, hts, hE, -⟩ := hF
  obtain ⟨hin, hp⟩ := gx_find_in he
  have hp2 : e9.1 = ix ∧ e9.2.1 = gx_tag S a := by simpa using hp
  have hok := gx_flT_ok (gx_oc Y) _ hin
  obtain ⟨hci, hk⟩ := gx_fl_lt _ hoc _ hin
  obtain ⟨ix9, ci, k, mode⟩ := e9
  dsimp only at hp2 hci hk hK
  obtain ⟨rfl, rfl⟩ := hp2
  intro ad H locs lsA hW hS hL hls hst
  obtain ⟨hw, hP, hD, hG⟩ := hW
  have h15 : gx_tag S a < 15 := by omega
  have hkk := hK ad H locs lsA ⟨hw, hP, hD, hG⟩ hS hL hls (gx_cs_cons (gx_val_c0 hw a k _) (gx_cs_tail hst))
  cases mode with
  | zero =>
    obtain ⟨ref, h1, h2⟩ := hok
    refine va_get hx hb hts (gx_in_cl h15) hown hE.1 hP a (gx_ws_obj hw h15) (gx_cl_at h15) k hk (hts _ h1) ?_ (gx_fs_at hk) hd hkk
    rcases h2 with h2 | h2
    · intro z hz; rw [h2]; exact hz
    · exact u_same (hts _ h2)
  | succ mode =>
    obtain ⟨ref, host, h1, h2⟩ := hok
    exact va_getN hx hb hts (gx_in_cl h15) hown hE.1 hP a (gx_ws_obj hw h15) (gx_cl_at h15) k hk (va_Nw.use rfl (hE.2.1 _ h1)) (fun z hz => by rw [h2]; exact hz) (gx_fs_at hk) hd hkk
theorem gx_getfX (hF : gx_Fr p l R s m args meth c Y D dT ext A) {j : Nat} (hd : decode (gx_cd Y) pc = .ok (.getfield ix, 3)) {e9 : Nat × Nat} (he : (gx_xT (gx_oc Y)).find? (fun e => e.1 == ix) = some e9) {v : Value} (hv : gx_xf j e9.2 = some v) (hK : gx_K p l e R s m args below meth c Q Y D dT ext A c0 s0 (pc + 3) ls (v :: st') S) : gx_K p l e R s m args below meth c Q Y D dT ext A c0 s0 pc ls (.retAddr j :: st') S := by
  obtain ⟨hx, hb, -, hown, hts, hE, -⟩ := hF
  obtain ⟨hin, hp⟩ := gx_find_in he
  have hp2 : e9.1 = ix := by simpa using hp
  have hok := gx_xT_ok (gx_oc Y) _ hin
  obtain ⟨ix9, f⟩ := e9
  dsimp only at hp2 hv
  subst hp2
  unfold gx_xf at hv
  split at hv
  · rename_i hj
    obtain ⟨-, -, -, -, -, ⟨adK, adV, h6, h7⟩, -⟩ := hE
    obtain ⟨e1, e2, e3⟩ := h7 (j - 16) (by omega)
    obtain ⟨g1, g2, g3, g4⟩ := h6.1 (j - 16) (by omega)
    have e4 : 16 + (j - 16) = j := by omega
    have e5 : 48 + (j - 16) = j + 32 := by omega
    rw [e4] at e1
    rw [e5] at e2
    intro ad H locs lsA hW hS hL hls hst
    show W p l e R s m args below meth c H locs _ _ Q (F0 m pc lsA (ext j :: st'.map (gx_cv ad ext)))
    rw [e1]
    cases f with
    | zero =>
      rw [if_pos rfl] at hv
      cases hv
      have hkk := hK ad H locs lsA hW hS hL hls (gx_cs_cons gx_c0_ext (gx_cs_tail hst))
      rw [List.map_cons, show gx_cv ad ext (.retAddr (j + 32)) = ext (j + 32) from rfl, e2] at hkk
      exact vk_getf hx hb g3 hS hown (hts _ hok) (fun z hz => hz) hd hkk
    | succ f =>
      rw [if_neg (by omega)] at hv
      cases hv
      have hkk := hK ad H locs lsA hW hS hL hls (gx_cs_cons gx_c0_int (gx_cs_tail hst))
      exact vk_getf hx hb g2 hS hown (hts _ hok) (fun z hz => hz) hd hkk
  · cases hv
theorem gx_putf (hF : gx_Fr p l R s m args meth c Y D dT ext A) (hoc : gx_oc Y < 21) (hd : decode (gx_cd Y) pc = .ok (.putfield ix, 3)) {e9 : Nat × Nat × Nat × Nat} {v : Value} (he : (gx_flT (gx_oc Y)).find? (fun e => e.1 == ix && e.2.1 == gx_tag S a) = some e9)
    (hfit : gx_fit (gx_ty e9.2.1 e9.2.2.1) v = true) (hfin : (gx_T e9.2.1 e9.2.2.1).2.2.2 = false ∨ ((gx_nm Y).name = "<init>" ∧ e9.2.2.2 = 0 ∧ (gx_T e9.2.1 e9.2.2.1).1 = gx_cname (gx_oc Y)))
    (hK : gx_K p l e R s m args below meth c Q Y D dT ext A c0 s0 (pc + 3) ls st' (gx_put S a e9.2.2.1 v)) : gx_K p l e R s m args below meth c Q Y D dT ext A c0 s0 pc ls (v :: .ref a :: st') S := by
  have heok : gx_eok ext := gx_eok_of hF
  obtain ⟨hx, hb, -, hown, hts, hE, -, -, hinit, -⟩ := hF
  obtain ⟨hin, hp⟩ := gx_find_in he
  have hp2 : e9.1 = ix ∧ e9.2.1 = gx_tag S a := by simpa using hp
  have hok := gx_flT_ok (gx_oc Y) _ hin
  obtain ⟨hci, hk⟩ := gx_fl_lt _ hoc _ hin
  obtain ⟨ix9, ci, k, mode⟩ := e9
  dsimp only at hp2 hci hk hK hfit hfin
  obtain ⟨rfl, rfl⟩ := hp2
  intro ad H locs lsA hW hS hL hls hst
  obtain ⟨hw, hP, hD, hG⟩ := hW
  have h15 : gx_tag S a < 15 := by omega
  have hob := gx_ws_obj (dT := dT) (ext := ext) (ad := ad) hw h15
  obtain ⟨hnar, hfits⟩ := gx_fit_nf (ad := ad) heok hfit
  have hset : (gx_ws dT ext ad S).set a (ad a, .inr (gx_tag S a, (gx_fs ad ext S a).set k (gx_cv ad ext v))) = gx_ws dT ext ad (gx_put S a k v) := by
    rw [← gx_ws_set (S := S) (S' := gx_put S a k v) (a := a) (by unfold gx_n; rw [gx_put_n]) (fun b _ hba => gx_put_ob hba)]
    congr 2
    unfold gx_ob
    rw [gx_put_tag, if_pos (by omega), gx_put_fs hfit hk]
  have hwf : gx_wf (gx_put S a k v) := gx_put_wf hw (gx_cs_head hst) (fun z => by omega) (fun z => by omega) (fun z => by omega)
  have hkk : ∀ (H1 : Heap) (locs1 : List Loc), va_P D gx_cl ((gx_ws dT ext ad S).set a (ad a, .inr (gx_tag S a, (gx_fs ad ext S a).set k (gx_cv ad ext v)))) H1 → va_D A ((gx_ws dT ext ad S).set a (ad a, .inr (gx_tag S a, (gx_fs ad ext S a).set k (gx_cv ad ext v)))) → va_S A s.heap H1 locs1 → W p l e R s m args below meth c H1 locs1 (S.1.2.2.2.1 - c0) (S.1.2.2.2.2 - s0) Q (F0 m (pc + 3) lsA (st'.map (gx_cv ad ext))) := by
    intro H1 locs1 hP1 hD1 hS1
    rw [hset] at hP1 hD1
    have := hK ad H1 locs1 lsA ⟨hwf, hP1, hD1, hG.put⟩ hS1 hL (gx_put_cs hls) (gx_put_cs (gx_cs_tail (gx_cs_tail hst)))
    rwa [gx_put_n] at this
  by_cases hf : (gx_T (gx_tag S a) k).2.2.2 = false
  · have h35 : gx_tag S a < 3 ∨ 5 < gx_tag S a := by
      rcases Nat.lt_or_ge (gx_tag S a) 3 with h | h
      · exact Or.inl h
      · rcases Nat.lt_or_ge 5 (gx_tag S a) with h2 | h2
        · exact Or.inr h2
        · rw [gx_fin345 h h2 k] at hf
          cases hf
    cases mode with
    | zero =>
      obtain ⟨ref, h1, h2⟩ := hok
      refine va_put hx hb hts (gx_in_cl h15) (gx_ty (gx_tag S a)) (gx_ty_ok h15) (gx_nm_ok h15 h35) hown hE.1 hP hD hS a hob (gx_cl_at h15) k hk (hts _ h1) ?_ hf (gx_ty_ok h15 k hk) hnar hfits (by rw [gx_fs_len]; exact hk) hd hkk
      rcases h2 with h2 | h2
      · intro z hz; rw [h2]; exact hz
      · exact u_same (hts _ h2)
    | succ mode =>
      obtain ⟨ref, host, h1, h2⟩ := hok
      exact va_putN hx hb hts (gx_in_cl h15) (gx_ty (gx_tag S a)) (gx_ty_ok h15) (gx_nm_ok h15 h35) hown hE.1 hP hD hS a hob (gx_cl_at h15) k hk (va_Nw.use rfl (hE.2.1 _ h1)) (fun z hz => by rw [h2]; exact hz) hf (gx_ty_ok h15 k hk) hnar hfits (by rw [gx_fs_len]; exact hk) hd hkk
  · have hf1 : (gx_T (gx_tag S a) k).2.2.2 = true := by
      cases hq : (gx_T (gx_tag S a) k).2.2.2 with
      | true => rfl
      | false => exact absurd hq hf
    obtain ⟨hi1, rfl, hi3⟩ := hfin.resolve_left hf
    obtain ⟨ref, h1, h2⟩ := hok
    refine gx_putF hx hb hts (gx_in_cl h15) (gx_apart h15 hts hE.1) hown hE.1 hP hD hS a hob (gx_cl_at h15) k hk (hts _ h1) ?_ hf1 (hinit.1 hi1) hi3 (gx_ty_ok h15 k hk) hnar hfits (by rw [gx_fs_len]; exact hk) hd hkk
    rcases h2 with h2 | h2
    · intro z hz; rw [h2]; exact hz
    · exact u_same (hts _ h2)
end GXF
