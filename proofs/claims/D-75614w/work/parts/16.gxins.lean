set_option maxRecDepth 100000
/-! ===== every instruction that goes on in the same frame (printed by tools/gen16.py) ===== -/
section GXG
variable {p : Program} {l : Launch} {e : Env} {R : Room} {s : State} {m : MethodId} {args : Array Value} {below : List Frame} {meth : Method} {c : Code} {Q : State → Prop} {Y : gx_Y} {D : va_G} {dT : Nat → ClassId} {ext : Nat → Value} {A : Nat → Prop} {c0 s0 : Nat}
variable {pc pc' len : Nat} {ls st ls' st' : List Value} {S S' : gx_S} {i : Instr}
theorem gx_thr_go {q : Nat} {S9 : gx_S} {r : Nat × List Value × List Value × gx_S} (h : gx_thr q S9 = some (.inl r)) : False := by
  unfold gx_thr at h
  cases h
theorem gx_oob_go {n : Nat} {S9 : gx_S} {r : Nat × List Value × List Value × gx_S} (h : gx_oob S9 n = some (.inl r)) : False := by
  unfold gx_oob at h
  split at h
  · exact gx_thr_go h
  · cases h
theorem gx_call_go {Y9 : gx_Y} {as rest : List Value} {npc : Nat} {r : Nat × List Value × List Value × gx_S} (h : gx_call Y Y9 as S npc ls rest = some (.inl r)) : False := by
  unfold gx_call at h
  split at h
  · cases h
  · cases h
theorem gx_vcall_go {ix npc tg n : Nat} {b : Value} {as rest : List Value} {r : Nat × List Value × List Value × gx_S} (h : gx_vcall Y ix npc ls st S b tg n as rest = some (.inl r)) : False := by
  unfold gx_vcall at h
  split at h
  · split at h
    · exact gx_call_go h
    · cases h
  · cases h
theorem gx_done_go {v : Option Value} {r : Nat × List Value × List Value × gx_S} (h : gx_done v S = some (.inl r)) : False := by
  unfold gx_done at h
  cases h
theorem gx_ald_go {a : Nat} {i : Int32} {v : Value} {r : Nat × List Value × List Value × gx_S} (h : gx_ald S a i v pc ls st = some (.inl r)) : ¬ (i < 0 ∨ gx_len S a ≤ i.toNatClampNeg) ∧ gx_go (pc + 1) ls (v :: st) S = some (.inl r) := by
  unfold gx_ald at h
  split at h
  · exact (gx_oob_go h).elim
  · exact ⟨by assumption, h⟩
theorem gx_ast_go {a : Nat} {i : Int32} {v : Value} {r : Nat × List Value × List Value × gx_S} (h : gx_ast S a i v pc ls st = some (.inl r)) : ¬ (i < 0 ∨ gx_len S a ≤ i.toNatClampNeg) ∧ gx_go (pc + 1) ls st (gx_put S a i.toNatClampNeg v) = some (.inl r) := by
  unfold gx_ast at h
  split at h
  · exact (gx_oob_go h).elim
  · exact ⟨by assumption, h⟩
set_option maxHeartbeats 8000000 in
theorem gx_ins_go (hF : gx_Fr p l R s m args meth c Y D dT ext A) (hoc : gx_oc Y < 21) (hd : decode (gx_cd Y) pc = .ok (i, len)) (h : gx_ins Y pc len ls st S i = some (.inl (pc', ls', st', S'))) (hc : c0 ≤ S.1.2.2.2.1 ∧ s0 ≤ S.1.2.2.2.2) (hR : S'.1.2.2.2.1 - c0 ≤ R.cells ∧ S'.1.2.2.2.2 - s0 ≤ R.slots) (hK : gx_K p l e R s m args below meth c Q Y D dT ext A c0 s0 pc' ls' st' S') : gx_K p l e R s m args below meth c Q Y D dT ext A c0 s0 pc ls st S := by
  have heok : gx_eok ext := gx_eok_of hF
  have hx := hF.1
  have hb := hF.2.1
  have hown := hF.2.2.2.1
  have hts := hF.2.2.2.2.1
  cases i with
  | aconst_null =>
    unfold gx_ins at h
    dsimp only at h
    replace h := gx_k_some h
    obtain ⟨hlen, h⟩ := h
    subst hlen
    obtain ⟨rfl, rfl, rfl, rfl⟩ := gx_go_some h
    intro ad H locs lsA hW hS hL hls hst
    exact lv_null hx hb hd (hK ad H locs lsA hW hS hL hls (gx_cs_cons gx_c0_null hst))
  | iconst n =>
    unfold gx_ins at h
    dsimp only at h
    replace h := gx_k_some h
    obtain ⟨hlen, h⟩ := h
    subst hlen
    obtain ⟨rfl, rfl, rfl, rfl⟩ := gx_go_some h
    intro ad H locs lsA hW hS hL hls hst
    exact lv_iconst hx hb hd rfl (hK ad H locs lsA hW hS hL hls (gx_cs_cons gx_c0_int hst))
  | lconst n =>
    unfold gx_ins at h
    dsimp only at h
    replace h := gx_k_some h
    obtain ⟨hlen, h⟩ := h
    subst hlen
    obtain ⟨rfl, rfl, rfl, rfl⟩ := gx_go_some h
    intro ad H locs lsA hW hS hL hls hst
    exact lv_lconst hx hb hd rfl (hK ad H locs lsA hW hS hL hls (gx_cs_cons gx_c0_long hst))
  | bipush n =>
    unfold gx_ins at h
    dsimp only at h
    replace h := gx_k_some h
    obtain ⟨hlen, h⟩ := h
    subst hlen
    obtain ⟨rfl, rfl, rfl, rfl⟩ := gx_go_some h
    intro ad H locs lsA hW hS hL hls hst
    exact lv_bipush hx hb hd rfl (hK ad H locs lsA hW hS hL hls (gx_cs_cons gx_c0_int hst))
  | sipush n =>
    unfold gx_ins at h
    dsimp only at h
    replace h := gx_k_some h
    obtain ⟨hlen, h⟩ := h
    subst hlen
    obtain ⟨rfl, rfl, rfl, rfl⟩ := gx_go_some h
    intro ad H locs lsA hW hS hL hls hst
    exact lv_sipush hx hb hd rfl (hK ad H locs lsA hW hS hL hls (gx_cs_cons gx_c0_int hst))
  | ldc ix =>
    unfold gx_ins at h
    dsimp only at h
    replace h := gx_k_some h
    obtain ⟨hlen, h⟩ := h
    subst hlen
    split at h
    · rename_i e9 he
      obtain ⟨rfl, rfl, rfl, rfl⟩ := gx_go_some h
      exact gx_ldc hF hd he hK
    · cases h
  | ldc_w ix =>
    unfold gx_ins at h
    dsimp only at h
    replace h := gx_k_some h
    obtain ⟨hlen, h⟩ := h
    subst hlen
    split at h
    · rename_i k9 v9 he
      obtain ⟨rfl, rfl, rfl, rfl⟩ := gx_go_some h
      obtain ⟨hin, hp⟩ := gx_find_in he
      have hix : k9 = ix := by simpa using hp
      subst hix
      have hok := gx_lT_ok (gx_oc Y) _ hin
      intro ad H locs lsA hW hS hL hls hst
      exact lv_ldcw hx hb hown (hts _ hok) hd (hK ad H locs lsA hW hS hL hls (gx_cs_cons gx_c0_int hst))
    · cases h
  | ldc2_w ix =>
    unfold gx_ins at h
    dsimp only at h
    replace h := gx_k_some h
    obtain ⟨hlen, h⟩ := h
    subst hlen
    split at h
    · rename_i e9 he
      obtain ⟨rfl, rfl, rfl, rfl⟩ := gx_go_some h
      obtain ⟨hin, hp⟩ := gx_find_in he
      have hix : e9.1 = ix := by simpa using hp
      subst hix
      have hok := gx_jT_ok (gx_oc Y) _ hin
      intro ad H locs lsA hW hS hL hls hst
      exact lv_ldc2 hx hb hown (hts _ hok) hd (hK ad H locs lsA hW hS hL hls (gx_cs_cons gx_c0_long hst))
    · cases h
  | iload_n k =>
    unfold gx_ins at h
    dsimp only at h
    replace h := gx_k_some h
    obtain ⟨hlen, h⟩ := h
    subst hlen
    obtain ⟨x, hl, h⟩ := gx_ldI_some h
    obtain ⟨rfl, rfl, rfl, rfl⟩ := gx_go_some h
    intro ad H locs lsA hW hS hL hls hst
    exact lv_iload_n hx hb hd rfl (gx_lv_at hL hl rfl) (hK ad H locs lsA hW hS hL hls (gx_cs_cons gx_c0_int hst))
  | iload k =>
    unfold gx_ins at h
    dsimp only at h
    replace h := gx_k_some h
    obtain ⟨hlen, h⟩ := h
    subst hlen
    obtain ⟨x, hl, h⟩ := gx_ldI_some h
    obtain ⟨rfl, rfl, rfl, rfl⟩ := gx_go_some h
    intro ad H locs lsA hW hS hL hls hst
    exact lv_iload hx hb hd (gx_lv_at hL hl rfl) (hK ad H locs lsA hW hS hL hls (gx_cs_cons gx_c0_int hst))
  | lload_n k =>
    unfold gx_ins at h
    dsimp only at h
    replace h := gx_k_some h
    obtain ⟨hlen, h⟩ := h
    subst hlen
    obtain ⟨x, hl, h⟩ := gx_ldJ_some h
    obtain ⟨rfl, rfl, rfl, rfl⟩ := gx_go_some h
    intro ad H locs lsA hW hS hL hls hst
    exact lv_lload_n hx hb hd rfl (gx_lv_at hL hl rfl) (hK ad H locs lsA hW hS hL hls (gx_cs_cons gx_c0_long hst))
  | lload k =>
    unfold gx_ins at h
    dsimp only at h
    replace h := gx_k_some h
    obtain ⟨hlen, h⟩ := h
    subst hlen
    obtain ⟨x, hl, h⟩ := gx_ldJ_some h
    obtain ⟨rfl, rfl, rfl, rfl⟩ := gx_go_some h
    intro ad H locs lsA hW hS hL hls hst
    exact lv_lload hx hb hd (gx_lv_at hL hl rfl) (hK ad H locs lsA hW hS hL hls (gx_cs_cons gx_c0_long hst))
  | aload_n k =>
    unfold gx_ins at h
    dsimp only at h
    replace h := gx_k_some h
    obtain ⟨hlen, h⟩ := h
    subst hlen
    obtain ⟨x, hl, hr, h⟩ := gx_ldR_some h
    obtain ⟨rfl, rfl, rfl, rfl⟩ := gx_go_some h
    intro ad H locs lsA hW hS hL hls hst
    exact gx_w_aload_n hx hb (gx_isR_cv heok hr) hd (gx_lv_at hL hl (gx_isR_lok hr)) (hK ad H locs lsA hW hS hL hls (gx_cs_cons (gx_cs_get hls hl) hst))
  | istore_n k =>
    unfold gx_ins at h
    dsimp only at h
    replace h := gx_k_some h
    obtain ⟨hlen, h⟩ := h
    subst hlen
    obtain ⟨x, st1, rfl, hk, h⟩ := gx_stI_some h
    obtain ⟨rfl, rfl, rfl, rfl⟩ := gx_go_some h
    intro ad H locs lsA hW hS hL hls hst
    refine lv_istore_n hx hb hd rfl hL hk rfl fun lsB hB => ?_
    exact hK ad H locs lsB hW hS (gx_lv_st1 heok hB) (gx_cs_st1 hls gx_c0_int) (gx_cs_tail hst)
  | istore k =>
    unfold gx_ins at h
    dsimp only at h
    replace h := gx_k_some h
    obtain ⟨hlen, h⟩ := h
    subst hlen
    obtain ⟨x, st1, rfl, hk, h⟩ := gx_stI_some h
    obtain ⟨rfl, rfl, rfl, rfl⟩ := gx_go_some h
    intro ad H locs lsA hW hS hL hls hst
    refine lv_istore hx hb hd hL hk rfl fun lsB hB => ?_
    exact hK ad H locs lsB hW hS (gx_lv_st1 heok hB) (gx_cs_st1 hls gx_c0_int) (gx_cs_tail hst)
  | lstore_n k =>
    unfold gx_ins at h
    dsimp only at h
    replace h := gx_k_some h
    obtain ⟨hlen, h⟩ := h
    subst hlen
    obtain ⟨x, st1, rfl, hk, h⟩ := gx_stJ_some h
    obtain ⟨rfl, rfl, rfl, rfl⟩ := gx_go_some h
    intro ad H locs lsA hW hS hL hls hst
    refine lv_lstore_n hx hb hd rfl hL hk rfl fun lsB hB => ?_
    exact hK ad H locs lsB hW hS (gx_lv_st2 heok hB) (gx_cs_st2 hls gx_c0_long) (gx_cs_tail hst)
  | lstore k =>
    unfold gx_ins at h
    dsimp only at h
    replace h := gx_k_some h
    obtain ⟨hlen, h⟩ := h
    subst hlen
    obtain ⟨x, st1, rfl, hk, h⟩ := gx_stJ_some h
    obtain ⟨rfl, rfl, rfl, rfl⟩ := gx_go_some h
    intro ad H locs lsA hW hS hL hls hst
    refine lv_lstore hx hb hd hL hk rfl fun lsB hB => ?_
    exact hK ad H locs lsB hW hS (gx_lv_st2 heok hB) (gx_cs_st2 hls gx_c0_long) (gx_cs_tail hst)
  | astore_n k =>
    unfold gx_ins at h
    dsimp only at h
    replace h := gx_k_some h
    obtain ⟨hlen, h⟩ := h
    subst hlen
    obtain ⟨x, st1, rfl, hk, hr, h⟩ := gx_stR_some h
    obtain ⟨rfl, rfl, rfl, rfl⟩ := gx_go_some h
    intro ad H locs lsA hW hS hL hls hst
    refine gx_w_astore_n hx hb (gx_isR_cv heok hr) hd hL hk fun lsB hB => ?_
    exact hK ad H locs lsB hW hS (gx_lv_st1 heok hB) (gx_cs_st1 hls (gx_cs_head hst)) (gx_cs_tail hst)
  | astore k =>
    unfold gx_ins at h
    dsimp only at h
    replace h := gx_k_some h
    obtain ⟨hlen, h⟩ := h
    subst hlen
    obtain ⟨x, st1, rfl, hk, hr, h⟩ := gx_stR_some h
    obtain ⟨rfl, rfl, rfl, rfl⟩ := gx_go_some h
    intro ad H locs lsA hW hS hL hls hst
    refine gx_w_astore hx hb (gx_isR_cv heok hr) hd hL hk fun lsB hB => ?_
    exact hK ad H locs lsB hW hS (gx_lv_st1 heok hB) (gx_cs_st1 hls (gx_cs_head hst)) (gx_cs_tail hst)
  | iinc k n =>
    unfold gx_ins at h
    dsimp only at h
    replace h := gx_k_some h
    obtain ⟨hlen, h⟩ := h
    subst hlen
    split at h
    · rename_i x hl
      split at h
      · rename_i hk
        obtain ⟨rfl, rfl, rfl, rfl⟩ := gx_go_some h
        intro ad H locs lsA hW hS hL hls hst
        obtain ⟨z, hz⟩ := List.getElem?_of_mem (gx_lv_in (ad := ad) (ext := ext) hl rfl)
        refine lv_iinc hx hb hd hL hz rfl hk rfl fun lsB hB => ?_
        exact hK ad H locs lsB hW hS (gx_lv_st1 heok hB) (gx_cs_st1 hls gx_c0_int) hst
      · cases h
    · cases h
  | iadd =>
    unfold gx_ins at h
    dsimp only at h
    replace h := gx_k_some h
    obtain ⟨hlen, h⟩ := h
    subst hlen
    obtain ⟨y, x, st1, v, rfl, hv, h⟩ := gx_ii_some h
    cases hv
    obtain ⟨rfl, rfl, rfl, rfl⟩ := gx_go_some h
    intro ad H locs lsA hW hS hL hls hst
    exact lv_iadd hx hb hd (hK ad H locs lsA hW hS hL hls (gx_cs_cons gx_c0_int (gx_cs_tail (gx_cs_tail hst))))
  | isub =>
    unfold gx_ins at h
    dsimp only at h
    replace h := gx_k_some h
    obtain ⟨hlen, h⟩ := h
    subst hlen
    obtain ⟨y, x, st1, v, rfl, hv, h⟩ := gx_ii_some h
    cases hv
    obtain ⟨rfl, rfl, rfl, rfl⟩ := gx_go_some h
    intro ad H locs lsA hW hS hL hls hst
    exact lv_isub hx hb hd (hK ad H locs lsA hW hS hL hls (gx_cs_cons gx_c0_int (gx_cs_tail (gx_cs_tail hst))))
  | imul =>
    unfold gx_ins at h
    dsimp only at h
    replace h := gx_k_some h
    obtain ⟨hlen, h⟩ := h
    subst hlen
    obtain ⟨y, x, st1, v, rfl, hv, h⟩ := gx_ii_some h
    cases hv
    obtain ⟨rfl, rfl, rfl, rfl⟩ := gx_go_some h
    intro ad H locs lsA hW hS hL hls hst
    exact lv_imul hx hb hd (hK ad H locs lsA hW hS hL hls (gx_cs_cons gx_c0_int (gx_cs_tail (gx_cs_tail hst))))
  | iand =>
    unfold gx_ins at h
    dsimp only at h
    replace h := gx_k_some h
    obtain ⟨hlen, h⟩ := h
    subst hlen
    obtain ⟨y, x, st1, v, rfl, hv, h⟩ := gx_ii_some h
    cases hv
    obtain ⟨rfl, rfl, rfl, rfl⟩ := gx_go_some h
    intro ad H locs lsA hW hS hL hls hst
    exact lv_iand hx hb hd (hK ad H locs lsA hW hS hL hls (gx_cs_cons gx_c0_int (gx_cs_tail (gx_cs_tail hst))))
  | ior =>
    unfold gx_ins at h
    dsimp only at h
    replace h := gx_k_some h
    obtain ⟨hlen, h⟩ := h
    subst hlen
    obtain ⟨y, x, st1, v, rfl, hv, h⟩ := gx_ii_some h
    cases hv
    obtain ⟨rfl, rfl, rfl, rfl⟩ := gx_go_some h
    intro ad H locs lsA hW hS hL hls hst
    exact lv_ior hx hb hd (hK ad H locs lsA hW hS hL hls (gx_cs_cons gx_c0_int (gx_cs_tail (gx_cs_tail hst))))
  | ixor =>
    unfold gx_ins at h
    dsimp only at h
    replace h := gx_k_some h
    obtain ⟨hlen, h⟩ := h
    subst hlen
    obtain ⟨y, x, st1, v, rfl, hv, h⟩ := gx_ii_some h
    cases hv
    obtain ⟨rfl, rfl, rfl, rfl⟩ := gx_go_some h
    intro ad H locs lsA hW hS hL hls hst
    exact lv_ixor hx hb hd (hK ad H locs lsA hW hS hL hls (gx_cs_cons gx_c0_int (gx_cs_tail (gx_cs_tail hst))))
  | ishl =>
    unfold gx_ins at h
    dsimp only at h
    replace h := gx_k_some h
    obtain ⟨hlen, h⟩ := h
    subst hlen
    obtain ⟨y, x, st1, v, rfl, hv, h⟩ := gx_ii_some h
    cases hv
    obtain ⟨rfl, rfl, rfl, rfl⟩ := gx_go_some h
    intro ad H locs lsA hW hS hL hls hst
    exact lv_ishl hx hb hd (hK ad H locs lsA hW hS hL hls (gx_cs_cons gx_c0_int (gx_cs_tail (gx_cs_tail hst))))
  | ishr =>
    unfold gx_ins at h
    dsimp only at h
    replace h := gx_k_some h
    obtain ⟨hlen, h⟩ := h
    subst hlen
    obtain ⟨y, x, st1, v, rfl, hv, h⟩ := gx_ii_some h
    cases hv
    obtain ⟨rfl, rfl, rfl, rfl⟩ := gx_go_some h
    intro ad H locs lsA hW hS hL hls hst
    exact lv_ishr hx hb hd (hK ad H locs lsA hW hS hL hls (gx_cs_cons gx_c0_int (gx_cs_tail (gx_cs_tail hst))))
  | iushr =>
    unfold gx_ins at h
    dsimp only at h
    replace h := gx_k_some h
    obtain ⟨hlen, h⟩ := h
    subst hlen
    obtain ⟨y, x, st1, v, rfl, hv, h⟩ := gx_ii_some h
    cases hv
    obtain ⟨rfl, rfl, rfl, rfl⟩ := gx_go_some h
    intro ad H locs lsA hW hS hL hls hst
    exact lv_iushr hx hb hd rfl (hK ad H locs lsA hW hS hL hls (gx_cs_cons gx_c0_int (gx_cs_tail (gx_cs_tail hst))))
  | idiv =>
    unfold gx_ins at h
    dsimp only at h
    replace h := gx_k_some h
    obtain ⟨hlen, h⟩ := h
    subst hlen
    obtain ⟨y, x, st1, v, rfl, hv, h⟩ := gx_ii_some h
    split at hv
    · cases hv
    · rename_i hy
      cases hv
      obtain ⟨rfl, rfl, rfl, rfl⟩ := gx_go_some h
      intro ad H locs lsA hW hS hL hls hst
      exact lv_idiv hx hb hd hy (hK ad H locs lsA hW hS hL hls (gx_cs_cons gx_c0_int (gx_cs_tail (gx_cs_tail hst))))
  | irem =>
    unfold gx_ins at h
    dsimp only at h
    replace h := gx_k_some h
    obtain ⟨hlen, h⟩ := h
    subst hlen
    obtain ⟨y, x, st1, v, rfl, hv, h⟩ := gx_ii_some h
    split at hv
    · cases hv
    · rename_i hy
      cases hv
      obtain ⟨rfl, rfl, rfl, rfl⟩ := gx_go_some h
      intro ad H locs lsA hW hS hL hls hst
      exact lv_irem hx hb hd hy (hK ad H locs lsA hW hS hL hls (gx_cs_cons gx_c0_int (gx_cs_tail (gx_cs_tail hst))))
  | ldiv =>
    unfold gx_ins at h
    dsimp only at h
    replace h := gx_k_some h
    obtain ⟨hlen, h⟩ := h
    subst hlen
    obtain ⟨y, x, st1, v, rfl, hv, h⟩ := gx_jj_some h
    split at hv
    · cases hv
    · rename_i hy
      cases hv
      obtain ⟨rfl, rfl, rfl, rfl⟩ := gx_go_some h
      intro ad H locs lsA hW hS hL hls hst
      exact lv_ldiv hx hb hd hy (hK ad H locs lsA hW hS hL hls (gx_cs_cons gx_c0_long (gx_cs_tail (gx_cs_tail hst))))
  | lrem =>
    unfold gx_ins at h
    dsimp only at h
    replace h := gx_k_some h
    obtain ⟨hlen, h⟩ := h
    subst hlen
    obtain ⟨y, x, st1, v, rfl, hv, h⟩ := gx_jj_some h
    split at hv
    · cases hv
    · rename_i hy
      cases hv
      obtain ⟨rfl, rfl, rfl, rfl⟩ := gx_go_some h
      intro ad H locs lsA hW hS hL hls hst
      exact lv_lrem hx hb hd hy (hK ad H locs lsA hW hS hL hls (gx_cs_cons gx_c0_long (gx_cs_tail (gx_cs_tail hst))))
  | ladd =>
    unfold gx_ins at h
    dsimp only at h
    replace h := gx_k_some h
    obtain ⟨hlen, h⟩ := h
    subst hlen
    obtain ⟨y, x, st1, v, rfl, hv, h⟩ := gx_jj_some h
    cases hv
    obtain ⟨rfl, rfl, rfl, rfl⟩ := gx_go_some h
    intro ad H locs lsA hW hS hL hls hst
    exact lv_ladd hx hb hd (hK ad H locs lsA hW hS hL hls (gx_cs_cons gx_c0_long (gx_cs_tail (gx_cs_tail hst))))
  | lsub =>
    unfold gx_ins at h
    dsimp only at h
    replace h := gx_k_some h
    obtain ⟨hlen, h⟩ := h
    subst hlen
    obtain ⟨y, x, st1, v, rfl, hv, h⟩ := gx_jj_some h
    cases hv
    obtain ⟨rfl, rfl, rfl, rfl⟩ := gx_go_some h
    intro ad H locs lsA hW hS hL hls hst
    exact lv_lsub hx hb hd (hK ad H locs lsA hW hS hL hls (gx_cs_cons gx_c0_long (gx_cs_tail (gx_cs_tail hst))))
  | lmul =>
    unfold gx_ins at h
    dsimp only at h
    replace h := gx_k_some h
    obtain ⟨hlen, h⟩ := h
    subst hlen
    obtain ⟨y, x, st1, v, rfl, hv, h⟩ := gx_jj_some h
    cases hv
    obtain ⟨rfl, rfl, rfl, rfl⟩ := gx_go_some h
    intro ad H locs lsA hW hS hL hls hst
    exact lv_lmul hx hb hd (hK ad H locs lsA hW hS hL hls (gx_cs_cons gx_c0_long (gx_cs_tail (gx_cs_tail hst))))
  | land =>
    unfold gx_ins at h
    dsimp only at h
    replace h := gx_k_some h
    obtain ⟨hlen, h⟩ := h
    subst hlen
    obtain ⟨y, x, st1, v, rfl, hv, h⟩ := gx_jj_some h
    cases hv
    obtain ⟨rfl, rfl, rfl, rfl⟩ := gx_go_some h
    intro ad H locs lsA hW hS hL hls hst
    exact lv_land hx hb hd (hK ad H locs lsA hW hS hL hls (gx_cs_cons gx_c0_long (gx_cs_tail (gx_cs_tail hst))))
  | lor =>
    unfold gx_ins at h
    dsimp only at h
    replace h := gx_k_some h
    obtain ⟨hlen, h⟩ := h
    subst hlen
    obtain ⟨y, x, st1, v, rfl, hv, h⟩ := gx_jj_some h
    cases hv
    obtain ⟨rfl, rfl, rfl, rfl⟩ := gx_go_some h
    intro ad H locs lsA hW hS hL hls hst
    exact lv_lor hx hb hd (hK ad H locs lsA hW hS hL hls (gx_cs_cons gx_c0_long (gx_cs_tail (gx_cs_tail hst))))
  | lcmp =>
    unfold gx_ins at h
    dsimp only at h
    replace h := gx_k_some h
    obtain ⟨hlen, h⟩ := h
    subst hlen
    obtain ⟨y, x, st1, v, rfl, hv, h⟩ := gx_jj_some h
    cases hv
    obtain ⟨rfl, rfl, rfl, rfl⟩ := gx_go_some h
    intro ad H locs lsA hW hS hL hls hst
    exact W.lcmp hx hb hd (hK ad H locs lsA hW hS hL hls (gx_cs_cons gx_c0_int (gx_cs_tail (gx_cs_tail hst))))
  | ineg =>
    unfold gx_ins at h
    dsimp only at h
    replace h := gx_k_some h
    obtain ⟨hlen, h⟩ := h
    subst hlen
    obtain ⟨x, st1, rfl, h⟩ := gx_i1_some h
    obtain ⟨rfl, rfl, rfl, rfl⟩ := gx_go_some h
    intro ad H locs lsA hW hS hL hls hst
    exact lv_ineg hx hb hd (hK ad H locs lsA hW hS hL hls (gx_cs_cons gx_c0_int (gx_cs_tail hst)))
  | i2l =>
    unfold gx_ins at h
    dsimp only at h
    replace h := gx_k_some h
    obtain ⟨hlen, h⟩ := h
    subst hlen
    obtain ⟨x, st1, rfl, h⟩ := gx_i1_some h
    obtain ⟨rfl, rfl, rfl, rfl⟩ := gx_go_some h
    intro ad H locs lsA hW hS hL hls hst
    exact lv_i2l hx hb hd rfl (hK ad H locs lsA hW hS hL hls (gx_cs_cons gx_c0_long (gx_cs_tail hst)))
  | i2b =>
    unfold gx_ins at h
    dsimp only at h
    replace h := gx_k_some h
    obtain ⟨hlen, h⟩ := h
    subst hlen
    obtain ⟨x, st1, rfl, h⟩ := gx_i1_some h
    obtain ⟨rfl, rfl, rfl, rfl⟩ := gx_go_some h
    intro ad H locs lsA hW hS hL hls hst
    exact lv_i2b hx hb hd rfl (hK ad H locs lsA hW hS hL hls (gx_cs_cons gx_c0_int (gx_cs_tail hst)))
  | i2s =>
    unfold gx_ins at h
    dsimp only at h
    replace h := gx_k_some h
    obtain ⟨hlen, h⟩ := h
    subst hlen
    obtain ⟨x, st1, rfl, h⟩ := gx_i1_some h
    obtain ⟨rfl, rfl, rfl, rfl⟩ := gx_go_some h
    intro ad H locs lsA hW hS hL hls hst
    exact lv_i2s hx hb hd rfl (hK ad H locs lsA hW hS hL hls (gx_cs_cons gx_c0_int (gx_cs_tail hst)))
  | i2c =>
    unfold gx_ins at h
    dsimp only at h
    replace h := gx_k_some h
    obtain ⟨hlen, h⟩ := h
    subst hlen
    obtain ⟨x, st1, rfl, h⟩ := gx_i1_some h
    obtain ⟨rfl, rfl, rfl, rfl⟩ := gx_go_some h
    intro ad H locs lsA hW hS hL hls hst
    exact lv_i2c hx hb hd rfl (hK ad H locs lsA hW hS hL hls (gx_cs_cons gx_c0_int (gx_cs_tail hst)))
  | l2i =>
    unfold gx_ins at h
    dsimp only at h
    replace h := gx_k_some h
    obtain ⟨hlen, h⟩ := h
    subst hlen
    obtain ⟨x, st1, rfl, h⟩ := gx_j1_some h
    obtain ⟨rfl, rfl, rfl, rfl⟩ := gx_go_some h
    intro ad H locs lsA hW hS hL hls hst
    exact lv_l2i hx hb hd rfl (hK ad H locs lsA hW hS hL hls (gx_cs_cons gx_c0_int (gx_cs_tail hst)))
  | lshl =>
    unfold gx_ins at h
    dsimp only at h
    replace h := gx_k_some h
    obtain ⟨hlen, h⟩ := h
    subst hlen
    split at h
    · obtain ⟨rfl, rfl, rfl, rfl⟩ := gx_go_some h
      intro ad H locs lsA hW hS hL hls hst
      exact lv_lshl hx hb hd rfl (hK ad H locs lsA hW hS hL hls (gx_cs_cons gx_c0_long (gx_cs_tail (gx_cs_tail hst))))
    · cases h
  | dup =>
    unfold gx_ins at h
    dsimp only at h
    replace h := gx_k_some h
    obtain ⟨hlen, h⟩ := h
    subst hlen
    split at h
    · split at h
      · rename_i hv
        obtain ⟨rfl, rfl, rfl, rfl⟩ := gx_go_some h
        intro ad H locs lsA hW hS hL hls hst
        exact lv_dup hx hb hd (gx_c1_cat heok hv) (hK ad H locs lsA hW hS hL hls (gx_cs_cons (gx_cs_head hst) hst))
      · cases h
    · cases h
  | dup2 =>
    unfold gx_ins at h
    dsimp only at h
    replace h := gx_k_some h
    obtain ⟨hlen, h⟩ := h
    subst hlen
    split at h
    · split at h
      · rename_i hv
        obtain ⟨rfl, rfl, rfl, rfl⟩ := gx_go_some h
        intro ad H locs lsA hW hS hL hls hst
        exact lv_dup2_11 hx hb hd (gx_c1_cat heok hv.1) (gx_c1_cat heok hv.2) (hK ad H locs lsA hW hS hL hls (gx_cs_cons (gx_cs_head hst) (gx_cs_cons (gx_cs_head (gx_cs_tail hst)) hst)))
      · cases h
    · cases h
  | dup_x1 =>
    unfold gx_ins at h
    dsimp only at h
    replace h := gx_k_some h
    obtain ⟨hlen, h⟩ := h
    subst hlen
    split at h
    · split at h
      · rename_i hv
        obtain ⟨rfl, rfl, rfl, rfl⟩ := gx_go_some h
        intro ad H locs lsA hW hS hL hls hst
        exact lv_dup_x1 hx hb hd (gx_c1_cat heok hv.1) (gx_c1_cat heok hv.2) (hK ad H locs lsA hW hS hL hls (gx_cs_cons (gx_cs_head hst) (gx_cs_cons (gx_cs_head (gx_cs_tail hst)) (gx_cs_cons (gx_cs_head hst) (gx_cs_tail (gx_cs_tail hst))))))
      · cases h
    · cases h
  | pop =>
    unfold gx_ins at h
    dsimp only at h
    replace h := gx_k_some h
    obtain ⟨hlen, h⟩ := h
    subst hlen
    split at h
    · split at h
      · rename_i hv
        obtain ⟨rfl, rfl, rfl, rfl⟩ := gx_go_some h
        intro ad H locs lsA hW hS hL hls hst
        exact lv_pop hx hb hd (gx_c1_cat heok hv) (hK ad H locs lsA hW hS hL hls (gx_cs_tail hst))
      · cases h
    · cases h
  | goto off =>
    unfold gx_ins at h
    dsimp only at h
    replace h := gx_k_some h
    obtain ⟨hlen, h⟩ := h
    subst hlen
    obtain ⟨t, ht, h⟩ := gx_br_some h
    obtain ⟨rfl, rfl, rfl, rfl⟩ := gx_go_some h
    intro ad H locs lsA hW hS hL hls hst
    exact lv_goto hx hb hd ht (hK ad H locs lsA hW hS hL hls hst)
  | ifCond cnd off =>
    unfold gx_ins at h
    dsimp only at h
    replace h := gx_k_some h
    obtain ⟨hlen, h⟩ := h
    subst hlen
    split at h
    · obtain ⟨t, ht, h⟩ := gx_br_some h
      cases cnd with
      | eq =>
        unfold gx_if1 at h
        dsimp only at h
        split at h
        · rename_i hz
          obtain ⟨rfl, rfl, rfl, rfl⟩ := gx_go_some h
          intro ad H locs lsA hW hS hL hls hst
          exact lv_if_eq hx hb hd ht (fun _ => (hK ad H locs lsA hW hS hL hls (gx_cs_tail hst))) (fun z => absurd hz z)
        · rename_i hz
          obtain ⟨rfl, rfl, rfl, rfl⟩ := gx_go_some h
          intro ad H locs lsA hW hS hL hls hst
          exact lv_if_eq hx hb hd ht (fun z => absurd z hz) (fun _ => (hK ad H locs lsA hW hS hL hls (gx_cs_tail hst)))
      | ne =>
        unfold gx_if1 at h
        dsimp only at h
        split at h
        · rename_i hz
          obtain ⟨rfl, rfl, rfl, rfl⟩ := gx_go_some h
          intro ad H locs lsA hW hS hL hls hst
          exact lv_if_ne hx hb hd ht (fun z => absurd hz z) (fun _ => (hK ad H locs lsA hW hS hL hls (gx_cs_tail hst)))
        · rename_i hz
          obtain ⟨rfl, rfl, rfl, rfl⟩ := gx_go_some h
          intro ad H locs lsA hW hS hL hls hst
          exact lv_if_ne hx hb hd ht (fun _ => (hK ad H locs lsA hW hS hL hls (gx_cs_tail hst))) (fun z => absurd z hz)
      | lt =>
        unfold gx_if1 at h
        dsimp only at h
        split at h
        · rename_i hz
          obtain ⟨rfl, rfl, rfl, rfl⟩ := gx_go_some h
          intro ad H locs lsA hW hS hL hls hst
          exact lv_if_lt hx hb hd ht (fun _ => (hK ad H locs lsA hW hS hL hls (gx_cs_tail hst))) (fun z => absurd hz z)
        · rename_i hz
          obtain ⟨rfl, rfl, rfl, rfl⟩ := gx_go_some h
          intro ad H locs lsA hW hS hL hls hst
          exact lv_if_lt hx hb hd ht (fun z => absurd z hz) (fun _ => (hK ad H locs lsA hW hS hL hls (gx_cs_tail hst)))
      | ge =>
        unfold gx_if1 at h
        dsimp only at h
        split at h
        · rename_i hz
          obtain ⟨rfl, rfl, rfl, rfl⟩ := gx_go_some h
          intro ad H locs lsA hW hS hL hls hst
          exact lv_if_ge hx hb hd ht (fun _ => (hK ad H locs lsA hW hS hL hls (gx_cs_tail hst))) (fun z => absurd hz z)
        · rename_i hz
          obtain ⟨rfl, rfl, rfl, rfl⟩ := gx_go_some h
          intro ad H locs lsA hW hS hL hls hst
          exact lv_if_ge hx hb hd ht (fun z => absurd z hz) (fun _ => (hK ad H locs lsA hW hS hL hls (gx_cs_tail hst)))
      | gt =>
        unfold gx_if1 at h
        dsimp only at h
        split at h
        · rename_i hz
          obtain ⟨rfl, rfl, rfl, rfl⟩ := gx_go_some h
          intro ad H locs lsA hW hS hL hls hst
          exact lv_if_gt hx hb hd ht (fun _ => (hK ad H locs lsA hW hS hL hls (gx_cs_tail hst))) (fun z => absurd hz z)
        · rename_i hz
          obtain ⟨rfl, rfl, rfl, rfl⟩ := gx_go_some h
          intro ad H locs lsA hW hS hL hls hst
          exact lv_if_gt hx hb hd ht (fun z => absurd z hz) (fun _ => (hK ad H locs lsA hW hS hL hls (gx_cs_tail hst)))
      | le =>
        unfold gx_if1 at h
        dsimp only at h
        split at h
        · rename_i hz
          obtain ⟨rfl, rfl, rfl, rfl⟩ := gx_go_some h
          intro ad H locs lsA hW hS hL hls hst
          exact lv_if_le hx hb hd ht (fun _ => (hK ad H locs lsA hW hS hL hls (gx_cs_tail hst))) (fun z => absurd hz z)
        · rename_i hz
          obtain ⟨rfl, rfl, rfl, rfl⟩ := gx_go_some h
          intro ad H locs lsA hW hS hL hls hst
          exact lv_if_le hx hb hd ht (fun z => absurd z hz) (fun _ => (hK ad H locs lsA hW hS hL hls (gx_cs_tail hst)))
    · cases h
  | if_icmp cnd off =>
    unfold gx_ins at h
    dsimp only at h
    replace h := gx_k_some h
    obtain ⟨hlen, h⟩ := h
    subst hlen
    split at h
    · obtain ⟨t, ht, h⟩ := gx_br_some h
      cases cnd with
      | eq =>
        unfold gx_if2 at h
        dsimp only at h
        split at h
        · rename_i hz
          obtain ⟨rfl, rfl, rfl, rfl⟩ := gx_go_some h
          intro ad H locs lsA hW hS hL hls hst
          exact lv_icmp_eq hx hb hd ht (fun _ => (hK ad H locs lsA hW hS hL hls (gx_cs_tail (gx_cs_tail hst)))) (fun z => absurd hz z)
        · rename_i hz
          obtain ⟨rfl, rfl, rfl, rfl⟩ := gx_go_some h
          intro ad H locs lsA hW hS hL hls hst
          exact lv_icmp_eq hx hb hd ht (fun z => absurd z hz) (fun _ => (hK ad H locs lsA hW hS hL hls (gx_cs_tail (gx_cs_tail hst))))
      | ne =>
        unfold gx_if2 at h
        dsimp only at h
        split at h
        · rename_i hz
          obtain ⟨rfl, rfl, rfl, rfl⟩ := gx_go_some h
          intro ad H locs lsA hW hS hL hls hst
          exact lv_icmp_ne hx hb hd ht (fun z => absurd hz z) (fun _ => (hK ad H locs lsA hW hS hL hls (gx_cs_tail (gx_cs_tail hst))))
        · rename_i hz
          obtain ⟨rfl, rfl, rfl, rfl⟩ := gx_go_some h
          intro ad H locs lsA hW hS hL hls hst
          exact lv_icmp_ne hx hb hd ht (fun _ => (hK ad H locs lsA hW hS hL hls (gx_cs_tail (gx_cs_tail hst)))) (fun z => absurd z hz)
      | lt =>
        unfold gx_if2 at h
        dsimp only at h
        split at h
        · rename_i hz
          obtain ⟨rfl, rfl, rfl, rfl⟩ := gx_go_some h
          intro ad H locs lsA hW hS hL hls hst
          exact lv_icmp_lt hx hb hd ht (fun _ => (hK ad H locs lsA hW hS hL hls (gx_cs_tail (gx_cs_tail hst)))) (fun z => absurd hz z)
        · rename_i hz
          obtain ⟨rfl, rfl, rfl, rfl⟩ := gx_go_some h
          intro ad H locs lsA hW hS hL hls hst
          exact lv_icmp_lt hx hb hd ht (fun z => absurd z hz) (fun _ => (hK ad H locs lsA hW hS hL hls (gx_cs_tail (gx_cs_tail hst))))
      | ge =>
        unfold gx_if2 at h
        dsimp only at h
        split at h
        · rename_i hz
          obtain ⟨rfl, rfl, rfl, rfl⟩ := gx_go_some h
          intro ad H locs lsA hW hS hL hls hst
          exact lv_icmp_ge hx hb hd ht (fun _ => (hK ad H locs lsA hW hS hL hls (gx_cs_tail (gx_cs_tail hst)))) (fun z => absurd hz z)
        · rename_i hz
          obtain ⟨rfl, rfl, rfl, rfl⟩ := gx_go_some h
          intro ad H locs lsA hW hS hL hls hst
          exact lv_icmp_ge hx hb hd ht (fun z => absurd z hz) (fun _ => (hK ad H locs lsA hW hS hL hls (gx_cs_tail (gx_cs_tail hst))))
      | gt =>
        unfold gx_if2 at h
        dsimp only at h
        split at h
        · rename_i hz
          obtain ⟨rfl, rfl, rfl, rfl⟩ := gx_go_some h
          intro ad H locs lsA hW hS hL hls hst
          exact lv_icmp_gt hx hb hd ht (fun _ => (hK ad H locs lsA hW hS hL hls (gx_cs_tail (gx_cs_tail hst)))) (fun z => absurd hz z)
        · rename_i hz
          obtain ⟨rfl, rfl, rfl, rfl⟩ := gx_go_some h
          intro ad H locs lsA hW hS hL hls hst
          exact lv_icmp_gt hx hb hd ht (fun z => absurd z hz) (fun _ => (hK ad H locs lsA hW hS hL hls (gx_cs_tail (gx_cs_tail hst))))
      | le =>
        unfold gx_if2 at h
        dsimp only at h
        split at h
        · rename_i hz
          obtain ⟨rfl, rfl, rfl, rfl⟩ := gx_go_some h
          intro ad H locs lsA hW hS hL hls hst
          exact lv_icmp_le hx hb hd ht (fun _ => (hK ad H locs lsA hW hS hL hls (gx_cs_tail (gx_cs_tail hst)))) (fun z => absurd hz z)
        · rename_i hz
          obtain ⟨rfl, rfl, rfl, rfl⟩ := gx_go_some h
          intro ad H locs lsA hW hS hL hls hst
          exact lv_icmp_le hx hb hd ht (fun z => absurd z hz) (fun _ => (hK ad H locs lsA hW hS hL hls (gx_cs_tail (gx_cs_tail hst))))
    · cases h
  | if_acmp cnd off =>
    unfold gx_ins at h
    dsimp only at h
    replace h := gx_k_some h
    obtain ⟨hlen, h⟩ := h
    subst hlen
    split at h
    · split at h
      · rename_i hv
        obtain ⟨t, ht, h⟩ := gx_br_some h
        cases cnd with
        | eq =>
          unfold gx_ifa at h
          dsimp only at h
          split at h
          · rename_i hz
            obtain ⟨rfl, rfl, rfl, rfl⟩ := gx_go_some h
            refine gx_acmp hF hd ht hv ?_
            rw [show gx_atg .eq _ _ t (pc + 3) = _ from if_pos hz]
            exact hK
          · rename_i hz
            obtain ⟨rfl, rfl, rfl, rfl⟩ := gx_go_some h
            refine gx_acmp hF hd ht hv ?_
            rw [show gx_atg .eq _ _ t (pc + 3) = _ from if_neg hz]
            exact hK
        | ne =>
          unfold gx_ifa at h
          dsimp only at h
          split at h
          · rename_i hz
            obtain ⟨rfl, rfl, rfl, rfl⟩ := gx_go_some h
            refine gx_acmp hF hd ht hv ?_
            rw [show gx_atg .ne _ _ t (pc + 3) = _ from if_pos hz]
            exact hK
          · rename_i hz
            obtain ⟨rfl, rfl, rfl, rfl⟩ := gx_go_some h
            refine gx_acmp hF hd ht hv ?_
            rw [show gx_atg .ne _ _ t (pc + 3) = _ from if_neg hz]
            exact hK
      · cases h
    · cases h
  | ifnonnull off =>
    unfold gx_ins at h
    dsimp only at h
    replace h := gx_k_some h
    obtain ⟨hlen, h⟩ := h
    subst hlen
    split at h
    · obtain ⟨rfl, rfl, rfl, rfl⟩ := gx_go_some h
      intro ad H locs lsA hW hS hL hls hst
      exact lv_ifnonnullN hx hb hd (hK ad H locs lsA hW hS hL hls (gx_cs_tail hst))
    · obtain ⟨t, ht, h⟩ := gx_br_some h
      obtain ⟨rfl, rfl, rfl, rfl⟩ := gx_go_some h
      intro ad H locs lsA hW hS hL hls hst
      exact lv_ifnonnull hx hb hd ht (hK ad H locs lsA hW hS hL hls (gx_cs_tail hst))
    · cases h
  | tableswitch d lo hi offs =>
    unfold gx_ins at h
    dsimp only at h
    split at h
    · split at h
      · rename_i hz
        obtain ⟨t, ht, h⟩ := gx_br_some h
        obtain ⟨rfl, rfl, rfl, rfl⟩ := gx_go_some h
        intro ad H locs lsA hW hS hL hls hst
        exact lv_tableOut hx hb hd hz ht (hK ad H locs lsA hW hS hL hls (gx_cs_tail hst))
      · rename_i hz
        split at h
        · rename_i off ho
          obtain ⟨t, ht, h⟩ := gx_br_some h
          obtain ⟨rfl, rfl, rfl, rfl⟩ := gx_go_some h
          intro ad H locs lsA hW hS hL hls hst
          exact lv_tableIn hx hb hd (fun z => hz (Or.inl z)) (fun z => hz (Or.inr z)) ho ht (hK ad H locs lsA hW hS hL hls (gx_cs_tail hst))
        · cases h
    · cases h
  | getstatic ix =>
    unfold gx_ins at h
    dsimp only at h
    replace h := gx_k_some h
    obtain ⟨hlen, h⟩ := h
    subst hlen
    split at h
    · rename_i e9 he
      obtain ⟨rfl, rfl, rfl, rfl⟩ := gx_go_some h
      exact gx_gets hF hd he hK
    · cases h
  | getfield ix =>
    unfold gx_ins at h
    dsimp only at h
    replace h := gx_k_some h
    obtain ⟨hlen, h⟩ := h
    subst hlen
    split at h
    · split at h
      · rename_i e9 he
        obtain ⟨rfl, rfl, rfl, rfl⟩ := gx_go_some h
        exact gx_getf hF hoc hd he hK
      · cases h
    · split at h
      · rename_i e9 he
        split at h
        · rename_i v9 hv
          obtain ⟨rfl, rfl, rfl, rfl⟩ := gx_go_some h
          exact gx_getfX hF hd he hv hK
        · cases h
      · cases h
    · cases h
  | putfield ix =>
    unfold gx_ins at h
    dsimp only at h
    replace h := gx_k_some h
    obtain ⟨hlen, h⟩ := h
    subst hlen
    split at h
    · split at h
      · rename_i e9 he
        split at h
        · rename_i hv
          obtain ⟨rfl, rfl, rfl, rfl⟩ := gx_go_some h
          exact gx_putf hF hoc hd he hv.1 hv.2 hK
        · cases h
      · cases h
    · cases h
  | iaload =>
    unfold gx_ins at h
    dsimp only at h
    replace h := gx_k_some h
    obtain ⟨hlen, h⟩ := h
    subst hlen
    split at h
    · split at h
      · rename_i ht
        obtain ⟨hin, h⟩ := gx_ald_go h
        obtain ⟨rfl, rfl, rfl, rfl⟩ := gx_go_some h
        exact gx_iald hF hd ht hin hK
      · cases h
    · exact (gx_thr_go h).elim
    · split at h
      · rename_i hj
        obtain ⟨rfl, rfl, rfl, rfl⟩ := gx_go_some h
        exact gx_sald9 hF hd hj.1 hj.2 hK
      · cases h
    · cases h
  | saload =>
    unfold gx_ins at h
    dsimp only at h
    replace h := gx_k_some h
    obtain ⟨hlen, h⟩ := h
    subst hlen
    split at h
    · split at h
      · rename_i ht
        obtain ⟨hin, h⟩ := gx_ald_go h
        obtain ⟨rfl, rfl, rfl, rfl⟩ := gx_go_some h
        exact gx_sald hF hd ht hin hK
      · cases h
    · cases h
  | laload =>
    unfold gx_ins at h
    dsimp only at h
    replace h := gx_k_some h
    obtain ⟨hlen, h⟩ := h
    subst hlen
    split at h
    · split at h
      · rename_i ht
        obtain ⟨hin, h⟩ := gx_ald_go h
        obtain ⟨rfl, rfl, rfl, rfl⟩ := gx_go_some h
        exact gx_lald hF hd ht hin hK
      · cases h
    · exact (gx_thr_go h).elim
    · cases h
  | baload =>
    unfold gx_ins at h
    dsimp only at h
    replace h := gx_k_some h
    obtain ⟨hlen, h⟩ := h
    subst hlen
    split at h
    · split at h
      · rename_i ht
        obtain ⟨hin, h⟩ := gx_ald_go h
        obtain ⟨rfl, rfl, rfl, rfl⟩ := gx_go_some h
        rcases ht with ht | ht
        · exact gx_bald hF hd ht hin hK
        · exact gx_zald hF hd ht hin hK
      · cases h
    · split at h
      · rename_i hj
        obtain ⟨rfl, rfl, rfl, rfl⟩ := gx_go_some h
        exact gx_xald hF hd hj.1 hj.2 hK
      · cases h
    · cases h
  | aaload =>
    unfold gx_ins at h
    dsimp only at h
    replace h := gx_k_some h
    obtain ⟨hlen, h⟩ := h
    subst hlen
    split at h
    · split at h
      · rename_i ht
        split at h
        · rename_i b hv
          obtain ⟨rfl, rfl, rfl, rfl⟩ := gx_go_some h
          exact gx_aald hF hd ht.1.1 ht.1.2 ht.2 hv (Or.inr ⟨b, rfl⟩) hK
        · rename_i hv
          obtain ⟨rfl, rfl, rfl, rfl⟩ := gx_go_some h
          exact gx_aald hF hd ht.1.1 ht.1.2 ht.2 hv (Or.inl rfl) hK
        · cases h
      · cases h
    · cases h
  | iastore =>
    unfold gx_ins at h
    dsimp only at h
    replace h := gx_k_some h
    obtain ⟨hlen, h⟩ := h
    subst hlen
    split at h
    · split at h
      · rename_i ht
        obtain ⟨hin, h⟩ := gx_ast_go h
        obtain ⟨rfl, rfl, rfl, rfl⟩ := gx_go_some h
        exact gx_iast hF hd ht hin hK
      · cases h
    · cases h
  | sastore =>
    unfold gx_ins at h
    dsimp only at h
    replace h := gx_k_some h
    obtain ⟨hlen, h⟩ := h
    subst hlen
    split at h
    · split at h
      · rename_i ht
        obtain ⟨hin, h⟩ := gx_ast_go h
        obtain ⟨rfl, rfl, rfl, rfl⟩ := gx_go_some h
        exact gx_sast hF hd ht hin hK
      · cases h
    · cases h
  | lastore =>
    unfold gx_ins at h
    dsimp only at h
    replace h := gx_k_some h
    obtain ⟨hlen, h⟩ := h
    subst hlen
    split at h
    · split at h
      · rename_i ht
        obtain ⟨hin, h⟩ := gx_ast_go h
        obtain ⟨rfl, rfl, rfl, rfl⟩ := gx_go_some h
        exact gx_last hF hd ht hin hK
      · cases h
    · exact (gx_thr_go h).elim
    · cases h
  | bastore =>
    unfold gx_ins at h
    dsimp only at h
    replace h := gx_k_some h
    obtain ⟨hlen, h⟩ := h
    subst hlen
    split at h
    · split at h
      · rename_i ht
        obtain ⟨hin, h⟩ := gx_ast_go h
        obtain ⟨rfl, rfl, rfl, rfl⟩ := gx_go_some h
        exact gx_bast hF hd ht hin hK
      · split at h
        · rename_i ht
          obtain ⟨hin, h⟩ := gx_ast_go h
          obtain ⟨rfl, rfl, rfl, rfl⟩ := gx_go_some h
          exact gx_zast hF hd ht hin hK
        · cases h
    · cases h
  | aastore =>
    unfold gx_ins at h
    dsimp only at h
    replace h := gx_k_some h
    obtain ⟨hlen, h⟩ := h
    subst hlen
    split at h
    · split at h
      · rename_i ht
        obtain ⟨rfl, rfl, rfl, rfl⟩ := gx_go_some h
        exact gx_aastN hF hd ht.1.1 ht.1.2 ht.2 hK
      · cases h
    · split at h
      · rename_i ht
        obtain ⟨rfl, rfl, rfl, rfl⟩ := gx_go_some h
        exact gx_aast hF hd ht.1 ht.2 hK
      · cases h
    · cases h
  | arraylength =>
    unfold gx_ins at h
    dsimp only at h
    replace h := gx_k_some h
    obtain ⟨hlen, h⟩ := h
    subst hlen
    split at h
    · split at h
      · rename_i ht
        obtain ⟨rfl, rfl, rfl, rfl⟩ := gx_go_some h
        exact gx_alen hF hd ht.1 ht.2 hK
      · cases h
    · exact (gx_thr_go h).elim
    · split at h
      · rename_i n9 hn
        obtain ⟨rfl, rfl, rfl, rfl⟩ := gx_go_some h
        exact gx_xlen hF hd hn hK
      · cases h
    · cases h
  | new ix =>
    unfold gx_ins at h
    dsimp only at h
    replace h := gx_k_some h
    obtain ⟨hlen, h⟩ := h
    subst hlen
    split at h
    · rename_i e9 he
      obtain ⟨rfl, rfl, rfl, rfl⟩ := gx_go_some h
      exact gx_new hF hd he hc hR hK
    · cases h
  | newarray at_ =>
    unfold gx_ins at h
    dsimp only at h
    replace h := gx_k_some h
    obtain ⟨hlen, h⟩ := h
    subst hlen
    split at h
    · split at h
      · rename_i t9 hat
        split at h
        · exact (gx_thr_go h).elim
        · rename_i hn
          split at h
          · rename_i hN
            obtain ⟨rfl, rfl, rfl, rfl⟩ := gx_go_some h
            exact gx_newarr hF hd (t := t9) (by cases at_ <;> exact hat) hn hN hc hR hK
          · cases h
      · cases h
    · cases h
  | anewarray ix =>
    unfold gx_ins at h
    dsimp only at h
    replace h := gx_k_some h
    obtain ⟨hlen, h⟩ := h
    subst hlen
    split at h
    · split at h
      · rename_i e9 he
        split at h
        · rename_i hn
          obtain ⟨rfl, rfl, rfl, rfl⟩ := gx_go_some h
          exact gx_anew hF hd he hn.1 hn.2 hc hR hK
        · cases h
      · cases h
    · cases h
  | checkcast ix =>
    unfold gx_ins at h
    dsimp only at h
    replace h := gx_k_some h
    obtain ⟨hlen, h⟩ := h
    subst hlen
    split at h
    · obtain ⟨rfl, rfl, rfl, rfl⟩ := gx_go_some h
      intro ad H locs lsA hW hS hL hls hst
      exact lv_castN hx hb hd (hK ad H locs lsA hW hS hL hls hst)
    · split at h
      · rename_i e9 he
        obtain ⟨rfl, rfl, rfl, rfl⟩ := gx_go_some h
        exact gx_cast hF hoc hd he hK
      · cases h
    · cases h
  | instanceof ix =>
    unfold gx_ins at h
    dsimp only at h
    replace h := gx_k_some h
    obtain ⟨hlen, h⟩ := h
    subst hlen
    split at h
    · obtain ⟨rfl, rfl, rfl, rfl⟩ := gx_go_some h
      intro ad H locs lsA hW hS hL hls hst
      exact lv_instN hx hb hd (hK ad H locs lsA hW hS hL hls (gx_cs_cons gx_c0_int (gx_cs_tail hst)))
    · split at h
      · rename_i e9 he
        split at h
        · rename_i hz
          obtain ⟨rfl, rfl, rfl, rfl⟩ := gx_go_some h
          exact gx_inst hF hoc hd he (by rw [if_pos hz]; exact hK)
        · rename_i hz
          obtain ⟨rfl, rfl, rfl, rfl⟩ := gx_go_some h
          exact gx_inst hF hoc hd he (by rw [if_neg hz]; exact hK)
      · cases h
    · cases h
  | athrow =>
    unfold gx_ins at h
    dsimp only at h
    replace h := gx_k_some h
    obtain ⟨hlen, h⟩ := h
    subst hlen
    split at h
    · split at h
      · exact (gx_thr_go h).elim
      · cases h
    · cases h
  | return_ =>
    unfold gx_ins at h
    dsimp only at h
    replace h := gx_k_some h
    obtain ⟨hlen, h⟩ := h
    subst hlen
    split at h
    · exact (gx_done_go h).elim
    · cases h
  | ireturn =>
    unfold gx_ins at h
    dsimp only at h
    replace h := gx_k_some h
    obtain ⟨hlen, h⟩ := h
    subst hlen
    split at h
    · split at h
      · exact (gx_done_go h).elim
      · cases h
    · cases h
  | lreturn =>
    unfold gx_ins at h
    dsimp only at h
    replace h := gx_k_some h
    obtain ⟨hlen, h⟩ := h
    subst hlen
    split at h
    · exact (gx_done_go h).elim
    · cases h
  | areturn =>
    unfold gx_ins at h
    dsimp only at h
    replace h := gx_k_some h
    obtain ⟨hlen, h⟩ := h
    subst hlen
    split at h
    · split at h
      · exact (gx_done_go h).elim
      · cases h
    · cases h
  | invokespecial ix =>
    unfold gx_ins at h
    dsimp only at h
    replace h := gx_k_some h
    obtain ⟨hlen, h⟩ := h
    subst hlen
    split at h
    · rename_i e9 he
      split at h
      · split at h
        · rename_i hv
          obtain ⟨rfl, rfl, rfl, rfl⟩ := gx_go_some h
          obtain ⟨hin, hp⟩ := gx_find_in he
          have hix : e9.1 = ix := by simpa using hp
          have hok := gx_bT_ok (gx_oc Y) _ hin
          unfold gx_okB at hok
          rw [hix, hv.1] at hok
          exact gx_objI hF hd hok (gx_w8_sum hv.2.1) hK
        · cases h
      · cases h
    · split at h
      · split at h
        · split at h
          · exact (gx_call_go h).elim
          · cases h
        · cases h
      · cases h
  | invokevirtual ix =>
    unfold gx_ins at h
    dsimp only at h
    replace h := gx_k_some h
    obtain ⟨hlen, h⟩ := h
    subst hlen
    split at h
    · split at h
      · exact (gx_vcall_go h).elim
      · split at h
        · exact (gx_vcall_go h).elim
        · cases h
      · cases h
    · cases h
  | invokestatic ix =>
    unfold gx_ins at h
    dsimp only at h
    replace h := gx_k_some h
    obtain ⟨hlen, h⟩ := h
    subst hlen
    split at h
    · rename_i e9 he
      obtain ⟨hin, hp⟩ := gx_find_in he
      have hix : e9.1 = ix := by simpa using hp
      have hok := gx_bT_ok (gx_oc Y) _ hin
      unfold gx_okB at hok
      rw [hix] at hok
      unfold gx_bi at h
      split at h
      · rename_i hb9
        rw [hb9] at hok
        split at h
        · split at h
          · rename_i hv
            obtain ⟨rfl, rfl, rfl, rfl⟩ := gx_go_some h
            exact gx_min hF hd hok (gx_w8_sum hv.1) hR hK
          · cases h
        · cases h
      · rename_i hb9
        rw [hb9] at hok
        split at h
        · split at h
          · rename_i hv
            obtain ⟨rfl, rfl, rfl, rfl⟩ := gx_go_some h
            exact gx_max hF hd hok (gx_w8_sum hv.1) hR hK
          · cases h
        · cases h
      · rename_i hb9
        rw [hb9] at hok
        split at h
        · split at h
          · rename_i hv
            obtain ⟨rfl, rfl, rfl, rfl⟩ := gx_go_some h
            exact gx_abs hF hd hok (gx_w8_sum hv.1) hR hK
          · cases h
        · cases h
      · rename_i hb9
        rw [hb9] at hok
        unfold gx_copy at h
        split at h
        · split at h
          · rename_i hv
            split at h
            · split at h
              · exact (gx_thr_go h).elim
              · cases h
            · rename_i htt
              have htt' := Classical.not_not.mp htt
              split at h
              · split at h
                · exact (gx_oob_go h).elim
                · cases h
              · rename_i hbd
                split at h
                · rename_i h36
                  obtain ⟨rfl, rfl, rfl, rfl⟩ := gx_go_some h
                  exact gx_copyL hF hd hok (gx_w8_sum hv.1) htt' h36 hbd hK
                · split at h
                  · rename_i h32
                    obtain ⟨rfl, rfl, rfl, rfl⟩ := gx_go_some h
                    exact gx_copyI hF hd hok (gx_w8_sum hv.1) htt' h32.1 h32.2 hbd hK
                  · cases h
          · cases h
        · split at h
          · exact (gx_thr_go h).elim
          · cases h
        · split at h
          · exact (gx_thr_go h).elim
          · cases h
        · cases h
      · cases h
    · split at h
      · split at h
        · exact (gx_call_go h).elim
        · cases h
      · cases h
  | _ =>
    unfold gx_ins at h
    dsimp only at h
    cases h
end GXG
