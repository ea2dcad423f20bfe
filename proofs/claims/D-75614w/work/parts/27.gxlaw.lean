set_option maxRecDepth 100000
/-! ===== the law's own frame: from the pure machine's run to the law's end ===== -/
def gx_S0 : gx_S := ((0, fun _ => 255, fun _ => 0, 0, 0), fun _ _ => .null, fun _ _ => 0, fun _ _ => 0)
/-- the ints of a script, in one number -/
def gx_enc : List Int32 → Nat
  | [] => 0
  | v :: l => v.toUInt32.toNat + 2 ^ 32 * gx_enc l
def gx_skOf (l : List Int32) : Nat := l.length + 1024 * (gx_enc l + 1)
def gx_lawY (l : List Int32) : gx_Y := (x, code, 4, ret, [], 10, 203 + 1000 * gx_skOf l)
theorem gx_lawY_sk (l : List Int32) : gx_sk (gx_lawY l) = gx_skOf l := by
  show (203 + 1000 * gx_skOf l) / 1000 = _
  omega
theorem gx_lawY_ht (l : List Int32) : gx_ht (gx_lawY l) = 203 := by
  show (203 + 1000 * gx_skOf l) % 1000 = _
  omega
theorem gx_enc_at : ∀ (l : List Int32) (i : Nat), i < l.length → Int32.ofNat (gx_enc l / 2 ^ (32 * i)) = l.getD i 0
  | [], i, h => absurd h (Nat.not_lt_zero i)
  | v :: l, 0, _ => by
    show Int32.ofNat ((v.toUInt32.toNat + 2 ^ 32 * gx_enc l) / 2 ^ 0) = v
    rw [Nat.pow_zero, Nat.div_one]
    apply Int32.toBitVec_inj.mp
    show BitVec.ofNat 32 _ = v.toBitVec
    apply BitVec.eq_of_toNat_eq
    rw [BitVec.toNat_ofNat]
    show (v.toBitVec.toNat + 2 ^ 32 * gx_enc l) % 2 ^ 32 = v.toBitVec.toNat
    rw [Nat.add_mul_mod_self_left]
    exact Nat.mod_eq_of_lt v.toBitVec.isLt
  | v :: l, i + 1, h => by
    have h1 := gx_enc_at l i (Nat.lt_of_succ_lt_succ h)
    show Int32.ofNat ((v.toUInt32.toNat + 2 ^ 32 * gx_enc l) / 2 ^ (32 * (i + 1))) = l.getD i 0
    rw [← h1, show 32 * (i + 1) = 32 + 32 * i by omega, Nat.pow_add, ← Nat.div_div_eq_div_mul, Nat.add_mul_div_left _ _ (by decide), Nat.div_eq_of_lt v.toUInt32.toNat_lt, Nat.zero_add]
theorem gx_lawY_scL {l : List Int32} (h : l.length ≤ 384) : gx_scL (gx_lawY l) = l.length := by
  unfold gx_scL
  rw [gx_lawY_sk]
  unfold gx_skOf
  omega
theorem gx_lawY_scV {l : List Int32} (h : l.length ≤ 384) {i : Nat} (hi : i < l.length) : gx_scV (gx_lawY l) i = l.getD i 0 := by
  unfold gx_scV
  rw [gx_lawY_sk]
  unfold gx_skOf
  rw [show (l.length + 1024 * (gx_enc l + 1)) / 1024 - 1 = gx_enc l by omega]
  exact gx_enc_at l i hi
theorem gx_S0_Wd {D : va_G} {dT : Nat → ClassId} {ext : Nat → Value} {A : Nat → Prop} {ad : Nat → Nat} {H : Heap} (hD : D.2 1001 0 = 0) : gx_Wd D dT ext A gx_S0 ad H := by
  have hnil : gx_ws dT ext ad gx_S0 = [] := rfl
  refine ⟨⟨fun _ _ => rfl, fun a h => absurd h (Nat.not_lt_zero a), fun _ _ => gx_c0_null, (fun _ _ h => nomatch h), (fun _ _ h => nomatch h), (fun _ _ h => nomatch h)⟩, ?_, ?_, by rw [hD]; exact Nat.le_refl _, fun b h => absurd (by rw [← hD]; exact h) (Nat.not_lt_zero b)⟩
  · rw [hnil]
    intro k q hk
    simp at hk
  · rw [hnil]
    exact ⟨fun i j p q hi => by simp at hi, fun k q hk => by simp at hk⟩
theorem gx_law {p : Program} {e : Env} {s : State} {m : MethodId} {below : List Frame} {meth : Method} {c : Code} (l : Launch) (hflags : l.flags = flags0) {b L : Nat} {xs : Nat → Int32} (hL : L ≤ 384) (C0 : lw_At p s m meth c b L xs)
    {n : Nat} {S' : gx_S} (hrun : gx_run n (gx_lawY ((List.range L).map xs)) 0 (gx_ent (gx_lawY ((List.range L).map xs)) [.retAddr 64]) [] gx_S0 = some (.inl (some (.int 1)), S')) (hc : S'.1.2.2.2.1 ≤ 1200384) (hs : S'.1.2.2.2.2 ≤ 5486762) :
    W p l e room_1 s m #[Value.ref b] below meth c s.heap [] 0 0 (lw_Z below #[Value.ref b] s) (entryFrame m ([Value.ref b] : List Value).toArray 4) := by
  obtain ⟨hx, hb, hr, hml, hown, hts, hX, hbl, hlocks, hgv⟩ := C0
  obtain ⟨D, dT, ext, hD0, h64, hE⟩ := gx_start hts hgv b
  have hlen : ((List.range L).map xs).length = L := by simp
  have htr : l.stackTraces = false := by
    unfold Launch.stackTraces
    rw [hflags]
    decide
  have hF : gx_Fr p l room_1 s m #[Value.ref b] meth c (gx_lawY ((List.range L).map xs)) D dT ext (fun q => s.heap.size ≤ q) :=
    ⟨hx, hb, hml, hown, fun w hw => hts w (lw_all_tbl hw), hE, fun _ h => h, hlocks, ⟨fun h => absurd h (by show ¬ x.name = "<init>"; decide), fun _ => ⟨b, h64, ?_, hbl, by omega⟩⟩, fun h => ?_, htr, by rw [gx_lawY_ht]; decide, by rw [gx_lawY_ht]; decide⟩
  · have heok : gx_eok ext := gx_eok_of hF
    obtain ⟨lsA, e1, e2⟩ := gx_entry (ad := fun _ => 0) (ext := ext) heok (Y := gx_lawY ((List.range L).map xs)) (as := [.retAddr 64]) (by show (1 : Nat) ≤ 4; decide) m
    have hcv : [Value.retAddr 64].map (gx_cv (fun _ => 0) ext) = [Value.ref b] := by
      show [ext 64] = _
      rw [h64]
    rw [hcv] at e1
    have hK := gx_run_G hrun (by show 10 < 21; decide) p l e room_1 s m #[Value.ref b] below meth c D dT ext (fun q => s.heap.size ≤ q) 0 0 hF hr ⟨Nat.zero_le _, Nat.zero_le _⟩ ⟨hc, hs⟩ (fun _ => 0) s.heap [] lsA (gx_S0_Wd hD0) va_S.rf e2 (gx_ent_cs (fun v hv => by rcases List.mem_singleton.mp hv with rfl; exact gx_c0_ext)) (fun _ h => nomatch h)
    show W p l e room_1 s m #[Value.ref b] below meth c s.heap [] 0 0 (lw_Z below #[Value.ref b] s) (entryFrame m ([Value.ref b] : List Value).toArray (gx_mL (gx_lawY ((List.range L).map xs))))
    rw [e1]
    intro T hT X
    obtain ⟨t, a1, o, q1, q2, q3⟩ := hK T hT X
    refine ⟨t, a1, o, q1, q2, ?_⟩
    rcases q3 with ⟨⟨v, ad, g1, g2, -⟩, Lc, ⟨g3, g4, g5⟩, g6⟩ | ⟨q, -, E, ce, Lc, ⟨k, ad, g1, -⟩, -⟩
    · cases g1
      subst g2
      refine ⟨rfl, g3, g4, ?_⟩
      obtain ⟨h1, h2, h3, h4, h5, h6⟩ := g5.mono hc hs
      refine ⟨h1, h2, h3, h4, h5, fun a c9 ha => ?_⟩
      obtain ⟨c8, y1, y2, y3, y4⟩ := h6 a c9 ha
      refine ⟨c8, y1, y2, y3, fun i hi => y4 i fun hm => ?_⟩
      have hlt : a < s.heap.size := (Array.getElem?_eq_some_iff.mp ha).1
      have := g6 _ hm
      have hle : s.heap.size ≤ a := this
      exact absurd hlt (Nat.not_lt.mpr hle)
    · cases g1
  · obtain ⟨scr, h1, h2, h3, h4, h5⟩ := hX
    refine ⟨scr, h1, h2, h3, ?_, fun j hj => ?_⟩
    · rw [gx_lawY_scL (by rw [hlen]; exact hL), hlen]
      exact h4
    · rw [gx_lawY_scL (by rw [hlen]; exact hL), hlen] at hj
      rw [gx_lawY_scV (by rw [hlen]; exact hL) (by rw [hlen]; exact hj), h5 j hj]
      simp [hj]
  · rw [gx_lawY_sk] at h
    unfold gx_skOf at h
    omega
