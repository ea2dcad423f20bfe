set_option maxRecDepth 100000
/-! ===== instructions that leave the memory as it is ===== -/
/-- from every heap that holds the pure memory, the machine at pc with these locals and this stack comes to Q -/
def gx_K (p : Program) (l : Launch) (e : Env) (R : Room) (s : State) (m : MethodId) (args : Array Value) (below : List Frame) (meth : Method) (c : Code) (Q : State → Prop) (Y : gx_Y) (D : va_G) (dT : Nat → ClassId) (ext : Nat → Value) (A : Nat → Prop) (c0 s0 : Nat) (pc : Nat) (ls st : List Value) (S : gx_S) : Prop :=
  ∀ (ad : Nat → Nat) (H : Heap) (locs : List Loc) (lsA : Array Slot), gx_Wd D dT ext A S ad H → va_S A s.heap H locs → lv_has lsA (gx_mL Y) (gx_lv ad ext ls) → gx_cs S ls → gx_cs S st →
    W p l e R s m args below meth c H locs (S.1.2.2.2.1 - c0) (S.1.2.2.2.2 - s0) Q (F0 m pc lsA (st.map (gx_cv ad ext)))
section GXS
variable {p : Program} {l : Launch} {e : Env} {R : Room} {s : State} {m : MethodId} {args : Array Value} {below : List Frame} {meth : Method} {c : Code} {Q : State → Prop} {Y : gx_Y} {D : va_G} {dT : Nat → ClassId} {ext : Nat → Value} {A : Nat → Prop} {c0 s0 : Nat}
variable {pc pc' len : Nat} {ls st ls' st' : List Value} {S S' : gx_S} {i : Instr}
theorem gx_w_aload_n {H : Heap} {locs : List Loc} {cells slots : Nat} {lsA : Array Slot} {rest : List Value} {cc : ByteArray} (hexec : p.tables.exec = Jvm.exec) (hb : c.code = cc) {k : Fin 4} {w : Value} (hw : w = .null ∨ ∃ x, w = .ref x) (hdg : decode cc pc = .ok (.aload_n k, 1)) (hl : lsA[(k : Nat)]? = some (.val w))
    (kk : W p l e R s m args below meth c H locs cells slots Q (F0 m (pc + 1) lsA (w :: rest))) : W p l e R s m args below meth c H locs cells slots Q (F0 m pc lsA rest) := by
  rcases hw with rfl | ⟨x, rfl⟩
  · exact lv_aload_nN hexec hb hdg rfl hl kk
  · exact lv_aload_n hexec hb hdg rfl hl kk
theorem gx_w_astore_n {H : Heap} {locs : List Loc} {cells slots : Nat} {lsA : Array Slot} {rest : List Value} {cc : ByteArray} (hexec : p.tables.exec = Jvm.exec) (hb : c.code = cc) {k : Fin 4} {w : Value} (hw : w = .null ∨ ∃ x, w = .ref x) {nL : Nat} {lv : List (Nat × Value)} (hdg : decode cc pc = .ok (.astore_n k, 1)) (h : lv_has lsA nL lv) (hn : (k : Nat) < nL)
    (kk : ∀ ls' : Array Slot, lv_has ls' nL (((k : Nat), w) :: lv.filter (fun q => !(q.1 == (k : Nat)) && !(q.1 + 1 == (k : Nat) && q.2.category == 2))) → W p l e R s m args below meth c H locs cells slots Q (F0 m (pc + 1) ls' rest)) : W p l e R s m args below meth c H locs cells slots Q (F0 m pc lsA (w :: rest)) := by
  rcases hw with rfl | ⟨x, rfl⟩
  · exact lv_astore_nN hexec hb hdg rfl h hn rfl kk
  · exact lv_astore_n hexec hb hdg rfl h hn rfl kk
theorem gx_w_astore {H : Heap} {locs : List Loc} {cells slots : Nat} {lsA : Array Slot} {rest : List Value} {cc : ByteArray} (hexec : p.tables.exec = Jvm.exec) (hb : c.code = cc) {k : Nat} {w : Value} (hw : w = .null ∨ ∃ x, w = .ref x) {nL : Nat} {lv : List (Nat × Value)} (hdg : decode cc pc = .ok (.astore k, 2)) (h : lv_has lsA nL lv) (hn : k < nL)
    (kk : ∀ ls' : Array Slot, lv_has ls' nL ((k, w) :: lv.filter (fun q => !(q.1 == k) && !(q.1 + 1 == k && q.2.category == 2))) → W p l e R s m args below meth c H locs cells slots Q (F0 m (pc + 2) ls' rest)) : W p l e R s m args below meth c H locs cells slots Q (F0 m pc lsA (w :: rest)) := by
  rcases hw with rfl | ⟨x, rfl⟩
  · exact lv_astoreN hexec hb hdg h hn rfl kk
  · exact lv_astore hexec hb hdg h hn rfl kk
theorem gx_eok_of (hF : gx_Fr p l R s m args meth c Y D dT ext A) : gx_eok ext := hF.2.2.2.2.2.1.2.2.2.2.2.2.2.2.2
theorem gx_okL_in (hF : gx_Fr p l R s m args meth c Y D dT ext A) {oc ix : Nat} {v : Value} (h : (ix, v) ∈ gx_lT oc) : gx_okL oc (ix, v) := gx_lT_ok oc _ h
/-- the values that ldc lays -/
theorem gx_ldc {i2 : Nat} (hF : gx_Fr p l R s m args meth c Y D dT ext A) (hd : decode (gx_cd Y) pc = .ok (.ldc i2, 2)) {e9 : Nat × Value} (he : (gx_lT (gx_oc Y)).find? (fun e => e.1 == i2) = some e9) (hK : gx_K p l e R s m args below meth c Q Y D dT ext A c0 s0 (pc + 2) ls (e9.2 :: st) S) : gx_K p l e R s m args below meth c Q Y D dT ext A c0 s0 pc ls st S := by
  obtain ⟨hx, hb, -, hown, hts, hE, -⟩ := hF
  obtain ⟨hin, hp⟩ := gx_find_in he
  have hix : e9.1 = i2 := by simpa using hp
  have hok := gx_lT_ok (gx_oc Y) _ hin
  intro ad H locs lsA hW hS hL hls hst
  obtain ⟨ix, v⟩ := e9
  dsimp only at hix
  subst hix
  cases v with
  | int x => exact lv_ldc hx hb hown (hts _ hok) hd (hK ad H locs lsA hW hS hL hls (gx_cs_cons gx_c0_int hst))
  | retAddr j =>
    obtain ⟨h1, h2, h3⟩ := hok
    obtain ⟨-, -, -, -, -, ⟨adK, adV, -, h7⟩, -⟩ := hE
    obtain ⟨e1, -, e3⟩ := h7 (j - 16) h2.2
    have e4 : 16 + (j - 16) = j := by omega
    rw [e4] at e1
    have hk := hK ad H locs lsA hW hS hL hls (gx_cs_cons gx_c0_ext hst)
    rw [List.map_cons, show gx_cv ad ext (.retAddr j) = ext j from rfl, e1] at hk
    rw [h1] at hown
    rw [h3] at e3
    exact va_ldcS hx hb hown e3 hd hk
  | _ => exact hok.elim
end GXS
