set_option maxRecDepth 100000
/-! ===== the calls, by kind ===== -/
theorem gx_lw_good {L : List Cond} (h : ∀ w ∈ L, w ∈ lw_all) : GoodIn lw_all L := fun w hw => ⟨h w hw, good_of_word (List.mem_filter.mp (h w hw)).2⟩
theorem gx_ws9_in {Y : gx_Y} (h : gx_code Y ∈ lw_all) : ∀ w ∈ gx_ws9 Y, w ∈ lw_all := fun w hw => by
  rcases List.mem_cons.mp hw with rfl | hw
  · exact h
  · exact hw
theorem gx_desc_n {d : String} {n : Nat} (h : (parseMethodDescriptor d).map (fun d => d.parameters.length) = some n) : ∀ sig, parseMethodDescriptor d = some sig → n = sig.parameters.length := fun sig hs => by
  rw [hs] at h
  exact (Option.some.inj h).symm
theorem gx_okS_low {oc : Nat} {i k n : Nat} {Y Y' : gx_Y} (h : gx_okS oc (i, k, n, Y')) : gx_okS oc (i, k, n, gx_lower Y Y') := by
  unfold gx_lower
  split
  · exact h
  · exact h
theorem gx_vT_tag : ∀ oc, oc < 21 → ∀ e ∈ gx_vT oc, e.2.1 < 15 ∨ e.2.1 = 200 := by decide +kernel
theorem gx_cls_at {D : va_G} {dT : Nat → ClassId} {ext : Nat → Value} {A : Nat → Prop} {S : gx_S} {ad : Nat → Nat} {H : Heap} {s : State} {tys : List (ClassId × FieldType)} (hW : gx_Wd D dT ext A S ad H) (hK : va_K D gx_cl tys s) {a : Nat} (ht : gx_tag S a < 15) : ∃ cell : Cell, H[ad a]? = some cell ∧ cell.vm = .none ∧ s.vm.findClass (gx_rname (gx_tag S a)) = some cell.cls ∧ ClassAt s (gx_rname (gx_tag S a)) cell.cls := by
  have h1 := gx_ws_obj (dT := dT) (ext := ext) (ad := ad) hW.1 ht
  obtain ⟨r, e1, cell, q1, q2, q3, -⟩ := hW.2.1 a _ h1
  have hc := gx_cl_at ht
  obtain ⟨-, hat⟩ := hK.1 _ _ hc
  rw [← q2] at hat
  exact ⟨cell, q1, q3, hat.1, hat⟩
section GXCW
variable {p : Program} {l : Launch} {e : Env} {R : Room} {s : State} {m : MethodId} {args : Array Value} {below : List Frame} {meth : Method} {c : Code} {Q : State → Prop} {Y : gx_Y} {D : va_G} {dT : Nat → ClassId} {ext : Nat → Value} {A : Nat → Prop} {c0 s0 : Nat}
variable {pc : Nat} {Y' : gx_Y} {mc ms n : Nat} {Pc : Array Value → State → Prop} {Qc : Array Value → State → Outcome → State → Prop} {XC : String → Addr → State → State → Prop} {free : Addr → Prop} {H : Heap} {locs : List Loc} {cells slots : Nat} {lsA : Array Slot} {as rest : List Value} {b ix : Nat}
/-- what every kind of call takes -/
def gx_C0 (R : Room) (c : Code) (Y Y' : gx_Y) (lsA : Array Slot) (rest : List Value) (cells slots mc ms : Nat) : Prop :=
  gx_okY Y' ∧ gx_ht Y' + 1 ≤ gx_ht Y ∧ gx_mL Y' ≤ 45 ∧ lsA.size = gx_mL Y ∧ (rest.map fun v => v.category).sum ≤ 8 ∧ cells + mc ≤ R.cells ∧ slots + ms ≤ R.slots
theorem gx_callB (hF : gx_Fr p l R s m args meth c Y D dT ext A) (h0 : gx_C0 R c Y Y' lsA rest cells slots mc ms) (hh : gx_hh Y' = []) (hn : (parseMethodDescriptor (gx_nm Y').desc).map (fun d => d.parameters.length) = some n) (hl : Cond.methodLink (gx_cname (gx_oc Y)) ix (gx_nm Y') ∈ lw_all) :
    CallB R s args (gx_cname (gx_oc Y)) ix (gx_nm Y') (gx_cd Y') (gx_mL Y') (gx_rt Y') (gx_ws9 Y') (gx_rm Y' mc ms) mc ms n := by
  obtain ⟨-, -, -, -, hts, -, -, -, -, -, -, hR1, hR2⟩ := hF
  obtain ⟨⟨o1, o2, o3, o4⟩, hht, hmL, -⟩ := h0
  have hc : gx_code Y' = Cond.code (gx_nm Y') (gx_cd Y') (gx_mL Y') (gx_rt Y') := by unfold gx_code; rw [hh]
  refine ⟨rfl, rfl, by show 100 + gx_ht Y' + 1 ≤ R.frames; omega, by show 8 + (gx_mL Y' + 11) + (12000 + 64 * gx_ht Y') ≤ R.locals; omega, pay_in hts (gx_lw_good (gx_ws9_in o1)), by unfold gx_ws9; rw [hc]; exact List.mem_cons_self, by rw [← hc]; exact hts _ o1, by rw [o3]; exact hts _ o2, by rw [o3]; exact gx_notMH _ o4, gx_desc_n hn, hts _ hl⟩
theorem gx_callN (hF : gx_Fr p l R s m args meth c Y D dT ext A) (h0 : gx_C0 R c Y Y' lsA rest cells slots mc ms) (hh : gx_hh Y' = []) (hn : (parseMethodDescriptor (gx_nm Y').desc).map (fun d => d.parameters.length) = some n) {host : String} (hl : Cond.methodLinkNest (gx_cname (gx_oc Y)) ix (gx_nm Y') host ∈ gx_nest) :
    va_CN R s args (gx_cname (gx_oc Y)) ix (gx_nm Y') host (gx_cd Y') (gx_mL Y') (gx_rt Y') (gx_ws9 Y') (gx_rm Y' mc ms) mc ms n := by
  obtain ⟨-, -, -, -, hts, hE, -, -, -, -, -, hR1, hR2⟩ := hF
  obtain ⟨⟨o1, o2, o3, o4⟩, hht, hmL, -⟩ := h0
  have hc : gx_code Y' = Cond.code (gx_nm Y') (gx_cd Y') (gx_mL Y') (gx_rt Y') := by unfold gx_code; rw [hh]
  exact ⟨⟨rfl, rfl, by show 100 + gx_ht Y' + 1 ≤ R.frames; omega, by show 8 + (gx_mL Y' + 11) + (12000 + 64 * gx_ht Y') ≤ R.locals; omega, pay_in hts (gx_lw_good (gx_ws9_in o1)), by unfold gx_ws9; rw [hc]; exact List.mem_cons_self⟩, by rw [← hc]; exact hts _ o1, by rw [o3]; exact hts _ o2, by rw [o3]; exact gx_notMH _ o4, gx_desc_n hn, va_Nw.use (gx_nest_on _ hl) (hE.2.1 _ hl)⟩
theorem gx_fix (hF : gx_Fr p l R s m args meth c Y D dT ext A) : CallFix p m c (gx_cd Y) (gx_mL Y) s args lw_all (gx_cname (gx_oc Y)) := ⟨hF.1, hF.2.1, hF.2.2.1, hF.2.2.2.1, hF.2.2.2.2.1⟩
theorem gx_rS (hF : gx_Fr p l R s m args meth c Y D dT ext A) (h0 : gx_C0 R c Y Y' lsA rest cells slots mc ms) {k : Nat} (hok : gx_okS (gx_oc Y) (ix, k, n, Y')) (hM : vx_Met l (gx_nm Y') (gx_ws9 Y') (gx_rm Y' mc ms) Pc Qc XC mc ms free) (hp : PreS s H Pc as) (hn : as.length = n) (hd : decode (gx_cd Y) pc = .ok (.invokestatic ix, 3)) :
    vx_Run p l e R s m args below meth c H locs cells slots mc ms (F0 m pc lsA (as.reverse ++ rest)) rest (Qc as.toArray) XC free := by
  obtain ⟨o1, o2, o3, o4, o5⟩ := hok
  have hts := hF.2.2.2.2.1
  have h9 := h0.2.2.2
  match k, o3 with
  | 0, o3 => exact vx_runS (gx_fix hF) hM ⟨gx_callB hF h0 o5 o2 o3, hts _ o4⟩ hp rfl hn h9.1 rfl (by show 2 * 0 + _ ≤ 8; omega) hd h9.2.2
  | k + 1, o3 =>
    obtain ⟨host, o3⟩ := o3
    exact vx_runSN (gx_fix hF) hM ⟨gx_callN hF h0 o5 o2 o3, hts _ o4, trivial⟩ hp rfl hn h9.1 rfl (by show 2 * 0 + _ ≤ 8; omega) hd h9.2.2
theorem gx_rP (hF : gx_Fr p l R s m args meth c Y D dT ext A) (h0 : gx_C0 R c Y Y' lsA rest cells slots mc ms) {k : Nat} (hok : gx_okP (gx_oc Y) (ix, k, n, Y')) (hM : vx_Met l (gx_nm Y') (gx_ws9 Y') (gx_rm Y' mc ms) Pc Qc XC mc ms free) (hp : PreS s H Pc (.ref b :: as)) {C : String} {cC : ClassId} (hat : ClassAt s C cC) (hcell : ∃ cellB : Cell, H[b]? = some cellB ∧ cellB.vm.isStatics = false ∧ s.vm.findClass C = some cellB.cls) (hrt : k < 2 → gx_rt Y' = none) (hn : as.length = n) (hd : decode (gx_cd Y) pc = .ok (.invokespecial ix, 3)) :
    vx_Run p l e R s m args below meth c H locs cells slots mc ms (F0 m pc lsA (as.reverse ++ .ref b :: rest)) rest (Qc (Value.ref b :: as).toArray) XC free := by
  obtain ⟨o1, o2, o3⟩ := hok
  have hts := hF.2.2.2.2.1
  have h9 := h0.2.2.2
  match k, o3, hrt with
  | 0, o3, hrt =>
    obtain ⟨p1, p2, p3, p4⟩ := o3
    have hcb := gx_callB hF h0 p4 o2 p1
    rw [hrt (by decide)] at hcb
    exact vx_runI (gx_fix hF) hM ⟨hcb, p3, hts _ p2⟩ hp rfl hn h9.1 rfl (by show 2 * 0 + _ ≤ 8; omega) hd h9.2.2
  | 1, o3, hrt =>
    obtain ⟨⟨host, p1⟩, p2, p3, p4⟩ := o3
    have hcb := gx_callN hF h0 p4 o2 p1
    rw [hrt (by decide)] at hcb
    exact vx_runIN (gx_fix hF) hM ⟨hcb, p3, hts _ p2⟩ hp rfl hn h9.1 rfl (by show 2 * 0 + _ ≤ 8; omega) hd h9.2.2
  | k + 2, o3, hrt =>
    obtain ⟨p1, p2, p3, p4, p5, p6, p7⟩ := o3
    obtain ⟨q1, q2, q3, q4, q5, q6, q7, q8, q9, q10, q11⟩ := gx_callB hF h0 p7 o2 p1
    exact vx_runSU hat (gx_fix hF) hM ⟨⟨q1, q2, q3, q4, q5, q6⟩, q11, hts _ p2, hts _ p3, hts _ p4, hts _ p5, q7, p6, q10⟩ ⟨hp.1, hcell, hp.2⟩ rfl hn h9.1 rfl (by show 2 * 0 + _ ≤ 8; omega) hd h9.2.2
theorem gx_rV (hF : gx_Fr p l R s m args meth c Y D dT ext A) (h0 : gx_C0 R c Y Y' lsA rest cells slots mc ms) {tg k : Nat} (hok : gx_okV (gx_oc Y) (ix, tg, k, n, Y')) (hM : vx_Met l (gx_nm Y') (gx_ws9 Y') (gx_rm Y' mc ms) Pc Qc XC mc ms free) (hp : PreV s H (gx_rname tg) b Pc as) (hn : as.length = n) (hd : decode (gx_cd Y) pc = .ok (.invokevirtual ix, 3)) :
    vx_Run p l e R s m args below meth c H locs cells slots mc ms (F0 m pc lsA (as.reverse ++ .ref b :: rest)) rest (Qc (Value.ref b :: as).toArray) XC free := by
  obtain ⟨o1, o2, o3⟩ := hok
  have hts := hF.2.2.2.2.1
  have h9 := h0.2.2.2
  match k, o3 with
  | 0, o3 =>
    obtain ⟨p1, p2, p3, p4, p5, p6⟩ := o3
    exact vx_runV (gx_fix hF) hM ⟨gx_callB hF h0 p6 o2 p1, hts _ p2, hts _ p3⟩ hp rfl hn h9.1 rfl (by show 2 * 0 + _ ≤ 8; omega) hd h9.2.2
  | 1, o3 =>
    obtain ⟨⟨host, p1⟩, p2, p3, p4⟩ := o3
    exact vx_runVN (gx_fix hF) hM ⟨gx_callN hF h0 p4 o2 p1, hts _ p2, hts _ p3⟩ hp rfl hn h9.1 rfl (by show 2 * 0 + _ ≤ 8; omega) hd h9.2.2
  | 2, o3 =>
    obtain ⟨x, owner, p1, p2, p3, p4, p5, p6, p7, p8⟩ := o3
    obtain ⟨⟨c1, c2, c3, c4⟩, hht, hmL, -⟩ := h0
    have hc : gx_code Y' = Cond.code (gx_nm Y') (gx_cd Y') (gx_mL Y') (gx_rt Y') := by unfold gx_code; rw [p8]
    obtain ⟨-, -, -, -, -, -, -, -, -, -, -, hR1, hR2⟩ := id hF
    exact vx_runU (x := x) (owner := owner) (gx_fix hF) hM ⟨⟨rfl, rfl, by show 100 + gx_ht Y' + 1 ≤ R.frames; omega, by show 8 + (gx_mL Y' + 11) + (12000 + 64 * gx_ht Y') ≤ R.locals; omega, pay_in hts (gx_lw_good (gx_ws9_in c1)), by unfold gx_ws9; rw [hc]; exact List.mem_cons_self⟩, by rw [← hc]; exact hts _ c1, hts _ p5, ⟨p7.1, p7.2.1⟩, gx_desc_n p7.2.2, hts _ p1, hts _ p2, by rw [← p6]; exact va_Decl.of (hts _ p4) (by rw [← hc]; exact hts _ c1), hts _ p3, hts _ p4⟩ hp rfl hn h9.1 rfl (by show 2 * 0 + _ ≤ 8; omega) hd h9.2.2
  | 3, o3 =>
    obtain ⟨x, owner, p1, p2, p3, p4, p5, p6, p7, p8, ⟨b0, m0, r0, p9⟩, p10, p11⟩ := o3
    obtain ⟨⟨c1, c2, c3, c4⟩, hht, hmL, -⟩ := h0
    have hc : gx_code Y' = Cond.code (gx_nm Y') (gx_cd Y') (gx_mL Y') (gx_rt Y') := by unfold gx_code; rw [p11]
    obtain ⟨-, -, -, -, -, -, -, -, -, -, -, hR1, hR2⟩ := id hF
    exact vx_runU (x := x) (owner := owner) (gx_fix hF) hM ⟨⟨rfl, rfl, by show 100 + gx_ht Y' + 1 ≤ R.frames; omega, by show 8 + (gx_mL Y' + 11) + (12000 + 64 * gx_ht Y') ≤ R.locals; omega, pay_in hts (gx_lw_good (gx_ws9_in c1)), by unfold gx_ws9; rw [hc]; exact List.mem_cons_self⟩, by rw [← hc]; exact hts _ c1, hts _ p6, ⟨p8.1, p8.2.1⟩, gx_desc_n p8.2.2, hts _ p1, hts _ p2, va_Decl.of (hts _ p3) (hts _ p9), hts _ p4, hts _ p5⟩ hp rfl hn h9.1 rfl (by show 2 * 0 + _ ≤ 8; omega) hd h9.2.2
  | k + 4, o3 =>
    obtain ⟨p1, p2, p3, p4, p5, hd0, tl0, p6⟩ := o3
    obtain ⟨⟨c1, c2, c3, c4⟩, hht, hmL, -⟩ := h0
    have hc : gx_code Y' = Cond.codeWith (gx_nm Y') (gx_cd Y') (gx_mL Y') (gx_rt Y') (hd0 :: tl0) := by unfold gx_code; rw [p6]
    obtain ⟨-, -, -, -, -, -, -, -, -, -, -, hR1, hR2⟩ := id hF
    exact vx_runVX (hh := hd0 :: tl0) (gx_fix hF) hM ⟨⟨rfl, rfl, by show 100 + gx_ht Y' + 1 ≤ R.frames; omega, by show 8 + (gx_mL Y' + 11) + (12000 + 64 * gx_ht Y') ≤ R.locals; omega, pay_in hts (gx_lw_good (gx_ws9_in c1)), by unfold gx_ws9; rw [hc]; exact List.mem_cons_self⟩, by rw [← hc]; exact hts _ c1, by rw [c3]; exact hts _ c2, by rw [c3]; exact gx_notMH _ c4, gx_desc_n o2, hts _ p1, hts _ p2, hts _ p3⟩ hp rfl hn h9.1 rfl (by show 2 * 0 + _ ≤ 8; omega) hd h9.2.2
end GXCW
