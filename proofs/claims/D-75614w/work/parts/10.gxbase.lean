set_option maxRecDepth 100000
/-! ===== classes and arrays by their tags ===== -/
theorem gx_cl_at {ci : Nat} (h : ci < 15) : gx_cl[ci]? = some (gx_rname ci, gx_T ci, gx_N ci) := by
  match ci, h with
  | 0, _ => rfl
  | 1, _ => rfl
  | 2, _ => rfl
  | 3, _ => rfl
  | 4, _ => rfl
  | 5, _ => rfl
  | 6, _ => rfl
  | 7, _ => rfl
  | 8, _ => rfl
  | 9, _ => rfl
  | 10, _ => rfl
  | 11, _ => rfl
  | 12, _ => rfl
  | 13, _ => rfl
  | 14, _ => rfl
  | n + 15, h => exact absurd h (by omega)
theorem gx_nil_in {C : String} {T : u_T} : ∀ w ∈ u_ws C T 0, w ∈ lw_all := fun _ h => absurd h List.not_mem_nil
theorem gx_in_cl {ci : Nat} (h : ci < 15) : ∀ w ∈ u_ws (gx_rname ci) (gx_T ci) (gx_N ci), w ∈ lw_all := by
  match ci, h with
  | 0, _ => exact in_X0
  | 1, _ => exact in_X1
  | 2, _ => exact in_X2
  | 3, _ => exact in_X3
  | 4, _ => exact in_X4
  | 5, _ => exact in_X5
  | 6, _ => exact in_X6
  | 7, _ => exact in_X7
  | 8, _ => exact in_X8
  | 9, _ => exact in_X9
  | 10, _ => exact in_J2
  | 11, _ => exact gx_nil_in
  | 12, _ => exact gx_nil_in
  | 13, _ => exact gx_nil_in
  | 14, _ => exact gx_nil_in
  | n + 15, h => exact absurd h (by omega)
theorem gx_ty_ok {ci : Nat} (h : ci < 15) : ∀ k, k < gx_N ci → parseFieldDescriptor (gx_T ci k).2.2.1 = some (gx_ty ci k) := by
  match ci, h with
  | 0, _ => exact tyX0_ok
  | 1, _ => exact tyX1_ok
  | 2, _ => exact tyX2_ok
  | 3, _ => exact tyX3_ok
  | 4, _ => exact tyX4_ok
  | 5, _ => exact tyX5_ok
  | 6, _ => exact tyX6_ok
  | 7, _ => exact tyX7_ok
  | 8, _ => exact tyX8_ok
  | 9, _ => exact tyX9_ok
  | 10, _ => exact tyJ2_ok
  | 11, _ => exact fun k h => absurd h (Nat.not_lt_zero k)
  | 12, _ => exact fun k h => absurd h (Nat.not_lt_zero k)
  | 13, _ => exact fun k h => absurd h (Nat.not_lt_zero k)
  | 14, _ => exact fun k h => absurd h (Nat.not_lt_zero k)
  | n + 15, h => exact absurd h (by omega)
theorem gx_tys_at {dT : Nat → ClassId} {t : Nat} (h1 : 32 ≤ t) (h2 : t ≤ 39) : (gx_tys dT)[t - 32]? = some (dT t, gx_aty t) := by
  unfold gx_tys
  rw [List.getElem?_map, List.getElem?_range (by omega)]
  show some (dT (t - 32 + 32), gx_aty (t - 32 + 32)) = _
  rw [Nat.sub_add_cancel h1]
/-- fields of a class differ by name, or by who declares them -/
theorem gx_diff {ci : Nat} (h : ci < 15) : ∀ a, a < gx_N ci → ∀ b, b < gx_N ci → a ≠ b → (gx_T ci a).2.1 ≠ (gx_T ci b).2.1 ∨ (gx_T ci a).1 ≠ (gx_T ci b).1 := by
  match ci, h with
  | 0, _ => exact fun a ha b hb hn => Or.inl (nmX0 a ha b hb hn)
  | 1, _ => exact fun a ha b hb hn => Or.inl (nmX1 a ha b hb hn)
  | 2, _ => exact fun a ha b hb hn => Or.inl (nmX2 a ha b hb hn)
  | 3, _ => decide +kernel
  | 4, _ => decide +kernel
  | 5, _ => decide +kernel
  | 6, _ => exact fun a ha b hb hn => Or.inl (nmX6 a ha b hb hn)
  | 7, _ => exact fun a ha b hb hn => Or.inl (nmX7 a ha b hb hn)
  | 8, _ => exact fun a ha b hb hn => Or.inl (nmX8 a ha b hb hn)
  | 9, _ => exact fun a ha b hb hn => Or.inl (nmX9 a ha b hb hn)
  | 10, _ => exact fun a ha b hb hn => Or.inl (nmJ2 a ha b hb hn)
  | 11, _ => exact fun k h => absurd h (Nat.not_lt_zero k)
  | 12, _ => exact fun k h => absurd h (Nat.not_lt_zero k)
  | 13, _ => exact fun k h => absurd h (Nat.not_lt_zero k)
  | 14, _ => exact fun k h => absurd h (Nat.not_lt_zero k)
  | n + 15, h => exact absurd h (by omega)
/-- what a field's slot says of its declarer: u_facts, and the declarer's name -/
theorem gx_decl {args : Array Value} {s : State} {C O f d : String} (h : (Cond.lays C O f d).before args s = true ∨ (Cond.laysFinal C O f d).before args s = true) {cf kf fi fd} (hi : s.fieldFound? O f d = some (cf, kf, fi, fd)) :
    ∃ c d9, s.vm.findClass C = some c ∧ Jmm.declares? s.vm fd.slot (c + 1) c = some d9 ∧ d9.1.name = kf.name ∧ d9.2.name = fd.name ∧ s.vm.findClass O = some cf := by
  rcases h with h | h
  · have h9 := Cond.lays_declared h hi
    obtain ⟨c, k, cf', kf', fi', fd', r1, r2, hi', -, -, -, -, d9, e1, e2, e3, -⟩ := Cond.lays_spec h
    cases hi.symm.trans hi'
    exact ⟨c, d9, r1, e1, e2, e3, h9⟩
  · obtain ⟨c, k, cf', kf', fi', fd', r1, r2, hi', -, -, -, h9, -, d9, e1, e2, e3, -⟩ := Cond.laysFinal_spec h
    cases hi.symm.trans hi'
    exact ⟨c, d9, r1, e1, e2, e3, h9⟩
theorem gx_nm_ok {ci : Nat} (h : ci < 15) (h3 : ci < 3 ∨ 5 < ci) : ∀ a, a < gx_N ci → ∀ b, b < gx_N ci → a ≠ b → (gx_T ci a).2.1 ≠ (gx_T ci b).2.1 := by
  match ci, h, h3 with
  | 0, _, _ => exact nmX0
  | 1, _, _ => exact nmX1
  | 2, _, _ => exact nmX2
  | 3, _, h3 => exact absurd h3 (by omega)
  | 4, _, h3 => exact absurd h3 (by omega)
  | 5, _, h3 => exact absurd h3 (by omega)
  | 6, _, _ => exact nmX6
  | 7, _, _ => exact nmX7
  | 8, _, _ => exact nmX8
  | 9, _, _ => exact nmX9
  | 10, _, _ => exact nmJ2
  | 11, _, _ => exact fun k h => absurd h (Nat.not_lt_zero k)
  | 12, _, _ => exact fun k h => absurd h (Nat.not_lt_zero k)
  | 13, _, _ => exact fun k h => absurd h (Nat.not_lt_zero k)
  | 14, _, _ => exact fun k h => absurd h (Nat.not_lt_zero k)
  | n + 15, h, _ => exact absurd h (by omega)
theorem gx_fin345 {ci : Nat} (h3 : 3 ≤ ci) (h5 : ci ≤ 5) (k : Nat) : (gx_T ci k).2.2.2 = true := by
  have h : ci = 3 ∨ ci = 4 ∨ ci = 5 := by omega
  rcases h with rfl | rfl | rfl
  · show (TX3 k).2.2.2 = true
    unfold TX3; split <;> rfl
  · show (TX4 k).2.2.2 = true
    unfold TX4; split <;> rfl
  · show (TX5 k).2.2.2 = true
    unfold TX5; split <;> rfl
theorem gx_apart {args : Array Value} {s : State} {D : va_G} {tys : List (ClassId × FieldType)} {ci : Nat} (hci : ci < 15) (hts : ∀ w ∈ lw_all, w.before args s = true) (hK : va_K D gx_cl tys s) : ∀ x y, x < gx_N ci → y < gx_N ci → x ≠ y → (D.2 ci) x ≠ (D.2 ci) y := by
  intro x y hx hy hne
  obtain ⟨hS, -⟩ := hK.1 ci _ (gx_cl_at hci)
  obtain ⟨cx, kx, _, fa, hia, ea⟩ := hS x hx
  obtain ⟨cy, ky, _, fb, hib, eb⟩ := hS y hy
  have lx := u_lays hts (gx_in_cl hci) hx
  have ly := u_lays hts (gx_in_cl hci) hy
  rw [← ea, ← eb]
  rcases gx_diff hci x hx y hy hne with hd | hd
  · refine u_apart lx ly hia hib ?_
    rw [(State.fieldFound?_type hia (gx_ty_ok hci x hx)).1, (State.fieldFound?_type hib (gx_ty_ok hci y hy)).1]
    exact hd
  · intro hsl
    obtain ⟨c1, d1, r1, e1, n1, -, o1⟩ := gx_decl lx hia
    obtain ⟨c2, d2, r2, e2, n2, -, o2⟩ := gx_decl ly hib
    cases Option.some.inj (r1.symm.trans r2)
    rw [hsl] at e1
    cases Option.some.inj (e1.symm.trans e2)
    obtain ⟨k1, q1, w1⟩ := Vm.findClass_spec o1
    obtain ⟨k2, q2, w2⟩ := Vm.findClass_spec o2
    have g1 := (State.fieldFound?_spec hia).1
    have g2 := (State.fieldFound?_spec hib).1
    cases Option.some.inj (q1.symm.trans g1)
    cases Option.some.inj (q2.symm.trans g2)
    exact hd (by rw [← w1, ← w2, ← n1, ← n2])
section GXPUT
variable {p : Program} {l : Launch} {e : Env} {R : Room} {s : State} {m : MethodId} {args : Array Value} {below : List Frame} {meth : Method} {c : Code} {Q : State → Prop} {Y : gx_Y} {D : va_G} {dT : Nat → ClassId} {ext : Nat → Value} {A : Nat → Prop} {c0 s0 : Nat}
variable {H : Heap} {locs : List Loc} {cells slots : Nat} {cc : ByteArray} {pc : Nat} {ls : Array Slot} {rest : List Value} {tys : List (ClassId × FieldType)} {ws : va_W} {H0 : Heap} {a : Nat}
/-- a final field of its own class, in a constructor; the slots are apart -/
theorem gx_putF (hexec : p.tables.exec = Jvm.exec) (hb : c.code = cc) {own ref C : String} {T : u_T} {N ci index : Nat} (hts : ∀ w ∈ lw_all, w.before args s = true) (hin : ∀ w ∈ u_ws C T N, w ∈ lw_all) (hap : ∀ x y, x < N → y < N → x ≠ y → (D.2 ci) x ≠ (D.2 ci) y) (hown : s.vm.findClass own = some m.cls) (hK : va_K D gx_cl tys s) (hP : va_P D gx_cl ws H) (hD : va_D A ws) (hS0 : va_S A H0 H locs) (q0 : Nat) {fs : List Value} (he : ws[q0]? = some (a, .inr (ci, fs))) (hc : gx_cl[ci]? = some (C, T, N)) (k : Nat) (hk : k < N) (hlink : (Cond.fieldLink own index ref (T k).2.1 (T k).2.2.1).before args s = true) (hsame : ∀ x, s.fieldFound? (T k).1 (T k).2.1 (T k).2.2.1 = some x → s.fieldFound? ref (T k).2.1 (T k).2.2.1 = some x) (hfin : (T k).2.2.2 = true) (hin2 : meth.name = "<init>") (hdecl : (T k).1 = own) {ty : FieldType} {v : Value} (hd : parseFieldDescriptor (T k).2.2.1 = some ty) (hn : narrow ty v = v) (hfit : fits ty v = true) (hl : k < fs.length)
    (hdg : decode cc pc = .ok (.putfield index, 3)) (kk : ∀ (H1 : Heap) (locs1 : List Loc), va_P D gx_cl (ws.set q0 (a, .inr (ci, fs.set k v))) H1 → va_D A (ws.set q0 (a, .inr (ci, fs.set k v))) → va_S A H0 H1 locs1 → W p l e R s m args below meth c H1 locs1 cells slots Q (F0 m (pc + 3) ls rest)) : W p l e R s m args below meth c H locs cells slots Q (F0 m pc ls (v :: .ref a :: rest)) := by
  obtain ⟨r, h1, cell, q1, q2, q3, q4⟩ := hP q0 _ he
  have hr : r = (C, T, N) := Option.some.inj (h1.symm.trans hc)
  subst hr
  obtain ⟨hS, hfc, kC, hkC, hkind⟩ := hK.1 ci _ hc
  obtain ⟨cf, kf, fi, f, hi, hsl⟩ := hS k hk
  have hlay := hts _ (hin _ (u_in_lay hk))
  unfold u_lay at hlay
  rw [if_pos hfin] at hlay
  have hst := (u_facts hfc hkC (u_lays hts hin hk) hi).1
  have hcf : m.cls = cf := by
    obtain ⟨_, _, c', _, _, _, -, -, hf', -, -, -, hown2, -⟩ := Cond.laysFinal_spec hlay
    cases hi.symm.trans hf'
    rw [hdecl] at hown2
    exact Option.some.inj (hown.symm.trans hown2)
  have h6 := u_fits hfc hkC hkind (Or.inr hlay) hi hd hn hfit
  refine W.putFinK hexec hb hown hlink (hsame _ hi) hst hcf hin2 (by rw [q2]; exact h6) q1 q3 (by rw [hsl]; exact k2_hasslot (q4 k hk)) rfl rfl hdg fun H' e1 e2 e3 => ?_
  rw [hsl] at e1 ⊢
  exact kk H' _ (hP.set hD he ⟨_, hc, t_OB.to (V := updV (vp_V fs) k v) ⟨_, e1, q2, q3, t_set q4 hap hk v⟩ (fun j _ => vp_updV_set hl v j)⟩ e3) (hD.set he) (hS0.put e2 e3 (hD.2 q0 _ he))
end GXPUT
