set_option maxRecDepth 100000
/-! ===== equations of gx_F (printed by tools/seg.py) ===== -/
theorem l32 {l : List Value} (h : Nat.ble l.length 32 = true) : l.length ≤ 32 := Nat.le_of_ble_eq_true h
theorem gF_iteD {c : Prop} [Decidable c] {A A' B B' : Option gx_R} (h1 : c → A = A') (h2 : ¬ c → B = B') : (if c then A else B) = (if c then A' else B') := by
  by_cases h : c
  · rw [if_pos h, if_pos h, h1 h]
  · rw [if_neg h, if_neg h, h2 h]
theorem gx_c1_of {v : Value} (h : gx_isR v = true) : gx_c1 v = true := by cases v <;> first | rfl | cases h
theorem gx_rokZ {Y : gx_Y} {v : Int32} (hr : gx_rt Y = some .boolean) (h : v = 0 ∨ v = 1) : gx_rok Y v = true := by
  unfold gx_rok
  rw [hr]
  exact decide_eq_true h
theorem gx_fitZ {v : Int32} (h : v = 0 ∨ v = 1) : gx_fit .boolean (.int v) = true := decide_eq_true h
theorem gx_tg39 {S : gx_S} {a t : Nat} (h : gx_tag S a = t) (ht : (decide (32 ≤ t) && decide (t ≤ 39)) = true) : 32 ≤ gx_tag S a ∧ gx_tag S a ≤ 39 := by
  subst h
  simpa using ht
theorem gx_tg79 {S : gx_S} {a t : Nat} (h : gx_tag S a = t) (ht : (decide (37 ≤ t) && decide (t ≤ 39)) = true) : 37 ≤ gx_tag S a ∧ gx_tag S a ≤ 39 := by
  subst h
  simpa using ht
theorem gx_xf0 {j : Nat} (h : 16 ≤ j ∧ j < 31) : gx_xf j 0 = some (.retAddr (j + 32)) := by
  unfold gx_xf
  rw [if_pos h]
  rfl
theorem gx_xf1 {j : Nat} (h : 16 ≤ j ∧ j < 31) : gx_xf j 1 = some (.int 0) := by
  unfold gx_xf
  rw [if_pos h]
  rfl
def gx_cpy (S : gx_S) (a b i j n : Nat) : gx_S := (S.1, S.2.1, gx_u1 S.2.2.1 a (va_cpy (S.2.2.1 b) (S.2.2.1 a) i j n), S.2.2.2)
theorem gx_tmk {X X' : gx_S} {tg ln dc ds v t : Nat} (e : gx_mk X tg ln dc ds = X') (h : gx_tag X v = t) (hl : v < gx_n X) : gx_tag X' v = t := by
  subst e
  exact (gx_mk_tag_ne (Nat.ne_of_lt hl)).trans h
theorem gx_tnew {X X' : gx_S} {tg ln dc ds : Nat} (e : gx_mk X tg ln dc ds = X') : gx_tag X' (gx_n X) = tg := by
  subst e
  exact gx_mk_tag
theorem gx_nlt {X X' : gx_S} {tg ln dc ds : Nat} (e : gx_mk X tg ln dc ds = X') : gx_n X < gx_n X' := by
  subst e
  exact Nat.lt_succ_self _
theorem gx_ltm {X X' : gx_S} {tg ln dc ds v : Nat} (e : gx_mk X tg ln dc ds = X') (h : v < gx_n X) : v < gx_n X' := Nat.lt_trans h (gx_nlt e)
theorem gx_tg36 {S : gx_S} {a t : Nat} (h : gx_tag S a = t) (ht : (decide (32 ≤ t) && decide (t < 36)) = true) : 32 ≤ gx_tag S a ∧ gx_tag S a < 36 := by
  subst h
  simpa using ht
theorem gx_tg15 {S : gx_S} {a t : Nat} (h : gx_tag S a = t) (ht : decide (t < 15) = true) : gx_tag S a < 15 := by
  subst h
  simpa using ht
theorem gk_iconst_m1 : Int32.ofInt (-1) = (-1 : Int32) := by decide
theorem gk_sipush_m1000 : (Int16.ofInt (-1000)).toInt32 = (-1000 : Int32) := by decide
theorem gk_bipush_m2 : (Int8.ofInt (-2)).toInt32 = (-2 : Int32) := by decide
theorem gk_bipush_m3 : (Int8.ofInt (-3)).toInt32 = (-3 : Int32) := by decide
theorem gk_bipush_m4 : (Int8.ofInt (-4)).toInt32 = (-4 : Int32) := by decide
theorem gk_bipush_m5 : (Int8.ofInt (-5)).toInt32 = (-5 : Int32) := by decide
theorem gk_bipush_m6 : (Int8.ofInt (-6)).toInt32 = (-6 : Int32) := by decide
theorem gk_bipush_m7 : (Int8.ofInt (-7)).toInt32 = (-7 : Int32) := by decide
theorem gk_bipush_m8 : (Int8.ofInt (-8)).toInt32 = (-8 : Int32) := by decide
theorem gk_iconst_m8 : Int32.ofInt (-8) = (-8 : Int32) := by decide
theorem gk_iconst_0 : Int32.ofInt 0 = (0 : Int32) := by decide
theorem gk_lconst_0 : Int64.ofNat ((0 : Fin 2) : Nat) = (0 : Int64) := by decide
theorem gk_iconst_1 : Int32.ofInt 1 = (1 : Int32) := by decide
theorem gk_lconst_1 : Int64.ofNat ((1 : Fin 2) : Nat) = (1 : Int64) := by decide
theorem gk_bipush_10 : (Int8.ofInt 10).toInt32 = (10 : Int32) := by decide
theorem gk_bipush_100 : (Int8.ofInt 100).toInt32 = (100 : Int32) := by decide
theorem gk_sipush_1000 : (Int16.ofInt 1000).toInt32 = (1000 : Int32) := by decide
theorem gk_bipush_11 : (Int8.ofInt 11).toInt32 = (11 : Int32) := by decide
theorem gk_bipush_12 : (Int8.ofInt 12).toInt32 = (12 : Int32) := by decide
theorem gk_bipush_120 : (Int8.ofInt 120).toInt32 = (120 : Int32) := by decide
theorem gk_bipush_122 : (Int8.ofInt 122).toInt32 = (122 : Int32) := by decide
theorem gk_bipush_127 : (Int8.ofInt 127).toInt32 = (127 : Int32) := by decide
theorem gk_sipush_1281 : (Int16.ofInt 1281).toInt32 = (1281 : Int32) := by decide
theorem gk_sipush_140 : (Int16.ofInt 140).toInt32 = (140 : Int32) := by decide
theorem gk_sipush_147 : (Int16.ofInt 147).toInt32 = (147 : Int32) := by decide
theorem gk_bipush_16 : (Int8.ofInt 16).toInt32 = (16 : Int32) := by decide
theorem gk_iconst_2 : Int32.ofInt 2 = (2 : Int32) := by decide
theorem gk_bipush_20 : (Int8.ofInt 20).toInt32 = (20 : Int32) := by decide
theorem gk_bipush_21 : (Int8.ofInt 21).toInt32 = (21 : Int32) := by decide
theorem gk_bipush_24 : (Int8.ofInt 24).toInt32 = (24 : Int32) := by decide
theorem gk_sipush_240 : (Int16.ofInt 240).toInt32 = (240 : Int32) := by decide
theorem gk_sipush_255 : (Int16.ofInt 255).toInt32 = (255 : Int32) := by decide
theorem gk_bipush_28 : (Int8.ofInt 28).toInt32 = (28 : Int32) := by decide
theorem gk_iconst_3 : Int32.ofInt 3 = (3 : Int32) := by decide
theorem gk_bipush_30 : (Int8.ofInt 30).toInt32 = (30 : Int32) := by decide
theorem gk_bipush_31 : (Int8.ofInt 31).toInt32 = (31 : Int32) := by decide
theorem gk_bipush_32 : (Int8.ofInt 32).toInt32 = (32 : Int32) := by decide
theorem gk_bipush_35 : (Int8.ofInt 35).toInt32 = (35 : Int32) := by decide
theorem gk_iconst_4 : Int32.ofInt 4 = (4 : Int32) := by decide
theorem gk_bipush_48 : (Int8.ofInt 48).toInt32 = (48 : Int32) := by decide
theorem gk_iconst_5 : Int32.ofInt 5 = (5 : Int32) := by decide
theorem gk_bipush_57 : (Int8.ofInt 57).toInt32 = (57 : Int32) := by decide
theorem gk_bipush_59 : (Int8.ofInt 59).toInt32 = (59 : Int32) := by decide
theorem gk_bipush_6 : (Int8.ofInt 6).toInt32 = (6 : Int32) := by decide
theorem gk_bipush_60 : (Int8.ofInt 60).toInt32 = (60 : Int32) := by decide
theorem gk_sipush_600 : (Int16.ofInt 600).toInt32 = (600 : Int32) := by decide
theorem gk_bipush_61 : (Int8.ofInt 61).toInt32 = (61 : Int32) := by decide
theorem gk_bipush_63 : (Int8.ofInt 63).toInt32 = (63 : Int32) := by decide
theorem gk_bipush_7 : (Int8.ofInt 7).toInt32 = (7 : Int32) := by decide
theorem gk_sipush_700 : (Int16.ofInt 700).toInt32 = (700 : Int32) := by decide
theorem gk_bipush_8 : (Int8.ofInt 8).toInt32 = (8 : Int32) := by decide
theorem gk_bipush_9 : (Int8.ofInt 9).toInt32 = (9 : Int32) := by decide
theorem gk_bipush_97 : (Int8.ofInt 97).toInt32 = (97 : Int32) := by decide
theorem gb_13_1 : (gx_bT 13).find? (fun e => e.1 == 1) = some (1, 5) := rfl
theorem gl_19_265 : (gx_lT 19).find? (fun e => e.1 == 265) = some (265, .int 1431655765) := rfl
theorem gl_19_266 : (gx_lT 19).find? (fun e => e.1 == 266) = some (266, .int 858993459) := rfl
theorem gl_19_267 : (gx_lT 19).find? (fun e => e.1 == 267) = some (267, .int 252645135) := rfl
theorem gf_11_9_10 : (gx_flT 11).find? (fun e => e.1 == 9 && e.2.1 == 10) = some (9, 10, 1, 0) := rfl
theorem gg_11_39 : (gx_gT 11).find? (fun e => e.1 == 39) = some (39, 5) := rfl
theorem gb_11_79 : (gx_bT 11).find? (fun e => e.1 == 79) = some (79, 2) := rfl
theorem ga_11_7 : (gx_aT 11).find? (fun e => e.1 == 7) = some (7, 39) := rfl
theorem gf_11_48_10 : (gx_flT 11).find? (fun e => e.1 == 48 && e.2.1 == 10) = some (48, 10, 2, 0) := rfl
theorem gg_14_38 : (gx_gT 14).find? (fun e => e.1 == 38) = some (38, 9) := rfl
theorem gx9_14_15 : (gx_xT 14).find? (fun e => e.1 == 15) = some (15, 1) := rfl
theorem gb_17_1 : (gx_bT 17).find? (fun e => e.1 == 1) = some (1, 5) := rfl
theorem gf_17_7_9 : (gx_flT 17).find? (fun e => e.1 == 7 && e.2.1 == 9) = some (7, 9, 0, 0) := rfl
theorem gg_17_13 : (gx_gT 17).find? (fun e => e.1 == 13) = some (13, 6) := rfl
theorem gf_17_17_9 : (gx_flT 17).find? (fun e => e.1 == 17 && e.2.1 == 9) = some (17, 9, 1, 0) := rfl
theorem gg_17_20 : (gx_gT 17).find? (fun e => e.1 == 20) = some (20, 7) := rfl
theorem gf_17_24_9 : (gx_flT 17).find? (fun e => e.1 == 24 && e.2.1 == 9) = some (24, 9, 2, 0) := rfl
theorem gf_17_31_9 : (gx_flT 17).find? (fun e => e.1 == 31 && e.2.1 == 9) = some (31, 9, 3, 0) := rfl
theorem gf_0_58_0 : (gx_flT 0).find? (fun e => e.1 == 58 && e.2.1 == 0) = some (58, 0, 20, 0) := rfl
theorem gf_0_10_0 : (gx_flT 0).find? (fun e => e.1 == 10 && e.2.1 == 0) = some (10, 0, 0, 0) := rfl
theorem gf_0_188_1 : (gx_flT 0).find? (fun e => e.1 == 188 && e.2.1 == 1) = some (188, 1, 1, 1) := rfl
theorem gf_0_191_0 : (gx_flT 0).find? (fun e => e.1 == 191 && e.2.1 == 0) = some (191, 0, 14, 0) := rfl
theorem gf_0_173_1 : (gx_flT 0).find? (fun e => e.1 == 173 && e.2.1 == 1) = some (173, 1, 14, 1) := rfl
theorem gf_0_24_0 : (gx_flT 0).find? (fun e => e.1 == 24 && e.2.1 == 0) = some (24, 0, 5, 0) := rfl
theorem gb_0_193 : (gx_bT 0).find? (fun e => e.1 == 193) = some (193, 4) := rfl
theorem gf_0_170_1 : (gx_flT 0).find? (fun e => e.1 == 170 && e.2.1 == 1) = some (170, 1, 13, 1) := rfl
theorem gf_0_28_0 : (gx_flT 0).find? (fun e => e.1 == 28 && e.2.1 == 0) = some (28, 0, 6, 0) := rfl
theorem gf_0_160_1 : (gx_flT 0).find? (fun e => e.1 == 160 && e.2.1 == 1) = some (160, 1, 8, 1) := rfl
theorem gf_0_199_0 : (gx_flT 0).find? (fun e => e.1 == 199 && e.2.1 == 0) = some (199, 0, 7, 0) := rfl
theorem gf_0_202_0 : (gx_flT 0).find? (fun e => e.1 == 202 && e.2.1 == 0) = some (202, 0, 8, 0) := rfl
theorem gf_0_205_0 : (gx_flT 0).find? (fun e => e.1 == 205 && e.2.1 == 0) = some (205, 0, 9, 0) := rfl
theorem gf_0_208_0 : (gx_flT 0).find? (fun e => e.1 == 208 && e.2.1 == 0) = some (208, 0, 10, 0) := rfl
theorem gf_0_211_0 : (gx_flT 0).find? (fun e => e.1 == 211 && e.2.1 == 0) = some (211, 0, 11, 0) := rfl
theorem gf_0_214_0 : (gx_flT 0).find? (fun e => e.1 == 214 && e.2.1 == 0) = some (214, 0, 12, 0) := rfl
theorem gf_0_217_0 : (gx_flT 0).find? (fun e => e.1 == 217 && e.2.1 == 0) = some (217, 0, 13, 0) := rfl
theorem gt_X0_count_3_0 : ∀ x : Int32, x = (0 : Int32) → ¬ (x.toInt < 0 ∨ 9 < x.toInt) ∧ (#[53, 61, 69, 77, 85, 93, 101, 109, 117, 122] : Array Int)[(x.toInt - 0).toNat]? = some (53) := by intro x hx; subst hx; exact ⟨by decide, by decide⟩
theorem gf_0_133_1 : (gx_flT 0).find? (fun e => e.1 == 133 && e.2.1 == 1) = some (133, 1, 0, 1) := rfl
theorem gt_X0_count_3_1 : ∀ x : Int32, x = (1 : Int32) → ¬ (x.toInt < 0 ∨ 9 < x.toInt) ∧ (#[53, 61, 69, 77, 85, 93, 101, 109, 117, 122] : Array Int)[(x.toInt - 0).toNat]? = some (61) := by intro x hx; subst hx; exact ⟨by decide, by decide⟩
theorem gt_X0_count_3_2 : ∀ x : Int32, x = (2 : Int32) → ¬ (x.toInt < 0 ∨ 9 < x.toInt) ∧ (#[53, 61, 69, 77, 85, 93, 101, 109, 117, 122] : Array Int)[(x.toInt - 0).toNat]? = some (69) := by intro x hx; subst hx; exact ⟨by decide, by decide⟩
theorem gf_0_410_1 : (gx_flT 0).find? (fun e => e.1 == 410 && e.2.1 == 1) = some (410, 1, 2, 1) := rfl
theorem gt_X0_count_3_3 : ∀ x : Int32, x = (3 : Int32) → ¬ (x.toInt < 0 ∨ 9 < x.toInt) ∧ (#[53, 61, 69, 77, 85, 93, 101, 109, 117, 122] : Array Int)[(x.toInt - 0).toNat]? = some (77) := by intro x hx; subst hx; exact ⟨by decide, by decide⟩
theorem gf_0_120_1 : (gx_flT 0).find? (fun e => e.1 == 120 && e.2.1 == 1) = some (120, 1, 4, 1) := rfl
theorem gt_X0_count_3_4 : ∀ x : Int32, x = (4 : Int32) → ¬ (x.toInt < 0 ∨ 9 < x.toInt) ∧ (#[53, 61, 69, 77, 85, 93, 101, 109, 117, 122] : Array Int)[(x.toInt - 0).toNat]? = some (85) := by intro x hx; subst hx; exact ⟨by decide, by decide⟩
theorem gf_0_123_1 : (gx_flT 0).find? (fun e => e.1 == 123 && e.2.1 == 1) = some (123, 1, 5, 1) := rfl
theorem gt_X0_count_3_5 : ∀ x : Int32, x = (5 : Int32) → ¬ (x.toInt < 0 ∨ 9 < x.toInt) ∧ (#[53, 61, 69, 77, 85, 93, 101, 109, 117, 122] : Array Int)[(x.toInt - 0).toNat]? = some (93) := by intro x hx; subst hx; exact ⟨by decide, by decide⟩
theorem gf_0_126_1 : (gx_flT 0).find? (fun e => e.1 == 126 && e.2.1 == 1) = some (126, 1, 6, 1) := rfl
theorem gt_X0_count_3_6 : ∀ x : Int32, x = (6 : Int32) → ¬ (x.toInt < 0 ∨ 9 < x.toInt) ∧ (#[53, 61, 69, 77, 85, 93, 101, 109, 117, 122] : Array Int)[(x.toInt - 0).toNat]? = some (101) := by intro x hx; subst hx; exact ⟨by decide, by decide⟩
theorem gf_0_237_1 : (gx_flT 0).find? (fun e => e.1 == 237 && e.2.1 == 1) = some (237, 1, 7, 1) := rfl
theorem gt_X0_count_3_7 : ∀ x : Int32, x = (7 : Int32) → ¬ (x.toInt < 0 ∨ 9 < x.toInt) ∧ (#[53, 61, 69, 77, 85, 93, 101, 109, 117, 122] : Array Int)[(x.toInt - 0).toNat]? = some (109) := by intro x hx; subst hx; exact ⟨by decide, by decide⟩
theorem gf_0_109_1 : (gx_flT 0).find? (fun e => e.1 == 109 && e.2.1 == 1) = some (109, 1, 3, 1) := rfl
theorem gt_X0_count_3_8 : ∀ x : Int32, x = (8 : Int32) → ¬ (x.toInt < 0 ∨ 9 < x.toInt) ∧ (#[53, 61, 69, 77, 85, 93, 101, 109, 117, 122] : Array Int)[(x.toInt - 0).toNat]? = some (117) := by intro x hx; subst hx; exact ⟨by decide, by decide⟩
theorem gf_0_88_0 : (gx_flT 0).find? (fun e => e.1 == 88 && e.2.1 == 0) = some (88, 0, 2, 0) := rfl
theorem gt_X0_count_3_9 : ∀ x : Int32, x = (9 : Int32) → ¬ (x.toInt < 0 ∨ 9 < x.toInt) ∧ (#[53, 61, 69, 77, 85, 93, 101, 109, 117, 122] : Array Int)[(x.toInt - 0).toNat]? = some (122) := by intro x hx; subst hx; exact ⟨by decide, by decide⟩
theorem gf_0_77_0 : (gx_flT 0).find? (fun e => e.1 == 77 && e.2.1 == 0) = some (77, 0, 30, 0) := rfl
theorem gf_0_444_6 : (gx_flT 0).find? (fun e => e.1 == 444 && e.2.1 == 6) = some (444, 6, 0, 1) := rfl
theorem gb_0_376 : (gx_bT 0).find? (fun e => e.1 == 376) = some (376, 3) := rfl
theorem gf_0_106_0 : (gx_flT 0).find? (fun e => e.1 == 106 && e.2.1 == 0) = some (106, 0, 3, 0) := rfl
theorem gf_0_20_0 : (gx_flT 0).find? (fun e => e.1 == 20 && e.2.1 == 0) = some (20, 0, 4, 0) := rfl
theorem gf_0_167_1 : (gx_flT 0).find? (fun e => e.1 == 167 && e.2.1 == 1) = some (167, 1, 12, 1) := rfl
theorem gf_0_16_0 : (gx_flT 0).find? (fun e => e.1 == 16 && e.2.1 == 0) = some (16, 0, 1, 0) := rfl
theorem gf_0_231_0 : (gx_flT 0).find? (fun e => e.1 == 231 && e.2.1 == 0) = some (231, 0, 18, 0) := rfl
theorem gf_0_62_0 : (gx_flT 0).find? (fun e => e.1 == 62 && e.2.1 == 0) = some (62, 0, 21, 0) := rfl
theorem gf_0_349_0 : (gx_flT 0).find? (fun e => e.1 == 349 && e.2.1 == 0) = some (349, 0, 25, 0) := rfl
theorem gb_0_234 : (gx_bT 0).find? (fun e => e.1 == 234) = some (234, 2) := rfl
theorem gf_0_71_0 : (gx_flT 0).find? (fun e => e.1 == 71 && e.2.1 == 0) = some (71, 0, 24, 0) := rfl
theorem gb_1_3 : (gx_bT 1).find? (fun e => e.1 == 3) = some (3, 5) := rfl
theorem gf_1_9_1 : (gx_flT 1).find? (fun e => e.1 == 9 && e.2.1 == 1) = some (9, 1, 9, 0) := rfl
theorem gf_1_15_1 : (gx_flT 1).find? (fun e => e.1 == 15 && e.2.1 == 1) = some (15, 1, 10, 0) := rfl
theorem gf_1_18_1 : (gx_flT 1).find? (fun e => e.1 == 18 && e.2.1 == 1) = some (18, 1, 11, 0) := rfl
theorem gf_1_21_1 : (gx_flT 1).find? (fun e => e.1 == 21 && e.2.1 == 1) = some (21, 1, 12, 0) := rfl
theorem gf_1_24_1 : (gx_flT 1).find? (fun e => e.1 == 24 && e.2.1 == 1) = some (24, 1, 13, 0) := rfl
theorem gf_1_27_1 : (gx_flT 1).find? (fun e => e.1 == 27 && e.2.1 == 1) = some (27, 1, 14, 0) := rfl
theorem gf_1_30_1 : (gx_flT 1).find? (fun e => e.1 == 30 && e.2.1 == 1) = some (30, 1, 15, 0) := rfl
theorem gf_1_33_1 : (gx_flT 1).find? (fun e => e.1 == 33 && e.2.1 == 1) = some (33, 1, 16, 0) := rfl
theorem gf_2_3_2 : (gx_flT 2).find? (fun e => e.1 == 3 && e.2.1 == 2) = some (3, 2, 0, 0) := rfl
theorem gb_2_9 : (gx_bT 2).find? (fun e => e.1 == 9) = some (9, 5) := rfl
theorem gf_2_3_3 : (gx_flT 2).find? (fun e => e.1 == 3 && e.2.1 == 3) = some (3, 3, 0, 0) := rfl
theorem gf_2_3_4 : (gx_flT 2).find? (fun e => e.1 == 3 && e.2.1 == 4) = some (3, 4, 0, 0) := rfl
theorem gf_2_3_5 : (gx_flT 2).find? (fun e => e.1 == 3 && e.2.1 == 5) = some (3, 5, 0, 0) := rfl
theorem gf_6_7_6 : (gx_flT 6).find? (fun e => e.1 == 7 && e.2.1 == 6) = some (7, 6, 0, 0) := rfl
theorem gi_6_13_33 : (gx_iT 6).find? (fun e => e.1 == 13 && e.2.1 == 33) = some (13, 33, 1) := rfl
theorem gi_6_15_33 : (gx_iT 6).find? (fun e => e.1 == 15 && e.2.1 == 33) = some (15, 33, 0) := rfl
theorem gi_6_17_33 : (gx_iT 6).find? (fun e => e.1 == 17 && e.2.1 == 33) = some (17, 33, 0) := rfl
theorem gi_6_13_35 : (gx_iT 6).find? (fun e => e.1 == 13 && e.2.1 == 35) = some (13, 35, 0) := rfl
theorem gi_6_15_35 : (gx_iT 6).find? (fun e => e.1 == 15 && e.2.1 == 35) = some (15, 35, 1) := rfl
theorem gi_6_17_35 : (gx_iT 6).find? (fun e => e.1 == 17 && e.2.1 == 35) = some (17, 35, 0) := rfl
theorem gi_6_13_32 : (gx_iT 6).find? (fun e => e.1 == 13 && e.2.1 == 32) = some (13, 32, 0) := rfl
theorem gi_6_15_32 : (gx_iT 6).find? (fun e => e.1 == 15 && e.2.1 == 32) = some (15, 32, 0) := rfl
theorem gi_6_17_32 : (gx_iT 6).find? (fun e => e.1 == 17 && e.2.1 == 32) = some (17, 32, 1) := rfl
theorem gi_6_13_36 : (gx_iT 6).find? (fun e => e.1 == 13 && e.2.1 == 36) = some (13, 36, 0) := rfl
theorem gi_6_15_36 : (gx_iT 6).find? (fun e => e.1 == 15 && e.2.1 == 36) = some (15, 36, 0) := rfl
theorem gi_6_17_36 : (gx_iT 6).find? (fun e => e.1 == 17 && e.2.1 == 36) = some (17, 36, 0) := rfl
theorem gc_6_19_36 : (gx_cT 6).find? (fun e => e.1 == 19 && e.2 == 36) = some (19, 36) := rfl
theorem gb_6_1 : (gx_bT 6).find? (fun e => e.1 == 1) = some (1, 5) := rfl
theorem gf_7_34_7 : (gx_flT 7).find? (fun e => e.1 == 34 && e.2.1 == 7) = some (34, 7, 17, 0) := rfl
theorem gf_7_46_7 : (gx_flT 7).find? (fun e => e.1 == 46 && e.2.1 == 7) = some (46, 7, 21, 0) := rfl
theorem gf_7_126_7 : (gx_flT 7).find? (fun e => e.1 == 126 && e.2.1 == 7) = some (126, 7, 12, 0) := rfl
theorem gf_7_105_7 : (gx_flT 7).find? (fun e => e.1 == 105 && e.2.1 == 7) = some (105, 7, 9, 0) := rfl
theorem gf_7_129_7 : (gx_flT 7).find? (fun e => e.1 == 129 && e.2.1 == 7) = some (129, 7, 13, 0) := rfl
theorem gf_7_74_7 : (gx_flT 7).find? (fun e => e.1 == 74 && e.2.1 == 7) = some (74, 7, 0, 0) := rfl
theorem gf_7_153_7 : (gx_flT 7).find? (fun e => e.1 == 153 && e.2.1 == 7) = some (153, 7, 14, 0) := rfl
theorem gf_7_27_7 : (gx_flT 7).find? (fun e => e.1 == 27 && e.2.1 == 7) = some (27, 7, 15, 0) := rfl
theorem gf_7_23_7 : (gx_flT 7).find? (fun e => e.1 == 23 && e.2.1 == 7) = some (23, 7, 5, 0) := rfl
theorem gf_7_91_7 : (gx_flT 7).find? (fun e => e.1 == 91 && e.2.1 == 7) = some (91, 7, 6, 0) := rfl
theorem gb_7_1 : (gx_bT 7).find? (fun e => e.1 == 1) = some (1, 5) := rfl
theorem gf_7_7_7 : (gx_flT 7).find? (fun e => e.1 == 7 && e.2.1 == 7) = some (7, 7, 1, 0) := rfl
theorem gf_7_13_7 : (gx_flT 7).find? (fun e => e.1 == 13 && e.2.1 == 7) = some (13, 7, 2, 0) := rfl
theorem gf_7_16_7 : (gx_flT 7).find? (fun e => e.1 == 16 && e.2.1 == 7) = some (16, 7, 3, 0) := rfl
theorem gf_7_20_7 : (gx_flT 7).find? (fun e => e.1 == 20 && e.2.1 == 7) = some (20, 7, 4, 0) := rfl
theorem gf_7_31_7 : (gx_flT 7).find? (fun e => e.1 == 31 && e.2.1 == 7) = some (31, 7, 16, 0) := rfl
theorem gf_7_37_7 : (gx_flT 7).find? (fun e => e.1 == 37 && e.2.1 == 7) = some (37, 7, 18, 0) := rfl
theorem gf_7_40_7 : (gx_flT 7).find? (fun e => e.1 == 40 && e.2.1 == 7) = some (40, 7, 19, 0) := rfl
theorem gf_7_43_7 : (gx_flT 7).find? (fun e => e.1 == 43 && e.2.1 == 7) = some (43, 7, 20, 0) := rfl
theorem gf_7_49_7 : (gx_flT 7).find? (fun e => e.1 == 49 && e.2.1 == 7) = some (49, 7, 22, 0) := rfl
theorem gf_7_53_7 : (gx_flT 7).find? (fun e => e.1 == 53 && e.2.1 == 7) = some (53, 7, 31, 0) := rfl
theorem gf_7_56_7 : (gx_flT 7).find? (fun e => e.1 == 56 && e.2.1 == 7) = some (56, 7, 32, 0) := rfl
theorem gf_7_59_7 : (gx_flT 7).find? (fun e => e.1 == 59 && e.2.1 == 7) = some (59, 7, 33, 0) := rfl
theorem gf_7_62_7 : (gx_flT 7).find? (fun e => e.1 == 62 && e.2.1 == 7) = some (62, 7, 34, 0) := rfl
theorem gf_7_65_7 : (gx_flT 7).find? (fun e => e.1 == 65 && e.2.1 == 7) = some (65, 7, 35, 0) := rfl
theorem gf_7_68_7 : (gx_flT 7).find? (fun e => e.1 == 68 && e.2.1 == 7) = some (68, 7, 36, 0) := rfl
theorem gf_7_71_7 : (gx_flT 7).find? (fun e => e.1 == 71 && e.2.1 == 7) = some (71, 7, 40, 0) := rfl
theorem gf_7_115_7 : (gx_flT 7).find? (fun e => e.1 == 115 && e.2.1 == 7) = some (115, 7, 8, 0) := rfl
theorem gf_7_111_7 : (gx_flT 7).find? (fun e => e.1 == 111 && e.2.1 == 7) = some (111, 7, 11, 0) := rfl
theorem gbn_20_105 : (gx_bT 20).find? (fun e => e.1 == 105) = none := rfl
theorem gs_20_105 : (gx_sT 20).find? (fun e => e.1 == 105) = some (105, 0, 3, mJ6_checkIndex) := rfl
theorem gw_J15_checkIndex_J6_checkIndex : gx_lower mJ15_checkIndex mJ6_checkIndex = mJ6_checkIndex := if_neg (by decide +kernel)
theorem gbn_12_1 : (gx_bT 12).find? (fun e => e.1 == 1) = none := rfl
theorem gp_12_1 : (gx_pT 12).find? (fun e => e.1 == 1) = some (1, 0, 0, mJ0_init) := rfl
theorem gf_12_7_10 : (gx_flT 12).find? (fun e => e.1 == 7 && e.2.1 == 10) = some (7, 10, 0, 0) := rfl
theorem gbn_11_69 : (gx_bT 11).find? (fun e => e.1 == 69) = none := rfl
theorem gvn_11_69 : gx_vn 11 69 = some 1 := rfl
theorem gv_11_69_10 : (gx_vT 11).find? (fun e => e.1 == 69 && e.2.1 == 10) = some (69, 10, 0, 1, mJ2_grow_2) := rfl
theorem gg_14_1053 : (gx_gT 14).find? (fun e => e.1 == 1053) = some (1053, 8) := rfl
theorem gbn_14_1059 : (gx_bT 14).find? (fun e => e.1 == 1059) = none := rfl
theorem gs_14_1059 : (gx_sT 14).find? (fun e => e.1 == 1059) = some (1059, 0, 3, mJ6_checkIndex) := rfl
theorem gw_J4_checkIndex_J6_checkIndex : gx_lower mJ4_checkIndex mJ6_checkIndex = mJ6_checkIndex := if_neg (by decide +kernel)
theorem gx9_14_9 : (gx_xT 14).find? (fun e => e.1 == 9) = some (9, 0) := rfl
theorem gbn_14_335 : (gx_bT 14).find? (fun e => e.1 == 335) = none := rfl
theorem gvn_14_335 : gx_vn 14 335 = some 0 := rfl
theorem gv_14_335_200 : (gx_vT 14).find? (fun e => e.1 == 335 && e.2.1 == 200) = some (335, 200, 0, 0, mJ4_coder) := rfl
theorem gbn_18_16 : (gx_bT 18).find? (fun e => e.1 == 16) = none := rfl
theorem gp_18_16 : (gx_pT 18).find? (fun e => e.1 == 16) = some (16, 0, 4, mJ8_init_2) := rfl
theorem gbn_0_280 : (gx_bT 0).find? (fun e => e.1 == 280) = none := rfl
theorem gvn_0_280 : gx_vn 0 280 = some 2 := rfl
theorem gv_0_280_0 : (gx_vT 0).find? (fun e => e.1 == 280 && e.2.1 == 0) = some (280, 0, 0, 2, mX0_shadeOf) := rfl
theorem gbn_0_129 : (gx_bT 0).find? (fun e => e.1 == 129) = none := rfl
theorem gvn_0_129 : gx_vn 0 129 = some 0 := rfl
theorem gv_0_129_0 : (gx_vT 0).find? (fun e => e.1 == 129 && e.2.1 == 0) = some (129, 0, 0, 0, mX0_isBook) := rfl
theorem gf_0_358_0 : (gx_flT 0).find? (fun e => e.1 == 358 && e.2.1 == 0) = some (358, 0, 26, 0) := rfl
theorem gbn_0_361 : (gx_bT 0).find? (fun e => e.1 == 361) = none := rfl
theorem gvn_0_361 : gx_vn 0 361 = some 1 := rfl
theorem gv_0_361_0 : (gx_vT 0).find? (fun e => e.1 == 361 && e.2.1 == 0) = some (361, 0, 0, 1, mX0_worstIn) := rfl
theorem gf_0_37_0 : (gx_flT 0).find? (fun e => e.1 == 37 && e.2.1 == 0) = some (37, 0, 17, 0) := rfl
theorem gf_0_31_0 : (gx_flT 0).find? (fun e => e.1 == 31 && e.2.1 == 0) = some (31, 0, 15, 0) := rfl
theorem gf_0_151_1 : (gx_flT 0).find? (fun e => e.1 == 151 && e.2.1 == 1) = some (151, 1, 10, 1) := rfl
theorem gf_0_148_1 : (gx_flT 0).find? (fun e => e.1 == 148 && e.2.1 == 1) = some (148, 1, 9, 1) := rfl
theorem gb_0_221 : (gx_bT 0).find? (fun e => e.1 == 221) = some (221, 1) := rfl
theorem gbn_0_227 : (gx_bT 0).find? (fun e => e.1 == 227) = none := rfl
theorem gvn_0_227 : gx_vn 0 227 = some 2 := rfl
theorem gv_0_227_0 : (gx_vT 0).find? (fun e => e.1 == 227 && e.2.1 == 0) = some (227, 0, 0, 2, mX0_setsRising) := rfl
theorem gbn_0_95 : (gx_bT 0).find? (fun e => e.1 == 95) = none := rfl
theorem gs_0_95 : (gx_sT 0).find? (fun e => e.1 == 95) = some (95, 0, 3, mX0_isIn) := rfl
theorem gw_X0_end_X0_isIn : gx_lower mX0_end mX0_isIn = mX0_isIn := if_neg (by decide +kernel)
theorem gbn_0_179 : (gx_bT 0).find? (fun e => e.1 == 179) = none := rfl
theorem gvn_0_179 : gx_vn 0 179 = some 1 := rfl
theorem gv_0_179_1 : (gx_vT 0).find? (fun e => e.1 == 179 && e.2.1 == 1) = some (179, 1, 0, 1, mX1_place) := rfl
theorem gbn_0_91 : (gx_bT 0).find? (fun e => e.1 == 91) = none := rfl
theorem gvn_0_91 : gx_vn 0 91 = some 1 := rfl
theorem gv_0_91_0 : (gx_vT 0).find? (fun e => e.1 == 91 && e.2.1 == 0) = some (91, 0, 0, 1, mX0_puts) := rfl
theorem gw_X0_isEntry_X0_isIn : gx_lower mX0_isEntry mX0_isIn = mX0_isIn := if_neg (by decide +kernel)
theorem gw_X0_isInk_X0_isIn : gx_lower mX0_isInk mX0_isIn = mX0_isIn := if_neg (by decide +kernel)
theorem gj_0_136 : (gx_jT 0).find? (fun e => e.1 == 136) = some (136, (3 : Int64)) := rfl
theorem gw_X0_isLaw_X0_isIn : gx_lower mX0_isLaw mX0_isIn = mX0_isIn := if_neg (by decide +kernel)
theorem gw_X0_isOneOf_X0_isIn : gx_lower mX0_isOneOf mX0_isIn = mX0_isIn := if_neg (by decide +kernel)
theorem gw_X0_isPage_X0_isIn : gx_lower mX0_isPage mX0_isIn = mX0_isIn := if_neg (by decide +kernel)
theorem gj_0_138 : (gx_jT 0).find? (fun e => e.1 == 138) = some (138, (2000000000 : Int64)) := rfl
theorem gw_X0_isSeed_X0_isIn : gx_lower mX0_isSeed mX0_isIn = mX0_isIn := if_neg (by decide +kernel)
theorem gw_X0_isSlot_X0_isIn : gx_lower mX0_isSlot mX0_isIn = mX0_isIn := if_neg (by decide +kernel)
theorem gw_X0_isYear_X0_isIn : gx_lower mX0_isYear mX0_isIn = mX0_isIn := if_neg (by decide +kernel)
theorem gf_0_176_1 : (gx_flT 0).find? (fun e => e.1 == 176 && e.2.1 == 1) = some (176, 1, 15, 1) := rfl
theorem gbn_0_331 : (gx_bT 0).find? (fun e => e.1 == 331) = none := rfl
theorem gvn_0_331 : gx_vn 0 331 = some 1 := rfl
theorem gv_0_331_6 : (gx_vT 0).find? (fun e => e.1 == 331 && e.2.1 == 6) = some (331, 6, 0, 1, mX6_at) := rfl
theorem gbn_0_380 : (gx_bT 0).find? (fun e => e.1 == 380) = none := rfl
theorem gs_0_380 : (gx_sT 0).find? (fun e => e.1 == 380) = some (380, 0, 2, mX0_divisor) := rfl
theorem gw_X0_part_X0_divisor : gx_lower mX0_part mX0_divisor = mX0_divisor := if_neg (by decide +kernel)
theorem gbn_0_254 : (gx_bT 0).find? (fun e => e.1 == 254) = none := rfl
theorem gs_0_254 : (gx_sT 0).find? (fun e => e.1 == 254) = some (254, 0, 2, mX0_isOf) := rfl
theorem gw_X0_pure_X0_isOf : gx_lower mX0_pure mX0_isOf = mX0_isOf := if_neg (by decide +kernel)
theorem gf_0_154_1 : (gx_flT 0).find? (fun e => e.1 == 154 && e.2.1 == 1) = some (154, 1, 11, 1) := rfl
theorem gbn_0_308 : (gx_bT 0).find? (fun e => e.1 == 308) = none := rfl
theorem gs_0_308 : (gx_sT 0).find? (fun e => e.1 == 308) = some (308, 0, 1, mJ10_signum) := rfl
theorem gw_X0_sign_J10_signum : gx_lower mX0_sign mJ10_signum = mJ10_signum := if_neg (by decide +kernel)
theorem gw_X0_sortsOf_X0_isOf : gx_lower mX0_sortsOf mX0_isOf = mX0_isOf := if_neg (by decide +kernel)
theorem gbn_0_243 : (gx_bT 0).find? (fun e => e.1 == 243) = none := rfl
theorem gvn_0_243 : gx_vn 0 243 = some 2 := rfl
theorem gv_0_243_0 : (gx_vT 0).find? (fun e => e.1 == 243 && e.2.1 == 0) = some (243, 0, 0, 2, mX0_isThere) := rfl
theorem gn_1_10 : (gx_nT 1).find? (fun e => e.1 == 10) = some (10, 1) := rfl
theorem gbn_1_36 : (gx_bT 1).find? (fun e => e.1 == 36) = none := rfl
theorem gp_1_36 : (gx_pT 1).find? (fun e => e.1 == 36) = some (36, 0, 0, mX1_init) := rfl
theorem gf_1_37_1 : (gx_flT 1).find? (fun e => e.1 == 37 && e.2.1 == 1) = some (37, 1, 0, 0) := rfl
theorem gf_2_15_0 : (gx_flT 2).find? (fun e => e.1 == 15 && e.2.1 == 0) = some (15, 0, 0, 1) := rfl
theorem gf_2_19_1 : (gx_flT 2).find? (fun e => e.1 == 19 && e.2.1 == 1) = some (19, 1, 11, 1) := rfl
theorem gf_2_25_0 : (gx_flT 2).find? (fun e => e.1 == 25 && e.2.1 == 0) = some (25, 0, 17, 1) := rfl
theorem gf_2_28_0 : (gx_flT 2).find? (fun e => e.1 == 28 && e.2.1 == 0) = some (28, 0, 8, 1) := rfl
theorem gbn_2_32 : (gx_bT 2).find? (fun e => e.1 == 32) = none := rfl
theorem gs_2_32 : (gx_sT 2).find? (fun e => e.1 == 32) = some (32, 1, 2, mX0_isOf) := rfl
theorem gw_X2_less_X0_isOf : gx_lower mX2_less mX0_isOf = mX0_isOf := if_neg (by decide +kernel)
theorem gf_3_1_3 : (gx_flT 3).find? (fun e => e.1 == 1 && e.2.1 == 3) = some (1, 3, 1, 0) := rfl
theorem gbn_3_7 : (gx_bT 3).find? (fun e => e.1 == 7) = none := rfl
theorem gp_3_7 : (gx_pT 3).find? (fun e => e.1 == 7) = some (7, 1, 1, mX2_init) := rfl
theorem gf_4_3_4 : (gx_flT 4).find? (fun e => e.1 == 3 && e.2.1 == 4) = some (3, 4, 1, 0) := rfl
theorem gbn_4_9 : (gx_bT 4).find? (fun e => e.1 == 9) = none := rfl
theorem gp_4_9 : (gx_pT 4).find? (fun e => e.1 == 9) = some (9, 1, 1, mX2_init) := rfl
theorem gf_5_1_5 : (gx_flT 5).find? (fun e => e.1 == 1 && e.2.1 == 5) = some (1, 5, 1, 0) := rfl
theorem gbn_5_7 : (gx_bT 5).find? (fun e => e.1 == 7) = none := rfl
theorem gp_5_7 : (gx_pT 5).find? (fun e => e.1 == 7) = some (7, 1, 1, mX2_init) := rfl
theorem gbn_7_236 : (gx_bT 7).find? (fun e => e.1 == 236) = none := rfl
theorem gvn_7_236 : gx_vn 7 236 = some 0 := rfl
theorem gv_7_236_7 : (gx_vT 7).find? (fun e => e.1 == 236 && e.2.1 == 7) = some (236, 7, 0, 0, mX7_entries) := rfl
theorem gbn_7_283 : (gx_bT 7).find? (fun e => e.1 == 283) = none := rfl
theorem gvn_7_283 : gx_vn 7 283 = some 2 := rfl
theorem gv_7_283_7 : (gx_vT 7).find? (fun e => e.1 == 283 && e.2.1 == 7) = some (283, 7, 0, 2, mX7_shadeOf) := rfl
theorem gbn_7_277 : (gx_bT 7).find? (fun e => e.1 == 277) = none := rfl
theorem gs_7_277 : (gx_sT 7).find? (fun e => e.1 == 277) = some (277, 0, 2, mX7_lessOf) := rfl
theorem gw_X7_alone_X7_lessOf : gx_lower mX7_alone mX7_lessOf = mX7_lessOf := if_neg (by decide +kernel)
theorem gbn_7_286 : (gx_bT 7).find? (fun e => e.1 == 286) = none := rfl
theorem gs_7_286 : (gx_sT 7).find? (fun e => e.1 == 286) = some (286, 0, 5, mX7_fadeBy) := rfl
theorem gw_X7_alone_X7_fadeBy : gx_lower mX7_alone mX7_fadeBy = mX7_fadeBy := if_neg (by decide +kernel)
theorem gbn_7_280 : (gx_bT 7).find? (fun e => e.1 == 280) = none := rfl
theorem gs_7_280 : (gx_sT 7).find? (fun e => e.1 == 280) = some (280, 0, 2, mX7_moreOf) := rfl
theorem gw_X7_alone_X7_moreOf : gx_lower mX7_alone mX7_moreOf = mX7_moreOf := if_neg (by decide +kernel)
theorem gbn_7_240 : (gx_bT 7).find? (fun e => e.1 == 240) = none := rfl
theorem gvn_7_240 : gx_vn 7 240 = some 0 := rfl
theorem gv_7_240_7 : (gx_vT 7).find? (fun e => e.1 == 240 && e.2.1 == 7) = some (240, 7, 0, 0, mX7_isBook) := rfl
theorem gw_X7_begin0_X7_lessOf : gx_lower mX7_begin0 mX7_lessOf = mX7_lessOf := if_neg (by decide +kernel)
theorem gw_X7_bleach0_X7_moreOf : gx_lower mX7_bleach0 mX7_moreOf = mX7_moreOf := if_neg (by decide +kernel)
theorem gbn_7_169 : (gx_bT 7).find? (fun e => e.1 == 169) = none := rfl
theorem gvn_7_169 : gx_vn 7 169 = some 2 := rfl
theorem gv_7_169_7 : (gx_vT 7).find? (fun e => e.1 == 169 && e.2.1 == 7) = some (169, 7, 0, 2, mX7_tells) := rfl
theorem gbn_7_232 : (gx_bT 7).find? (fun e => e.1 == 232) = none := rfl
theorem gs_7_232 : (gx_sT 7).find? (fun e => e.1 == 232) = some (232, 0, 4, mX7_copyRow) := rfl
theorem gw_X7_copyBook_X7_copyRow : gx_lower mX7_copyBook mX7_copyRow = mX7_copyRow := if_neg (by decide +kernel)
theorem gj_7_455 : (gx_jT 7).find? (fun e => e.1 == 455) = some (455, (6 : Int64)) := rfl
theorem gbn_7_79 : (gx_bT 7).find? (fun e => e.1 == 79) = none := rfl
theorem gs_7_79 : (gx_sT 7).find? (fun e => e.1 == 79) = some (79, 0, 3, mX7_in) := rfl
theorem gw_X7_count_X7_in : gx_lower mX7_count mX7_in = mX7_in := if_neg (by decide +kernel)
theorem gt_X7_count_27_7 : ∀ x : Int32, x = (7 : Int32) → ¬ (x.toInt < 7 ∨ 9 < x.toInt) ∧ (#[25, 32, 37] : Array Int)[(x.toInt - 7).toNat]? = some (25) := by intro x hx; subst hx; exact ⟨by decide, by decide⟩
theorem gt_X7_count_27_8 : ∀ x : Int32, x = (8 : Int32) → ¬ (x.toInt < 7 ∨ 9 < x.toInt) ∧ (#[25, 32, 37] : Array Int)[(x.toInt - 7).toNat]? = some (32) := by intro x hx; subst hx; exact ⟨by decide, by decide⟩
theorem gt_X7_count_27_9 : ∀ x : Int32, x = (9 : Int32) → ¬ (x.toInt < 7 ∨ 9 < x.toInt) ∧ (#[25, 32, 37] : Array Int)[(x.toInt - 7).toNat]? = some (37) := by intro x hx; subst hx; exact ⟨by decide, by decide⟩
theorem gw_X7_end_X7_in : gx_lower mX7_end mX7_in = mX7_in := if_neg (by decide +kernel)
theorem gbn_7_270 : (gx_bT 7).find? (fun e => e.1 == 270) = none := rfl
theorem gvn_7_270 : gx_vn 7 270 = some 1 := rfl
theorem gv_7_270_7 : (gx_vT 7).find? (fun e => e.1 == 270 && e.2.1 == 7) = some (270, 7, 0, 1, mX7_placeOf) := rfl
theorem gbn_7_94 : (gx_bT 7).find? (fun e => e.1 == 94) = none := rfl
theorem gvn_7_94 : gx_vn 7 94 = some 1 := rfl
theorem gv_7_94_7 : (gx_vT 7).find? (fun e => e.1 == 94 && e.2.1 == 7) = some (94, 7, 0, 1, mX7_four) := rfl
theorem gw_X7_isEntry_X7_in : gx_lower mX7_isEntry mX7_in = mX7_in := if_neg (by decide +kernel)
theorem gw_X7_isHalf_X7_in : gx_lower mX7_isHalf mX7_in = mX7_in := if_neg (by decide +kernel)
theorem gw_X7_isInk_X7_in : gx_lower mX7_isInk mX7_in = mX7_in := if_neg (by decide +kernel)
theorem gw_X7_isPage_X7_in : gx_lower mX7_isPage mX7_in = mX7_in := if_neg (by decide +kernel)
theorem gj_7_443 : (gx_jT 7).find? (fun e => e.1 == 443) = some (443, (2000000000 : Int64)) := rfl
theorem gw_X7_isSeed_X7_in : gx_lower mX7_isSeed mX7_in = mX7_in := if_neg (by decide +kernel)
theorem gj_7_77 : (gx_jT 7).find? (fun e => e.1 == 77) = some (77, (3 : Int64)) := rfl
theorem gw_X7_isSlot_X7_in : gx_lower mX7_isSlot mX7_in = mX7_in := if_neg (by decide +kernel)
theorem gbn_7_243 : (gx_bT 7).find? (fun e => e.1 == 243) = none := rfl
theorem gvn_7_243 : gx_vn 7 243 = some 0 := rfl
theorem gv_7_243_7 : (gx_vT 7).find? (fun e => e.1 == 243 && e.2.1 == 7) = some (243, 7, 0, 0, mX7_years) := rfl
theorem gw_X7_isSoon_X7_lessOf : gx_lower mX7_isSoon mX7_lessOf = mX7_lessOf := if_neg (by decide +kernel)
theorem gw_X7_isSoon_X7_in : gx_lower mX7_isSoon mX7_in = mX7_in := if_neg (by decide +kernel)
theorem gf_7_258_7 : (gx_flT 7).find? (fun e => e.1 == 258 && e.2.1 == 7) = some (258, 7, 25, 0) := rfl
theorem gbn_7_273 : (gx_bT 7).find? (fun e => e.1 == 273) = none := rfl
theorem gs_7_273 : (gx_sT 7).find? (fun e => e.1 == 273) = some (273, 0, 2, mX7_isBit) := rfl
theorem gw_X7_isThere_X7_isBit : gx_lower mX7_isThere mX7_isBit = mX7_isBit := if_neg (by decide +kernel)
theorem gw_X7_isYear_X7_in : gx_lower mX7_isYear mX7_in = mX7_in := if_neg (by decide +kernel)
theorem gf_7_252_7 : (gx_flT 7).find? (fun e => e.1 == 252 && e.2.1 == 7) = some (252, 7, 23, 0) := rfl
theorem gf_7_255_7 : (gx_flT 7).find? (fun e => e.1 == 255 && e.2.1 == 7) = some (255, 7, 24, 0) := rfl
theorem gf_7_261_7 : (gx_flT 7).find? (fun e => e.1 == 261 && e.2.1 == 7) = some (261, 7, 26, 0) := rfl
theorem gf_7_264_7 : (gx_flT 7).find? (fun e => e.1 == 264 && e.2.1 == 7) = some (264, 7, 28, 0) := rfl
theorem gf_7_267_7 : (gx_flT 7).find? (fun e => e.1 == 267 && e.2.1 == 7) = some (267, 7, 29, 0) := rfl
theorem gf_7_98_7 : (gx_flT 7).find? (fun e => e.1 == 98 && e.2.1 == 7) = some (98, 7, 7, 0) := rfl
theorem gbn_7_101 : (gx_bT 7).find? (fun e => e.1 == 101) = none := rfl
theorem gvn_7_101 : gx_vn 7 101 = some 3 := rfl
theorem gv_7_101_7 : (gx_vT 7).find? (fun e => e.1 == 101 && e.2.1 == 7) = some (101, 7, 0, 3, mX7_isByte) := rfl
theorem gj_7_120 : (gx_jT 7).find? (fun e => e.1 == 120) = some (120, (27 : Int64)) := rfl
theorem gj_7_122 : (gx_jT 7).find? (fun e => e.1 == 122) = some (122, (96 : Int64)) := rfl
theorem gj_7_118 : (gx_jT 7).find? (fun e => e.1 == 118) = some (118, (-1 : Int64)) := rfl
theorem gf_7_108_7 : (gx_flT 7).find? (fun e => e.1 == 108 && e.2.1 == 7) = some (108, 7, 10, 0) := rfl
theorem gl_7_124 : (gx_lT 7).find? (fun e => e.1 == 124) = some (124, .int 100000) := rfl
theorem gl_7_125 : (gx_lT 7).find? (fun e => e.1 == 125) = some (125, .int 1000000) := rfl
theorem gf_8_41_8 : (gx_flT 8).find? (fun e => e.1 == 41 && e.2.1 == 8) = some (41, 8, 2, 0) := rfl
theorem gf_8_19_8 : (gx_flT 8).find? (fun e => e.1 == 19 && e.2.1 == 8) = some (19, 8, 0, 0) := rfl
theorem gf_8_3_8 : (gx_flT 8).find? (fun e => e.1 == 3 && e.2.1 == 8) = some (3, 8, 6, 0) := rfl
theorem gf_8_44_0 : (gx_flT 8).find? (fun e => e.1 == 44 && e.2.1 == 0) = some (44, 0, 1, 1) := rfl
theorem gbn_8_48 : (gx_bT 8).find? (fun e => e.1 == 48) = none := rfl
theorem gs_8_48 : (gx_sT 8).find? (fun e => e.1 == 48) = some (48, 1, 3, mX0_isIn) := rfl
theorem gw_X8_isNext_X0_isIn : gx_lower mX8_isNext mX0_isIn = mX0_isIn := if_neg (by decide +kernel)
theorem gbn_11_129 : (gx_bT 11).find? (fun e => e.1 == 129) = none := rfl
theorem gvn_11_129 : gx_vn 11 129 = some 0 := rfl
theorem gv_11_129_10 : (gx_vT 11).find? (fun e => e.1 == 129 && e.2.1 == 10) = some (129, 10, 0, 0, mJ2_grow) := rfl
theorem gbn_11_118 : (gx_bT 11).find? (fun e => e.1 == 118) = none := rfl
theorem gs_11_118 : (gx_sT 11).find? (fun e => e.1 == 118) = some (118, 0, 2, mJ15_checkIndex) := rfl
theorem gw_J2_get_J15_checkIndex : gx_lower mJ2_get mJ15_checkIndex = mJ15_checkIndex := if_neg (by decide +kernel)
theorem gbn_11_123 : (gx_bT 11).find? (fun e => e.1 == 123) = none := rfl
theorem gvn_11_123 : gx_vn 11 123 = some 1 := rfl
theorem gv_11_123_10 : (gx_vT 11).find? (fun e => e.1 == 123 && e.2.1 == 10) = some (123, 10, 0, 1, mJ2_elementData) := rfl
theorem gbn_11_1 : (gx_bT 11).find? (fun e => e.1 == 1) = none := rfl
theorem gp_11_1 : (gx_pT 11).find? (fun e => e.1 == 1) = some (1, 0, 0, mJ1_init) := rfl
theorem gw_J2_set_J15_checkIndex : gx_lower mJ2_set mJ15_checkIndex = mJ15_checkIndex := if_neg (by decide +kernel)
theorem gbn_15_9 : (gx_bT 15).find? (fun e => e.1 == 9) = none := rfl
theorem gs_15_9 : (gx_sT 15).find? (fun e => e.1 == 9) = some (9, 0, 2, mJ4_checkIndex) := rfl
theorem gw_J5_charAt_J4_checkIndex : gx_lower mJ5_charAt mJ4_checkIndex = mJ4_checkIndex := if_neg (by decide +kernel)
theorem gf_0_240_1 : (gx_flT 0).find? (fun e => e.1 == 240 && e.2.1 == 1) = some (240, 1, 16, 1) := rfl
theorem gbn_0_251 : (gx_bT 0).find? (fun e => e.1 == 251) = none := rfl
theorem gvn_0_251 : gx_vn 0 251 = some 1 := rfl
theorem gv_0_251_0 : (gx_vT 0).find? (fun e => e.1 == 251 && e.2.1 == 0) = some (251, 0, 0, 1, mX0_bleach) := rfl
theorem gl_0_246 : (gx_lT 0).find? (fun e => e.1 == 246) = some (246, .int 100000) := rfl
theorem gbn_0_247 : (gx_bT 0).find? (fun e => e.1 == 247) = none := rfl
theorem gvn_0_247 : gx_vn 0 247 = some 2 := rfl
theorem gv_0_247_0 : (gx_vT 0).find? (fun e => e.1 == 247 && e.2.1 == 0) = some (247, 0, 0, 2, mX0_begins) := rfl
theorem gbn_0_140 : (gx_bT 0).find? (fun e => e.1 == 140) = none := rfl
theorem gvn_0_140 : gx_vn 0 140 = some 1 := rfl
theorem gv_0_140_0 : (gx_vT 0).find? (fun e => e.1 == 140 && e.2.1 == 0) = some (140, 0, 0, 1, mX0_isInk) := rfl
theorem gbn_0_325 : (gx_bT 0).find? (fun e => e.1 == 325) = none := rfl
theorem gvn_0_325 : gx_vn 0 325 = some 4 := rfl
theorem gv_0_325_0 : (gx_vT 0).find? (fun e => e.1 == 325 && e.2.1 == 0) = some (325, 0, 0, 4, mX0_pure) := rfl
theorem gbn_0_157 : (gx_bT 0).find? (fun e => e.1 == 157) = none := rfl
theorem gvn_0_157 : gx_vn 0 157 = some 1 := rfl
theorem gv_0_157_0 : (gx_vT 0).find? (fun e => e.1 == 157 && e.2.1 == 0) = some (157, 0, 0, 1, mX0_isPage) := rfl
theorem gj_0_329 : (gx_jT 0).find? (fun e => e.1 == 329) = some (329, (60 : Int64)) := rfl
theorem gw_X0_ages_X0_isIn : gx_lower mX0_ages mX0_isIn = mX0_isIn := if_neg (by decide +kernel)
theorem gbn_0_277 : (gx_bT 0).find? (fun e => e.1 == 277) = none := rfl
theorem gvn_0_277 : gx_vn 0 277 = some 1 := rfl
theorem gv_0_277_0 : (gx_vT 0).find? (fun e => e.1 == 277 && e.2.1 == 0) = some (277, 0, 0, 1, mX0_isYear) := rfl
theorem gbn_0_298 : (gx_bT 0).find? (fun e => e.1 == 298) = none := rfl
theorem gvn_0_298 : gx_vn 0 298 = some 1 := rfl
theorem gv_0_298_0 : (gx_vT 0).find? (fun e => e.1 == 298 && e.2.1 == 0) = some (298, 0, 0, 1, mX0_allIn) := rfl
theorem gbn_0_335 : (gx_bT 0).find? (fun e => e.1 == 335) = none := rfl
theorem gs_0_335 : (gx_sT 0).find? (fun e => e.1 == 335) = some (335, 0, 1, mX0_isSlot) := rfl
theorem gw_X0_asksSeen_X0_isSlot : gx_lower mX0_asksSeen mX0_isSlot = mX0_isSlot := if_neg (by decide +kernel)
theorem gbn_0_338 : (gx_bT 0).find? (fun e => e.1 == 338) = none := rfl
theorem gvn_0_338 : gx_vn 0 338 = some 0 := rfl
theorem gv_0_338_6 : (gx_vT 0).find? (fun e => e.1 == 338 && e.2.1 == 6) = some (338, 6, 0, 0, mX6_size) := rfl
theorem gbn_0_268 : (gx_bT 0).find? (fun e => e.1 == 268) = none := rfl
theorem gvn_0_268 : gx_vn 0 268 = some 0 := rfl
theorem gv_0_268_0 : (gx_vT 0).find? (fun e => e.1 == 268 && e.2.1 == 0) = some (268, 0, 0, 0, mX0_asItIs) := rfl
theorem gbn_0_163 : (gx_bT 0).find? (fun e => e.1 == 163) = none := rfl
theorem gvn_0_163 : gx_vn 0 163 = some 1 := rfl
theorem gv_0_163_0 : (gx_vT 0).find? (fun e => e.1 == 163 && e.2.1 == 0) = some (163, 0, 0, 1, mX0_isEntry) := rfl
theorem gw_X0_asksSeen_X0_isIn : gx_lower mX0_asksSeen mX0_isIn = mX0_isIn := if_neg (by decide +kernel)
theorem gt_X0_entry_13_0 : ∀ x : Int32, x = (0 : Int32) → ¬ (x.toInt < 0 ∨ 4 < x.toInt) ∧ (#[35, 45, 55, 65, 75] : Array Int)[(x.toInt - 0).toNat]? = some (35) := by intro x hx; subst hx; exact ⟨by decide, by decide⟩
theorem gt_X0_entry_13_1 : ∀ x : Int32, x = (1 : Int32) → ¬ (x.toInt < 0 ∨ 4 < x.toInt) ∧ (#[35, 45, 55, 65, 75] : Array Int)[(x.toInt - 0).toNat]? = some (45) := by intro x hx; subst hx; exact ⟨by decide, by decide⟩
theorem gt_X0_entry_13_2 : ∀ x : Int32, x = (2 : Int32) → ¬ (x.toInt < 0 ∨ 4 < x.toInt) ∧ (#[35, 45, 55, 65, 75] : Array Int)[(x.toInt - 0).toNat]? = some (55) := by intro x hx; subst hx; exact ⟨by decide, by decide⟩
theorem gt_X0_entry_13_3 : ∀ x : Int32, x = (3 : Int32) → ¬ (x.toInt < 0 ∨ 4 < x.toInt) ∧ (#[35, 45, 55, 65, 75] : Array Int)[(x.toInt - 0).toNat]? = some (65) := by intro x hx; subst hx; exact ⟨by decide, by decide⟩
theorem gt_X0_entry_13_4 : ∀ x : Int32, x = (4 : Int32) → ¬ (x.toInt < 0 ∨ 4 < x.toInt) ∧ (#[35, 45, 55, 65, 75] : Array Int)[(x.toInt - 0).toNat]? = some (75) := by intro x hx; subst hx; exact ⟨by decide, by decide⟩
theorem gbn_0_185 : (gx_bT 0).find? (fun e => e.1 == 185) = none := rfl
theorem gvn_0_185 : gx_vn 0 185 = some 1 := rfl
theorem gv_0_185_0 : (gx_vT 0).find? (fun e => e.1 == 185 && e.2.1 == 0) = some (185, 0, 0, 1, mX0_facing) := rfl
theorem gbn_0_144 : (gx_bT 0).find? (fun e => e.1 == 144) = none := rfl
theorem gs_0_144 : (gx_sT 0).find? (fun e => e.1 == 144) = some (144, 0, 2, mX0_isOneOf) := rfl
theorem gw_X0_ink_X0_isOneOf : gx_lower mX0_ink mX0_isOneOf = mX0_isOneOf := if_neg (by decide +kernel)
theorem gj_0_413 : (gx_jT 0).find? (fun e => e.1 == 413) = some (413, (8 : Int64)) := rfl
theorem gw_X0_isChance_X0_isIn : gx_lower mX0_isChance mX0_isIn = mX0_isIn := if_neg (by decide +kernel)
theorem gbn_0_182 : (gx_bT 0).find? (fun e => e.1 == 182) = none := rfl
theorem gvn_0_182 : gx_vn 0 182 = some 1 := rfl
theorem gv_0_182_0 : (gx_vT 0).find? (fun e => e.1 == 182 && e.2.1 == 0) = some (182, 0, 0, 1, mX0_onPage) := rfl
theorem gw_X0_paste_X0_isSlot : gx_lower mX0_paste mX0_isSlot = mX0_isSlot := if_neg (by decide +kernel)
theorem gj_0_320 : (gx_jT 0).find? (fun e => e.1 == 320) = some (320, (20 : Int64)) := rfl
theorem gw_X0_rate_X0_isIn : gx_lower mX0_rate mX0_isIn = mX0_isIn := if_neg (by decide +kernel)
theorem gw_X0_row_X0_isSlot : gx_lower mX0_row mX0_isSlot = mX0_isSlot := if_neg (by decide +kernel)
theorem gw_X0_row_X0_isIn : gx_lower mX0_row mX0_isIn = mX0_isIn := if_neg (by decide +kernel)
theorem gbn_0_469 : (gx_bT 0).find? (fun e => e.1 == 469) = none := rfl
theorem gvn_0_469 : gx_vn 0 469 = some 2 := rfl
theorem gv_0_469_6 : (gx_vT 0).find? (fun e => e.1 == 469 && e.2.1 == 6) = some (469, 6, 0, 2, mX6_make) := rfl
theorem gw_X0_write_X0_isSlot : gx_lower mX0_write mX0_isSlot = mX0_isSlot := if_neg (by decide +kernel)
theorem gbn_0_474 : (gx_bT 0).find? (fun e => e.1 == 474) = none := rfl
theorem gvn_0_474 : gx_vn 0 474 = some 2 := rfl
theorem gv_0_474_6 : (gx_vT 0).find? (fun e => e.1 == 474 && e.2.1 == 6) = some (474, 6, 0, 2, mX6_put) := rfl
theorem gbn_3_13 : (gx_bT 3).find? (fun e => e.1 == 13) = none := rfl
theorem gp_3_13 : (gx_pT 3).find? (fun e => e.1 == 13) = some (13, 2, 2, mX2_less) := rfl
theorem gf_3_17_0 : (gx_flT 3).find? (fun e => e.1 == 17 && e.2.1 == 0) = some (17, 0, 7, 1) := rfl
theorem gf_3_23_0 : (gx_flT 3).find? (fun e => e.1 == 23 && e.2.1 == 0) = some (23, 0, 0, 1) := rfl
theorem gf_3_27_1 : (gx_flT 3).find? (fun e => e.1 == 27 && e.2.1 == 1) = some (27, 1, 12, 1) := rfl
theorem gbn_3_33 : (gx_bT 3).find? (fun e => e.1 == 33) = none := rfl
theorem gs_3_33 : (gx_sT 3).find? (fun e => e.1 == 33) = some (33, 1, 2, mX0_isOf) := rfl
theorem gw_X3_less_X0_isOf : gx_lower mX3_less mX0_isOf = mX0_isOf := if_neg (by decide +kernel)
theorem gf_3_37_1 : (gx_flT 3).find? (fun e => e.1 == 37 && e.2.1 == 1) = some (37, 1, 11, 1) := rfl
theorem gf_3_40_0 : (gx_flT 3).find? (fun e => e.1 == 40 && e.2.1 == 0) = some (40, 0, 17, 1) := rfl
theorem gbn_4_15 : (gx_bT 4).find? (fun e => e.1 == 15) = none := rfl
theorem gvn_4_15 : gx_vn 4 15 = some 1 := rfl
theorem gv_4_15_0 : (gx_vT 4).find? (fun e => e.1 == 15 && e.2.1 == 0) = some (15, 0, 1, 1, mX0_facing) := rfl
theorem gbn_4_27 : (gx_bT 4).find? (fun e => e.1 == 27) = none := rfl
theorem gp_4_27 : (gx_pT 4).find? (fun e => e.1 == 27) = some (27, 2, 2, mX2_more) := rfl
theorem gbn_4_19 : (gx_bT 4).find? (fun e => e.1 == 19) = none := rfl
theorem gvn_4_19 : gx_vn 4 19 = some 2 := rfl
theorem gv_4_19_0 : (gx_vT 4).find? (fun e => e.1 == 19 && e.2.1 == 0) = some (19, 0, 1, 2, mX0_isThere) := rfl
theorem gf_4_23_0 : (gx_flT 4).find? (fun e => e.1 == 23 && e.2.1 == 0) = some (23, 0, 16, 1) := rfl
theorem gbn_5_13 : (gx_bT 5).find? (fun e => e.1 == 13) = none := rfl
theorem gp_5_13 : (gx_pT 5).find? (fun e => e.1 == 13) = some (13, 2, 2, mX2_less) := rfl
theorem gf_7_306_7 : (gx_flT 7).find? (fun e => e.1 == 306 && e.2.1 == 7) = some (306, 7, 30, 0) := rfl
theorem gbn_7_293 : (gx_bT 7).find? (fun e => e.1 == 293) = none := rfl
theorem gvn_7_293 : gx_vn 7 293 = some 2 := rfl
theorem gv_7_293_7 : (gx_vT 7).find? (fun e => e.1 == 293 && e.2.1 == 7) = some (293, 7, 0, 2, mX7_isThere) := rfl
theorem gf_7_303_7 : (gx_flT 7).find? (fun e => e.1 == 303 && e.2.1 == 7) = some (303, 7, 27, 0) := rfl
theorem gbn_7_300 : (gx_bT 7).find? (fun e => e.1 == 300) = none := rfl
theorem gvn_7_300 : gx_vn 7 300 = some 2 := rfl
theorem gv_7_300_7 : (gx_vT 7).find? (fun e => e.1 == 300 && e.2.1 == 7) = some (300, 7, 0, 2, mX7_bleach0) := rfl
theorem gbn_7_296 : (gx_bT 7).find? (fun e => e.1 == 296) = none := rfl
theorem gvn_7_296 : gx_vn 7 296 = some 3 := rfl
theorem gv_7_296_7 : (gx_vT 7).find? (fun e => e.1 == 296 && e.2.1 == 7) = some (296, 7, 0, 3, mX7_begin0) := rfl
theorem gbn_7_321 : (gx_bT 7).find? (fun e => e.1 == 321) = none := rfl
theorem gvn_7_321 : gx_vn 7 321 = some 1 := rfl
theorem gv_7_321_7 : (gx_vT 7).find? (fun e => e.1 == 321 && e.2.1 == 7) = some (321, 7, 0, 1, mX7_isInk) := rfl
theorem gbn_7_326 : (gx_bT 7).find? (fun e => e.1 == 326) = none := rfl
theorem gvn_7_326 : gx_vn 7 326 = some 1 := rfl
theorem gv_7_326_7 : (gx_vT 7).find? (fun e => e.1 == 326 && e.2.1 == 7) = some (326, 7, 0, 1, mX7_isPage) := rfl
theorem gbn_7_359 : (gx_bT 7).find? (fun e => e.1 == 359) = none := rfl
theorem gvn_7_359 : gx_vn 7 359 = some 4 := rfl
theorem gv_7_359_7 : (gx_vT 7).find? (fun e => e.1 == 359 && e.2.1 == 7) = some (359, 7, 0, 4, mX7_alone) := rfl
theorem gj_7_366 : (gx_jT 7).find? (fun e => e.1 == 366) = some (366, (60 : Int64)) := rfl
theorem gw_X7_ages_X7_in : gx_lower mX7_ages mX7_in = mX7_in := if_neg (by decide +kernel)
theorem gbn_7_249 : (gx_bT 7).find? (fun e => e.1 == 249) = none := rfl
theorem gvn_7_249 : gx_vn 7 249 = some 1 := rfl
theorem gv_7_249_7 : (gx_vT 7).find? (fun e => e.1 == 249 && e.2.1 == 7) = some (249, 7, 0, 1, mX7_isYear) := rfl
theorem gj_7_324 : (gx_jT 7).find? (fun e => e.1 == 324) = some (324, (2 : Int64)) := rfl
theorem gw_X7_back_X7_in : gx_lower mX7_back mX7_in = mX7_in := if_neg (by decide +kernel)
theorem gbn_7_229 : (gx_bT 7).find? (fun e => e.1 == 229) = none := rfl
theorem gvn_7_229 : gx_vn 7 229 = some 2 := rfl
theorem gv_7_229_7 : (gx_vT 7).find? (fun e => e.1 == 229 && e.2.1 == 7) = some (229, 7, 0, 2, mX7_copyBook) := rfl
theorem gbn_7_136 : (gx_bT 7).find? (fun e => e.1 == 136) = none := rfl
theorem gvn_7_136 : gx_vn 7 136 = some 0 := rfl
theorem gv_7_136_7 : (gx_vT 7).find? (fun e => e.1 == 136 && e.2.1 == 7) = some (136, 7, 0, 0, mX7_next) := rfl
theorem gbn_7_142 : (gx_bT 7).find? (fun e => e.1 == 142) = none := rfl
theorem gvn_7_142 : gx_vn 7 142 = some 1 := rfl
theorem gv_7_142_7 : (gx_vT 7).find? (fun e => e.1 == 142 && e.2.1 == 7) = some (142, 7, 0, 1, mX7_fails) := rfl
theorem gbn_7_246 : (gx_bT 7).find? (fun e => e.1 == 246) = none := rfl
theorem gvn_7_246 : gx_vn 7 246 = some 1 := rfl
theorem gv_7_246_7 : (gx_vT 7).find? (fun e => e.1 == 246 && e.2.1 == 7) = some (246, 7, 0, 1, mX7_isEntry) := rfl
theorem gj_7_329 : (gx_jT 7).find? (fun e => e.1 == 329) = some (329, (4 : Int64)) := rfl
theorem gw_X7_entry_X7_in : gx_lower mX7_entry mX7_in = mX7_in := if_neg (by decide +kernel)
theorem gbn_7_290 : (gx_bT 7).find? (fun e => e.1 == 290) = none := rfl
theorem gvn_7_290 : gx_vn 7 290 = some 1 := rfl
theorem gv_7_290_7 : (gx_vT 7).find? (fun e => e.1 == 290 && e.2.1 == 7) = some (290, 7, 0, 1, mX7_facing) := rfl
theorem gw_X7_image_X7_in : gx_lower mX7_image mX7_in = mX7_in := if_neg (by decide +kernel)
theorem gw_X7_ink_X7_in : gx_lower mX7_ink mX7_in = mX7_in := if_neg (by decide +kernel)
theorem gbn_7_156 : (gx_bT 7).find? (fun e => e.1 == 156) = none := rfl
theorem gvn_7_156 : gx_vn 7 156 = some 1 := rfl
theorem gv_7_156_7 : (gx_vT 7).find? (fun e => e.1 == 156 && e.2.1 == 7) = some (156, 7, 0, 1, mX7_hasRead) := rfl
theorem gw_X7_number_2_X7_in : gx_lower mX7_number_2 mX7_in = mX7_in := if_neg (by decide +kernel)
theorem gj_7_173 : (gx_jT 7).find? (fun e => e.1 == 173) = some (173, (79828 : Int64)) := rfl
theorem gbn_7_132 : (gx_bT 7).find? (fun e => e.1 == 132) = none := rfl
theorem gvn_7_132 : gx_vn 7 132 = some 1 := rfl
theorem gv_7_132_7 : (gx_vT 7).find? (fun e => e.1 == 132 && e.2.1 == 7) = some (132, 7, 0, 1, mX7_is) := rfl
theorem gbn_7_83 : (gx_bT 7).find? (fun e => e.1 == 83) = none := rfl
theorem gs_7_83 : (gx_sT 7).find? (fun e => e.1 == 83) = some (83, 0, 1, mX7_isSlot) := rfl
theorem gw_X7_paste_X7_isSlot : gx_lower mX7_paste mX7_isSlot = mX7_isSlot := if_neg (by decide +kernel)
theorem gj_7_396 : (gx_jT 7).find? (fun e => e.1 == 396) = some (396, (20 : Int64)) := rfl
theorem gw_X7_rate_X7_in : gx_lower mX7_rate mX7_in = mX7_in := if_neg (by decide +kernel)
theorem gw_X7_row_X7_isSlot : gx_lower mX7_row mX7_isSlot = mX7_isSlot := if_neg (by decide +kernel)
theorem gw_X7_row_X7_in : gx_lower mX7_row mX7_in = mX7_in := if_neg (by decide +kernel)
theorem gw_X7_sortsOf_X7_isBit : gx_lower mX7_sortsOf mX7_isBit = mX7_isBit := if_neg (by decide +kernel)
theorem gw_X7_steps_X7_fadeBy : gx_lower mX7_steps mX7_fadeBy = mX7_fadeBy := if_neg (by decide +kernel)
theorem gw_X7_steps_X7_lessOf : gx_lower mX7_steps mX7_lessOf = mX7_lessOf := if_neg (by decide +kernel)
theorem gw_X7_steps_X7_moreOf : gx_lower mX7_steps mX7_moreOf = mX7_moreOf := if_neg (by decide +kernel)
theorem gw_X7_whyNot_X7_isSlot : gx_lower mX7_whyNot mX7_isSlot = mX7_isSlot := if_neg (by decide +kernel)
theorem gw_X7_whyNot_X7_in : gx_lower mX7_whyNot mX7_in = mX7_in := if_neg (by decide +kernel)
theorem gw_X7_write_X7_isSlot : gx_lower mX7_write mX7_isSlot = mX7_isSlot := if_neg (by decide +kernel)
theorem gw_X7_write_X7_in : gx_lower mX7_write mX7_in = mX7_in := if_neg (by decide +kernel)
theorem gbn_7_87 : (gx_bT 7).find? (fun e => e.1 == 87) = none := rfl
theorem gs_7_87 : (gx_sT 7).find? (fun e => e.1 == 87) = some (87, 0, 2, mX7_cut) := rfl
theorem gw_X7_write_X7_cut : gx_lower mX7_write mX7_cut = mX7_cut := if_neg (by decide +kernel)
theorem gf_8_52_8 : (gx_flT 8).find? (fun e => e.1 == 52 && e.2.1 == 8) = some (52, 8, 3, 0) := rfl
theorem gg_8_29 : (gx_gT 8).find? (fun e => e.1 == 29) = some (29, 0) := rfl
theorem gf_8_35_8 : (gx_flT 8).find? (fun e => e.1 == 35 && e.2.1 == 8) = some (35, 8, 5, 0) := rfl
theorem gbn_8_55 : (gx_bT 8).find? (fun e => e.1 == 55) = none := rfl
theorem gvn_8_55 : gx_vn 8 55 = some 2 := rfl
theorem gv_8_55_8 : (gx_vT 8).find? (fun e => e.1 == 55 && e.2.1 == 8) = some (55, 8, 0, 2, mX8_isNext) := rfl
theorem gg_8_59 : (gx_gT 8).find? (fun e => e.1 == 59) = some (59, 1) := rfl
theorem gg_8_72 : (gx_gT 8).find? (fun e => e.1 == 72) = some (72, 2) := rfl
theorem gl_8_65 : (gx_lT 8).find? (fun e => e.1 == 65) = some (65, .int 99999) := rfl
theorem gf_8_62_8 : (gx_flT 8).find? (fun e => e.1 == 62 && e.2.1 == 8) = some (62, 8, 4, 0) := rfl
theorem gb_8_66 : (gx_bT 8).find? (fun e => e.1 == 66) = some (66, 1) := rfl
theorem gg_8_75 : (gx_gT 8).find? (fun e => e.1 == 75) = some (75, 3) := rfl
theorem gg_8_78 : (gx_gT 8).find? (fun e => e.1 == 78) = some (78, 4) := rfl
theorem gbn_9_1 : (gx_bT 9).find? (fun e => e.1 == 1) = none := rfl
theorem gp_9_1 : (gx_pT 9).find? (fun e => e.1 == 1) = some (1, 0, 4, mJ9_init) := rfl
theorem gf_9_7_9 : (gx_flT 9).find? (fun e => e.1 == 7 && e.2.1 == 9) = some (7, 9, 6, 0) := rfl
theorem gf_9_13_9 : (gx_flT 9).find? (fun e => e.1 == 13 && e.2.1 == 9) = some (13, 9, 7, 0) := rfl
theorem gf_11_63_10 : (gx_flT 11).find? (fun e => e.1 == 63 && e.2.1 == 10) = some (63, 10, 0, 0) := rfl
theorem gbn_11_131 : (gx_bT 11).find? (fun e => e.1 == 131) = none := rfl
theorem gvn_11_131 : gx_vn 11 131 = some 3 := rfl
theorem gv_11_131_10 : (gx_vT 11).find? (fun e => e.1 == 131 && e.2.1 == 10) = some (131, 10, 0, 3, mJ2_add_2) := rfl
theorem gbn_14_492 : (gx_bT 14).find? (fun e => e.1 == 492) = none := rfl
theorem gvn_14_492 : gx_vn 14 492 = some 0 := rfl
theorem gv_14_492_200 : (gx_vT 14).find? (fun e => e.1 == 492 && e.2.1 == 200) = some (492, 200, 0, 0, mJ4_isLatin1) := rfl
theorem gbn_14_495 : (gx_bT 14).find? (fun e => e.1 == 495) = none := rfl
theorem gs_14_495 : (gx_sT 14).find? (fun e => e.1 == 495) = some (495, 0, 2, mJ5_charAt) := rfl
theorem gw_J4_charAt_J5_charAt : gx_lower mJ4_charAt mJ5_charAt = mJ5_charAt := if_neg (by decide +kernel)
theorem gj_0_448 : (gx_jT 0).find? (fun e => e.1 == 448) = some (448, (2 : Int64)) := rfl
theorem gw_X0_back_X0_isIn : gx_lower mX0_back mX0_isIn = mX0_isIn := if_neg (by decide +kernel)
theorem gf_0_84_0 : (gx_flT 0).find? (fun e => e.1 == 84 && e.2.1 == 0) = some (84, 0, 31, 0) := rfl
theorem gbn_0_462 : (gx_bT 0).find? (fun e => e.1 == 462) = none := rfl
theorem gvn_0_462 : gx_vn 0 462 = some 0 := rfl
theorem gv_0_462_10 : (gx_vT 0).find? (fun e => e.1 == 462 && e.2.1 == 10) = some (462, 10, 0, 0, mJ2_isEmpty) := rfl
theorem gbn_0_465 : (gx_bT 0).find? (fun e => e.1 == 465) = none := rfl
theorem gvn_0_465 : gx_vn 0 465 = some 1 := rfl
theorem gv_0_465_10 : (gx_vT 0).find? (fun e => e.1 == 465 && e.2.1 == 10) = some (465, 10, 0, 1, mJ2_get) := rfl
theorem gw_X0_goesOn_X0_isOf : gx_lower mX0_goesOn mX0_isOf = mX0_isOf := if_neg (by decide +kernel)
theorem gbn_0_257 : (gx_bT 0).find? (fun e => e.1 == 257) = none := rfl
theorem gvn_0_257 : gx_vn 0 257 = some 2 := rfl
theorem gv_0_257_2 : (gx_vT 0).find? (fun e => e.1 == 257 && e.2.1 == 2) = some (257, 2, 0, 2, mX2_less) := rfl
theorem gv_0_257_3 : (gx_vT 0).find? (fun e => e.1 == 257 && e.2.1 == 3) = some (257, 3, 3, 2, mX3_less) := rfl
theorem gv_0_257_4 : (gx_vT 0).find? (fun e => e.1 == 257 && e.2.1 == 4) = some (257, 4, 2, 2, mX2_less) := rfl
theorem gv_0_257_5 : (gx_vT 0).find? (fun e => e.1 == 257 && e.2.1 == 5) = some (257, 5, 3, 2, mX5_less) := rfl
theorem gbn_0_260 : (gx_bT 0).find? (fun e => e.1 == 260) = none := rfl
theorem gvn_0_260 : gx_vn 0 260 = some 2 := rfl
theorem gv_0_260_2 : (gx_vT 0).find? (fun e => e.1 == 260 && e.2.1 == 2) = some (260, 2, 0, 2, mX2_more) := rfl
theorem gv_0_260_3 : (gx_vT 0).find? (fun e => e.1 == 260 && e.2.1 == 3) = some (260, 3, 2, 2, mX2_more) := rfl
theorem gv_0_260_4 : (gx_vT 0).find? (fun e => e.1 == 260 && e.2.1 == 4) = some (260, 4, 3, 2, mX4_more) := rfl
theorem gv_0_260_5 : (gx_vT 0).find? (fun e => e.1 == 260 && e.2.1 == 5) = some (260, 5, 2, 2, mX2_more) := rfl
theorem gb_0_1 : (gx_bT 0).find? (fun e => e.1 == 1) = some (1, 5) := rfl
theorem gn_0_7 : (gx_nT 0).find? (fun e => e.1 == 7) = some (7, 1) := rfl
theorem gbn_0_9 : (gx_bT 0).find? (fun e => e.1 == 9) = none := rfl
theorem gp_0_9 : (gx_pT 0).find? (fun e => e.1 == 9) = some (9, 1, 0, mX1_init) := rfl
theorem gf_0_34_0 : (gx_flT 0).find? (fun e => e.1 == 34 && e.2.1 == 0) = some (34, 0, 16, 0) := rfl
theorem gn_0_40 : (gx_nT 0).find? (fun e => e.1 == 40) = some (40, 2) := rfl
theorem gbn_0_42 : (gx_bT 0).find? (fun e => e.1 == 42) = none := rfl
theorem gp_0_42 : (gx_pT 0).find? (fun e => e.1 == 42) = some (42, 1, 1, mX2_init) := rfl
theorem gf_0_45_0 : (gx_flT 0).find? (fun e => e.1 == 45 && e.2.1 == 0) = some (45, 0, 19, 0) := rfl
theorem ga_0_40 : (gx_aT 0).find? (fun e => e.1 == 40) = some (40, 37) := rfl
theorem gn_0_49 : (gx_nT 0).find? (fun e => e.1 == 49) = some (49, 3) := rfl
theorem gbn_0_51 : (gx_bT 0).find? (fun e => e.1 == 51) = none := rfl
theorem gp_0_51 : (gx_pT 0).find? (fun e => e.1 == 51) = some (51, 1, 1, mX3_init) := rfl
theorem gbn_7_334 : (gx_bT 7).find? (fun e => e.1 == 334) = none := rfl
theorem gvn_7_334 : gx_vn 7 334 = some 2 := rfl
theorem gv_7_334_7 : (gx_vT 7).find? (fun e => e.1 == 334 && e.2.1 == 7) = some (334, 7, 0, 2, mX7_isThen) := rfl
theorem gbn_7_315 : (gx_bT 7).find? (fun e => e.1 == 315) = none := rfl
theorem gvn_7_315 : gx_vn 7 315 = some 0 := rfl
theorem gv_7_315_7 : (gx_vT 7).find? (fun e => e.1 == 315 && e.2.1 == 7) = some (315, 7, 0, 0, mX7_lays) := rfl
theorem gbn_7_139 : (gx_bT 7).find? (fun e => e.1 == 139) = none := rfl
theorem gvn_7_139 : gx_vn 7 139 = some 1 := rfl
theorem gv_7_139_7 : (gx_vT 7).find? (fun e => e.1 == 139 && e.2.1 == 7) = some (139, 7, 0, 1, mX7_takesWord) := rfl
theorem gbn_7_393 : (gx_bT 7).find? (fun e => e.1 == 393) = none := rfl
theorem gvn_7_393 : gx_vn 7 393 = some 2 := rfl
theorem gv_7_393_7 : (gx_vT 7).find? (fun e => e.1 == 393 && e.2.1 == 7) = some (393, 7, 0, 2, mX7_writtenBy) := rfl
theorem gbn_7_312 : (gx_bT 7).find? (fun e => e.1 == 312) = none := rfl
theorem gvn_7_312 : gx_vn 7 312 = some 1 := rfl
theorem gv_7_312_7 : (gx_vT 7).find? (fun e => e.1 == 312 && e.2.1 == 7) = some (312, 7, 0, 1, mX7_actsOf) := rfl
theorem gbn_7_309 : (gx_bT 7).find? (fun e => e.1 == 309) = none := rfl
theorem gvn_7_309 : gx_vn 7 309 = some 2 := rfl
theorem gv_7_309_7 : (gx_vT 7).find? (fun e => e.1 == 309 && e.2.1 == 7) = some (309, 7, 0, 2, mX7_steps) := rfl
theorem gbn_7_331 : (gx_bT 7).find? (fun e => e.1 == 331) = none := rfl
theorem gvn_7_331 : gx_vn 7 331 = some 1 := rfl
theorem gv_7_331_7 : (gx_vT 7).find? (fun e => e.1 == 331 && e.2.1 == 7) = some (331, 7, 0, 1, mX7_thereAt) := rfl
theorem gb_8_9 : (gx_bT 8).find? (fun e => e.1 == 9) = some (9, 5) := rfl
theorem gf_8_15_0 : (gx_flT 8).find? (fun e => e.1 == 15 && e.2.1 == 0) = some (15, 0, 2, 1) := rfl
theorem gn_8_22 : (gx_nT 8).find? (fun e => e.1 == 22) = some (22, 1) := rfl
theorem gbn_8_24 : (gx_bT 8).find? (fun e => e.1 == 24) = none := rfl
theorem gp_8_24 : (gx_pT 8).find? (fun e => e.1 == 24) = some (24, 1, 0, mX1_init) := rfl
theorem gf_8_25_8 : (gx_flT 8).find? (fun e => e.1 == 25 && e.2.1 == 8) = some (25, 8, 1, 0) := rfl
theorem gbn_8_38 : (gx_bT 8).find? (fun e => e.1 == 38) = none := rfl
theorem gvn_8_38 : gx_vn 8 38 = some 0 := rfl
theorem gv_8_38_8 : (gx_vT 8).find? (fun e => e.1 == 38 && e.2.1 == 8) = some (38, 8, 0, 0, mX8_next) := rfl
theorem gn_8_81 : (gx_nT 8).find? (fun e => e.1 == 81) = some (81, 9) := rfl
theorem gbn_8_83 : (gx_bT 8).find? (fun e => e.1 == 83) = none := rfl
theorem gp_8_83 : (gx_pT 8).find? (fun e => e.1 == 83) = some (83, 0, 2, mX9_init) := rfl
theorem gw_X0_image_X0_isIn : gx_lower mX0_image mX0_isIn = mX0_isIn := if_neg (by decide +kernel)
theorem gbn_0_450 : (gx_bT 0).find? (fun e => e.1 == 450) = none := rfl
theorem gvn_0_450 : gx_vn 0 450 = some 0 := rfl
theorem gv_0_450_10 : (gx_vT 0).find? (fun e => e.1 == 450 && e.2.1 == 10) = some (450, 10, 0, 0, mJ2_size) := rfl
theorem gbn_0_455 : (gx_bT 0).find? (fun e => e.1 == 455) = none := rfl
theorem gvn_0_455 : gx_vn 0 455 = some 0 := rfl
theorem gv_0_455_1 : (gx_vT 0).find? (fun e => e.1 == 455 && e.2.1 == 1) = some (455, 1, 0, 0, mX1_copy) := rfl
theorem gbn_0_451 : (gx_bT 0).find? (fun e => e.1 == 451) = none := rfl
theorem gvn_0_451 : gx_vn 0 451 = some 1 := rfl
theorem gv_0_451_10 : (gx_vT 0).find? (fun e => e.1 == 451 && e.2.1 == 10) = some (451, 10, 0, 1, mJ2_add) := rfl
theorem gbn_0_458 : (gx_bT 0).find? (fun e => e.1 == 458) = none := rfl
theorem gvn_0_458 : gx_vn 0 458 = some 2 := rfl
theorem gv_0_458_10 : (gx_vT 0).find? (fun e => e.1 == 458 && e.2.1 == 10) = some (458, 10, 0, 2, mJ2_set) := rfl
theorem gbn_0_263 : (gx_bT 0).find? (fun e => e.1 == 263) = none := rfl
theorem gvn_0_263 : gx_vn 0 263 = some 2 := rfl
theorem gv_0_263_0 : (gx_vT 0).find? (fun e => e.1 == 263 && e.2.1 == 0) = some (263, 0, 0, 2, mX0_goesOn) := rfl
theorem gbn_0_266 : (gx_bT 0).find? (fun e => e.1 == 266) = none := rfl
theorem gvn_0_266 : gx_vn 0 266 = some 1 := rfl
theorem gv_0_266_0 : (gx_vT 0).find? (fun e => e.1 == 266 && e.2.1 == 0) = some (266, 0, 0, 1, mX0_acts) := rfl
theorem gf_0_65_0 : (gx_flT 0).find? (fun e => e.1 == 65 && e.2.1 == 0) = some (65, 0, 22, 0) := rfl
theorem gbn_7_318 : (gx_bT 7).find? (fun e => e.1 == 318) = none := rfl
theorem gvn_7_318 : gx_vn 7 318 = some 0 := rfl
theorem gv_7_318_7 : (gx_vT 7).find? (fun e => e.1 == 318 && e.2.1 == 7) = some (318, 7, 0, 0, mX7_runs) := rfl
theorem gbn_7_346 : (gx_bT 7).find? (fun e => e.1 == 346) = none := rfl
theorem gvn_7_346 : gx_vn 7 346 = some 1 := rfl
theorem gv_7_346_7 : (gx_vT 7).find? (fun e => e.1 == 346 && e.2.1 == 7) = some (346, 7, 0, 1, mX7_allAt) := rfl
theorem gj_7_435 : (gx_jT 7).find? (fun e => e.1 == 435) = some (435, (1103515245 : Int64)) := rfl
theorem gj_7_437 : (gx_jT 7).find? (fun e => e.1 == 437) = some (437, (12345 : Int64)) := rfl
theorem gj_7_439 : (gx_jT 7).find? (fun e => e.1 == 439) = some (439, (2147483648 : Int64)) := rfl
theorem gj_7_441 : (gx_jT 7).find? (fun e => e.1 == 441) = some (441, (65536 : Int64)) := rfl
theorem gj_7_424 : (gx_jT 7).find? (fun e => e.1 == 424) = some (424, (10 : Int64)) := rfl
theorem gbn_7_398 : (gx_bT 7).find? (fun e => e.1 == 398) = none := rfl
theorem gvn_7_398 : gx_vn 7 398 = some 1 := rfl
theorem gv_7_398_7 : (gx_vT 7).find? (fun e => e.1 == 398 && e.2.1 == 7) = some (398, 7, 0, 1, mX7_lastOf) := rfl
theorem gbn_7_383 : (gx_bT 7).find? (fun e => e.1 == 383) = none := rfl
theorem gvn_7_383 : gx_vn 7 383 = some 2 := rfl
theorem gv_7_383_7 : (gx_vT 7).find? (fun e => e.1 == 383 && e.2.1 == 7) = some (383, 7, 0, 2, mX7_whyNot) := rfl
theorem gbn_7_371 : (gx_bT 7).find? (fun e => e.1 == 371) = none := rfl
theorem gvn_7_371 : gx_vn 7 371 = some 1 := rfl
theorem gv_7_371_7 : (gx_vT 7).find? (fun e => e.1 == 371 && e.2.1 == 7) = some (371, 7, 0, 1, mX7_isSo) := rfl
theorem gw_X7_later_X7_in : gx_lower mX7_later mX7_in = mX7_in := if_neg (by decide +kernel)
theorem gf_7_368_7 : (gx_flT 7).find? (fun e => e.1 == 368 && e.2.1 == 7) = some (368, 7, 37, 0) := rfl
theorem gf_7_380_7 : (gx_flT 7).find? (fun e => e.1 == 380 && e.2.1 == 7) = some (380, 7, 39, 0) := rfl
theorem gf_7_374_7 : (gx_flT 7).find? (fun e => e.1 == 374 && e.2.1 == 7) = some (374, 7, 38, 0) := rfl
theorem gw_X7_laysDates_X7_moreOf : gx_lower mX7_laysDates mX7_moreOf = mX7_moreOf := if_neg (by decide +kernel)
theorem gbn_7_377 : (gx_bT 7).find? (fun e => e.1 == 377) = none := rfl
theorem gs_7_377 : (gx_sT 7).find? (fun e => e.1 == 377) = some (377, 0, 1, mX7_sizeOf) := rfl
theorem gw_X7_laysDates_X7_sizeOf : gx_lower mX7_laysDates mX7_sizeOf = mX7_sizeOf := if_neg (by decide +kernel)
theorem gbn_7_145 : (gx_bT 7).find? (fun e => e.1 == 145) = none := rfl
theorem gvn_7_145 : gx_vn 7 145 = some 1 := rfl
theorem gv_7_145_7 : (gx_vT 7).find? (fun e => e.1 == 145 && e.2.1 == 7) = some (145, 7, 0, 1, mX7_asks) := rfl
theorem gbn_7_149 : (gx_bT 7).find? (fun e => e.1 == 149) = none := rfl
theorem gvn_7_149 : gx_vn 7 149 = some 2 := rfl
theorem gv_7_149_7 : (gx_vT 7).find? (fun e => e.1 == 149 && e.2.1 == 7) = some (149, 7, 0, 2, mX7_number_2) := rfl
theorem gbn_8_86 : (gx_bT 8).find? (fun e => e.1 == 86) = none := rfl
theorem gvn_8_86 : gx_vn 8 86 = some 0 := rfl
theorem gv_8_86_200 : (gx_vT 8).find? (fun e => e.1 == 86 && e.2.1 == 200) = some (86, 200, 0, 0, mJ4_length) := rfl
theorem gbn_8_92 : (gx_bT 8).find? (fun e => e.1 == 92) = none := rfl
theorem gvn_8_92 : gx_vn 8 92 = some 1 := rfl
theorem gv_8_92_200 : (gx_vT 8).find? (fun e => e.1 == 92 && e.2.1 == 200) = some (92, 200, 0, 1, mJ4_charAt) := rfl
theorem gw_X8_number_X0_isIn : gx_lower mX8_number mX0_isIn = mX0_isIn := if_neg (by decide +kernel)
theorem gbn_8_103 : (gx_bT 8).find? (fun e => e.1 == 103) = none := rfl
theorem gvn_8_103 : gx_vn 8 103 = some 1 := rfl
theorem gv_8_103_8 : (gx_vT 8).find? (fun e => e.1 == 103 && e.2.1 == 8) = some (103, 8, 0, 1, mX8_wrong) := rfl
theorem gbn_0_271 : (gx_bT 0).find? (fun e => e.1 == 271) = none := rfl
theorem gvn_0_271 : gx_vn 0 271 = some 0 := rfl
theorem gv_0_271_0 : (gx_vT 0).find? (fun e => e.1 == 271 && e.2.1 == 0) = some (271, 0, 0, 0, mX0_lays) := rfl
theorem gbn_0_367 : (gx_bT 0).find? (fun e => e.1 == 367) = none := rfl
theorem gvn_0_367 : gx_vn 0 367 = some 0 := rfl
theorem gv_0_367_0 : (gx_vT 0).find? (fun e => e.1 == 367 && e.2.1 == 0) = some (367, 0, 0, 0, mX0_allLast) := rfl
theorem gj_0_424 : (gx_jT 0).find? (fun e => e.1 == 424) = some (424, (1103515245 : Int64)) := rfl
theorem gj_0_426 : (gx_jT 0).find? (fun e => e.1 == 426) = some (426, (12345 : Int64)) := rfl
theorem gj_0_428 : (gx_jT 0).find? (fun e => e.1 == 428) = some (428, (2147483648 : Int64)) := rfl
theorem gj_0_430 : (gx_jT 0).find? (fun e => e.1 == 430) = some (430, (65536 : Int64)) := rfl
theorem gj_0_432 : (gx_jT 0).find? (fun e => e.1 == 432) = some (432, (10 : Int64)) := rfl
theorem gbn_0_295 : (gx_bT 0).find? (fun e => e.1 == 295) = none := rfl
theorem gvn_0_295 : gx_vn 0 295 = some 1 := rfl
theorem gv_0_295_0 : (gx_vT 0).find? (fun e => e.1 == 295 && e.2.1 == 0) = some (295, 0, 0, 1, mX0_clearIn) := rfl
theorem gbn_0_384 : (gx_bT 0).find? (fun e => e.1 == 384) = none := rfl
theorem gs_0_384 : (gx_sT 0).find? (fun e => e.1 == 384) = some (384, 0, 1, mJ10_bitCount) := rfl
theorem gw_X0_getsOf_J10_bitCount : gx_lower mX0_getsOf mJ10_bitCount = mJ10_bitCount := if_neg (by decide +kernel)
theorem gw_X0_getsOf_X0_isOf : gx_lower mX0_getsOf mX0_isOf = mX0_isOf := if_neg (by decide +kernel)
theorem gbn_0_343 : (gx_bT 0).find? (fun e => e.1 == 343) = none := rfl
theorem gvn_0_343 : gx_vn 0 343 = some 2 := rfl
theorem gv_0_343_0 : (gx_vT 0).find? (fun e => e.1 == 343 && e.2.1 == 0) = some (343, 0, 0, 2, mX0_number) := rfl
theorem gw_X0_later_X0_isIn : gx_lower mX0_later mX0_isIn = mX0_isIn := if_neg (by decide +kernel)
theorem gbn_0_322 : (gx_bT 0).find? (fun e => e.1 == 322) = none := rfl
theorem gvn_0_322 : gx_vn 0 322 = some 1 := rfl
theorem gv_0_322_0 : (gx_vT 0).find? (fun e => e.1 == 322 && e.2.1 == 0) = some (322, 0, 0, 1, mX0_lastOf) := rfl
theorem gf_0_400_0 : (gx_flT 0).find? (fun e => e.1 == 400 && e.2.1 == 0) = some (400, 0, 27, 0) := rfl
theorem gf_0_404_0 : (gx_flT 0).find? (fun e => e.1 == 404 && e.2.1 == 0) = some (404, 0, 28, 0) := rfl
theorem gf_0_407_0 : (gx_flT 0).find? (fun e => e.1 == 407 && e.2.1 == 0) = some (407, 0, 29, 0) := rfl
theorem gw_X0_laysChance_X0_isOf : gx_lower mX0_laysChance mX0_isOf = mX0_isOf := if_neg (by decide +kernel)
theorem gbn_7_337 : (gx_bT 7).find? (fun e => e.1 == 337) = none := rfl
theorem gvn_7_337 : gx_vn 7 337 = some 0 := rfl
theorem gv_7_337_7 : (gx_vT 7).find? (fun e => e.1 == 337 && e.2.1 == 7) = some (337, 7, 0, 0, mX7_laysNow) := rfl
theorem gbn_7_387 : (gx_bT 7).find? (fun e => e.1 == 387) = none := rfl
theorem gvn_7_387 : gx_vn 7 387 = some 2 := rfl
theorem gv_7_387_7 : (gx_vT 7).find? (fun e => e.1 == 387 && e.2.1 == 7) = some (387, 7, 0, 2, mX7_laysDates) := rfl
theorem gbn_7_363 : (gx_bT 7).find? (fun e => e.1 == 363) = none := rfl
theorem gvn_7_363 : gx_vn 7 363 = some 2 := rfl
theorem gv_7_363_7 : (gx_vT 7).find? (fun e => e.1 == 363 && e.2.1 == 7) = some (363, 7, 0, 2, mX7_passesOf) := rfl
theorem gbn_7_451 : (gx_bT 7).find? (fun e => e.1 == 451) = none := rfl
theorem gvn_7_451 : gx_vn 7 451 = some 4 := rfl
theorem gv_7_451_7 : (gx_vT 7).find? (fun e => e.1 == 451 && e.2.1 == 7) = some (451, 7, 0, 4, mX7_does) := rfl
theorem gw_X7_by_X7_in : gx_lower mX7_by mX7_in = mX7_in := if_neg (by decide +kernel)
theorem gbn_7_390 : (gx_bT 7).find? (fun e => e.1 == 390) = none := rfl
theorem gvn_7_390 : gx_vn 7 390 = some 1 := rfl
theorem gv_7_390_7 : (gx_vT 7).find? (fun e => e.1 == 390 && e.2.1 == 7) = some (390, 7, 0, 1, mX7_allBy) := rfl
theorem gbn_7_343 : (gx_bT 7).find? (fun e => e.1 == 343) = none := rfl
theorem gvn_7_343 : gx_vn 7 343 = some 1 := rfl
theorem gv_7_343_7 : (gx_vT 7).find? (fun e => e.1 == 343 && e.2.1 == 7) = some (343, 7, 0, 1, mX7_clearAt) := rfl
theorem gbn_7_349 : (gx_bT 7).find? (fun e => e.1 == 349) = none := rfl
theorem gvn_7_349 : gx_vn 7 349 = some 2 := rfl
theorem gv_7_349_7 : (gx_vT 7).find? (fun e => e.1 == 349 && e.2.1 == 7) = some (349, 7, 0, 2, mX7_oneBy) := rfl
theorem gw_X7_dates_X7_sizeOf : gx_lower mX7_dates mX7_sizeOf = mX7_sizeOf := if_neg (by decide +kernel)
theorem gbn_7_445 : (gx_bT 7).find? (fun e => e.1 == 445) = none := rfl
theorem gs_7_445 : (gx_sT 7).find? (fun e => e.1 == 445) = some (445, 0, 1, mX7_isSeed) := rfl
theorem gw_X7_drawn_X7_isSeed : gx_lower mX7_drawn mX7_isSeed = mX7_isSeed := if_neg (by decide +kernel)
theorem gbn_7_408 : (gx_bT 7).find? (fun e => e.1 == 408) = none := rfl
theorem gs_7_408 : (gx_sT 7).find? (fun e => e.1 == 408) = some (408, 0, 1, mX7_isHalf) := rfl
theorem gw_X7_drawn_X7_isHalf : gx_lower mX7_drawn mX7_isHalf = mX7_isHalf := if_neg (by decide +kernel)
theorem gbn_7_448 : (gx_bT 7).find? (fun e => e.1 == 448) = none := rfl
theorem gvn_7_448 : gx_vn 7 448 = some 1 := rfl
theorem gv_7_448_7 : (gx_vT 7).find? (fun e => e.1 == 448 && e.2.1 == 7) = some (448, 7, 0, 1, mX7_draws) := rfl
theorem gj_7_175 : (gx_jT 7).find? (fun e => e.1 == 175) = some (175, (419 : Int64)) := rfl
theorem gbn_7_162 : (gx_bT 7).find? (fun e => e.1 == 162) = none := rfl
theorem gvn_7_162 : gx_vn 7 162 = some 3 := rfl
theorem gv_7_162_7 : (gx_vT 7).find? (fun e => e.1 == 162 && e.2.1 == 7) = some (162, 7, 0, 3, mX7_number) := rfl
theorem gj_7_177 : (gx_jT 7).find? (fun e => e.1 == 177) = some (177, (257 : Int64)) := rfl
theorem gj_7_179 : (gx_jT 7).find? (fun e => e.1 == 179) = some (179, (12588917 : Int64)) := rfl
theorem gj_7_181 : (gx_jT 7).find? (fun e => e.1 == 181) = some (181, (375400 : Int64)) := rfl
theorem gw_X7_first_X7_isBit : gx_lower mX7_first mX7_isBit = mX7_isBit := if_neg (by decide +kernel)
theorem gbn_7_415 : (gx_bT 7).find? (fun e => e.1 == 415) = none := rfl
theorem gvn_7_415 : gx_vn 7 415 = some 2 := rfl
theorem gv_7_415_7 : (gx_vT 7).find? (fun e => e.1 == 415 && e.2.1 == 7) = some (415, 7, 0, 2, mX7_areTwo) := rfl
theorem gw_X7_gets_X7_isHalf : gx_lower mX7_gets mX7_isHalf = mX7_isHalf := if_neg (by decide +kernel)
theorem gbn_7_418 : (gx_bT 7).find? (fun e => e.1 == 418) = none := rfl
theorem gvn_7_418 : gx_vn 7 418 = some 5 := rfl
theorem gv_7_418_7 : (gx_vT 7).find? (fun e => e.1 == 418 && e.2.1 == 7) = some (418, 7, 0, 5, mX7_getsBy) := rfl
theorem gw_X7_honest_X7_isBit : gx_lower mX7_honest mX7_isBit = mX7_isBit := if_neg (by decide +kernel)
theorem gj_7_160 : (gx_jT 7).find? (fun e => e.1 == 160) = some (160, (361373 : Int64)) := rfl
theorem gj_7_165 : (gx_jT 7).find? (fun e => e.1 == 165) = some (165, (15001 : Int64)) := rfl
theorem gj_7_167 : (gx_jT 7).find? (fun e => e.1 == 167) = some (167, (118940 : Int64)) := rfl
theorem gw_X7_last_X7_isBit : gx_lower mX7_last mX7_isBit = mX7_isBit := if_neg (by decide +kernel)
theorem gw_X7_lasts_X7_isBit : gx_lower mX7_lasts mX7_isBit = mX7_isBit := if_neg (by decide +kernel)
theorem gw_X7_luck_X7_isSeed : gx_lower mX7_luck mX7_isSeed = mX7_isSeed := if_neg (by decide +kernel)
theorem gw_X7_luck_X7_in : gx_lower mX7_luck mX7_in = mX7_in := if_neg (by decide +kernel)
theorem gbn_7_355 : (gx_bT 7).find? (fun e => e.1 == 355) = none := rfl
theorem gvn_7_355 : gx_vn 7 355 = some 3 := rfl
theorem gv_7_355_7 : (gx_vT 7).find? (fun e => e.1 == 355 && e.2.1 == 7) = some (355, 7, 0, 3, mX7_orderOf) := rfl
theorem gbn_7_340 : (gx_bT 7).find? (fun e => e.1 == 340) = none := rfl
theorem gvn_7_340 : gx_vn 7 340 = some 1 := rfl
theorem gv_7_340_7 : (gx_vT 7).find? (fun e => e.1 == 340 && e.2.1 == 7) = some (340, 7, 0, 1, mX7_ripeOf) := rfl
theorem gbn_7_352 : (gx_bT 7).find? (fun e => e.1 == 352) = none := rfl
theorem gvn_7_352 : gx_vn 7 352 = some 2 := rfl
theorem gv_7_352_7 : (gx_vT 7).find? (fun e => e.1 == 352 && e.2.1 == 7) = some (352, 7, 0, 2, mX7_sortsOf) := rfl
theorem gw_X7_steady_X7_moreOf : gx_lower mX7_steady mX7_moreOf = mX7_moreOf := if_neg (by decide +kernel)
theorem gw_X7_worth_X7_in : gx_lower mX7_worth mX7_in = mX7_in := if_neg (by decide +kernel)
theorem gbn_8_96 : (gx_bT 8).find? (fun e => e.1 == 96) = none := rfl
theorem gvn_8_96 : gx_vn 8 96 = some 1 := rfl
theorem gv_8_96_8 : (gx_vT 8).find? (fun e => e.1 == 96 && e.2.1 == 8) = some (96, 8, 0, 1, mX8_is) := rfl
theorem gbn_0_274 : (gx_bT 0).find? (fun e => e.1 == 274) = none := rfl
theorem gvn_0_274 : gx_vn 0 274 = some 0 := rfl
theorem gv_0_274_0 : (gx_vT 0).find? (fun e => e.1 == 274 && e.2.1 == 0) = some (274, 0, 0, 0, mX0_asksBook) := rfl
theorem gbn_0_370 : (gx_bT 0).find? (fun e => e.1 == 370) = none := rfl
theorem gs_0_370 : (gx_sT 0).find? (fun e => e.1 == 370) = some (370, 0, 1, mX0_isLaw) := rfl
theorem gw_X0_by_X0_isLaw : gx_lower mX0_by mX0_isLaw = mX0_isLaw := if_neg (by decide +kernel)
theorem gbn_0_373 : (gx_bT 0).find? (fun e => e.1 == 373) = none := rfl
theorem gvn_0_373 : gx_vn 0 373 = some 1 := rfl
theorem gv_0_373_0 : (gx_vT 0).find? (fun e => e.1 == 373 && e.2.1 == 0) = some (373, 0, 0, 1, mX0_allByLaw) := rfl
theorem gbn_0_415 : (gx_bT 0).find? (fun e => e.1 == 415) = none := rfl
theorem gvn_0_415 : gx_vn 0 415 = some 1 := rfl
theorem gv_0_415_0 : (gx_vT 0).find? (fun e => e.1 == 415 && e.2.1 == 0) = some (415, 0, 0, 1, mX0_isChance) := rfl
theorem gw_X0_chance_X0_isIn : gx_lower mX0_chance mX0_isIn = mX0_isIn := if_neg (by decide +kernel)
theorem gw_X0_chance_X0_isOneOf : gx_lower mX0_chance mX0_isOneOf = mX0_isOneOf := if_neg (by decide +kernel)
theorem gbn_0_418 : (gx_bT 0).find? (fun e => e.1 == 418) = none := rfl
theorem gvn_0_418 : gx_vn 0 418 = some 3 := rfl
theorem gv_0_418_0 : (gx_vT 0).find? (fun e => e.1 == 418 && e.2.1 == 0) = some (418, 0, 0, 3, mX0_laysChance) := rfl
theorem gbn_0_390 : (gx_bT 0).find? (fun e => e.1 == 390) = none := rfl
theorem gs_0_390 : (gx_sT 0).find? (fun e => e.1 == 390) = some (390, 0, 3, mX0_part) := rfl
theorem gw_X0_chance_X0_part : gx_lower mX0_chance mX0_part = mX0_part := if_neg (by decide +kernel)
theorem gbn_0_434 : (gx_bT 0).find? (fun e => e.1 == 434) = none := rfl
theorem gs_0_434 : (gx_sT 0).find? (fun e => e.1 == 434) = some (434, 0, 1, mX0_isSeed) := rfl
theorem gw_X0_drawn_X0_isSeed : gx_lower mX0_drawn mX0_isSeed = mX0_isSeed := if_neg (by decide +kernel)
theorem gw_X0_drawn_X0_isOneOf : gx_lower mX0_drawn mX0_isOneOf = mX0_isOneOf := if_neg (by decide +kernel)
theorem gbn_0_437 : (gx_bT 0).find? (fun e => e.1 == 437) = none := rfl
theorem gvn_0_437 : gx_vn 0 437 = some 1 := rfl
theorem gv_0_437_0 : (gx_vT 0).find? (fun e => e.1 == 437 && e.2.1 == 0) = some (437, 0, 0, 1, mX0_draws) := rfl
theorem gbn_0_394 : (gx_bT 0).find? (fun e => e.1 == 394) = none := rfl
theorem gvn_0_394 : gx_vn 0 394 = some 2 := rfl
theorem gv_0_394_0 : (gx_vT 0).find? (fun e => e.1 == 394 && e.2.1 == 0) = some (394, 0, 0, 2, mX0_areTwo) := rfl
theorem gw_X0_gets_X0_isOneOf : gx_lower mX0_gets mX0_isOneOf = mX0_isOneOf := if_neg (by decide +kernel)
theorem gbn_0_397 : (gx_bT 0).find? (fun e => e.1 == 397) = none := rfl
theorem gvn_0_397 : gx_vn 0 397 = some 4 := rfl
theorem gv_0_397_0 : (gx_vT 0).find? (fun e => e.1 == 397 && e.2.1 == 0) = some (397, 0, 0, 4, mX0_getsOf) := rfl
theorem gbn_0_352 : (gx_bT 0).find? (fun e => e.1 == 352) = none := rfl
theorem gvn_0_352 : gx_vn 0 352 = some 1 := rfl
theorem gv_0_352_0 : (gx_vT 0).find? (fun e => e.1 == 352 && e.2.1 == 0) = some (352, 0, 0, 1, mX0_isSo) := rfl
theorem gbn_0_346 : (gx_bT 0).find? (fun e => e.1 == 346) = none := rfl
theorem gvn_0_346 : gx_vn 0 346 = some 1 := rfl
theorem gv_0_346_0 : (gx_vT 0).find? (fun e => e.1 == 346 && e.2.1 == 0) = some (346, 0, 4, 1, mX0_asksSeen) := rfl
theorem gf_0_68_0 : (gx_flT 0).find? (fun e => e.1 == 68 && e.2.1 == 0) = some (68, 0, 23, 0) := rfl
theorem gw_X0_luck_X0_isSeed : gx_lower mX0_luck mX0_isSeed = mX0_isSeed := if_neg (by decide +kernel)
theorem gw_X0_luck_X0_isIn : gx_lower mX0_luck mX0_isIn = mX0_isIn := if_neg (by decide +kernel)
theorem gj_0_422 : (gx_jT 0).find? (fun e => e.1 == 422) = some (422, (-2 : Int64)) := rfl
theorem gw_X0_mean_X0_isOneOf : gx_lower mX0_mean mX0_isOneOf = mX0_isOneOf := if_neg (by decide +kernel)
theorem gw_X0_mean_X0_part : gx_lower mX0_mean mX0_part = mX0_part := if_neg (by decide +kernel)
theorem gbn_0_301 : (gx_bT 0).find? (fun e => e.1 == 301) = none := rfl
theorem gvn_0_301 : gx_vn 0 301 = some 0 := rfl
theorem gv_0_301_0 : (gx_vT 0).find? (fun e => e.1 == 301 && e.2.1 == 0) = some (301, 0, 0, 0, mX0_everyEntry) := rfl
theorem gw_X0_worth_X0_isIn : gx_lower mX0_worth mX0_isIn = mX0_isIn := if_neg (by decide +kernel)
theorem gbn_0_305 : (gx_bT 0).find? (fun e => e.1 == 305) = none := rfl
theorem gvn_0_305 : gx_vn 0 305 = some 2 := rfl
theorem gv_0_305_0 : (gx_vT 0).find? (fun e => e.1 == 305 && e.2.1 == 0) = some (305, 0, 0, 2, mX0_sortsOf) := rfl
theorem gj_7_183 : (gx_jT 7).find? (fun e => e.1 == 183) = some (183, (6950 : Int64)) := rfl
theorem gbn_7_185 : (gx_bT 7).find? (fun e => e.1 == 185) = none := rfl
theorem gvn_7_185 : gx_vn 7 185 = some 3 := rfl
theorem gv_7_185_7 : (gx_vT 7).find? (fun e => e.1 == 185 && e.2.1 == 7) = some (185, 7, 0, 3, mX7_isRoom) := rfl
theorem gj_7_192 : (gx_jT 7).find? (fun e => e.1 == 192) = some (192, (315851 : Int64)) := rfl
theorem gj_7_197 : (gx_jT 7).find? (fun e => e.1 == 197) = some (197, (2947858 : Int64)) := rfl
theorem gbn_7_189 : (gx_bT 7).find? (fun e => e.1 == 189) = none := rfl
theorem gvn_7_189 : gx_vn 7 189 = some 0 := rfl
theorem gv_7_189_7 : (gx_vT 7).find? (fun e => e.1 == 189 && e.2.1 == 7) = some (189, 7, 0, 0, mX7_inkLine) := rfl
theorem gbn_7_194 : (gx_bT 7).find? (fun e => e.1 == 194) = none := rfl
theorem gvn_7_194 : gx_vn 7 194 = some 0 := rfl
theorem gv_7_194_7 : (gx_vT 7).find? (fun e => e.1 == 194 && e.2.1 == 7) = some (194, 7, 0, 0, mX7_pageLine) := rfl
theorem gbn_7_199 : (gx_bT 7).find? (fun e => e.1 == 199) = none := rfl
theorem gvn_7_199 : gx_vn 7 199 = some 0 := rfl
theorem gv_7_199_7 : (gx_vT 7).find? (fun e => e.1 == 199 && e.2.1 == 7) = some (199, 7, 0, 0, mX7_entryLine) := rfl
theorem gbn_8_100 : (gx_bT 8).find? (fun e => e.1 == 100) = none := rfl
theorem gvn_8_100 : gx_vn 8 100 = some 1 := rfl
theorem gv_8_100_8 : (gx_vT 8).find? (fun e => e.1 == 100 && e.2.1 == 8) = some (100, 8, 0, 1, mX8_takes) := rfl
theorem gl_8_147 : (gx_lT 8).find? (fun e => e.1 == 147) = some (147, .retAddr 25) := rfl
theorem gf_8_151_1 : (gx_flT 8).find? (fun e => e.1 == 151 && e.2.1 == 1) = some (151, 1, 5, 1) := rfl
theorem gf_8_149_1 : (gx_flT 8).find? (fun e => e.1 == 149 && e.2.1 == 1) = some (149, 1, 8, 1) := rfl
theorem gbn_0_283 : (gx_bT 0).find? (fun e => e.1 == 283) = none := rfl
theorem gvn_0_283 : gx_vn 0 283 = some 1 := rfl
theorem gv_0_283_0 : (gx_vT 0).find? (fun e => e.1 == 283 && e.2.1 == 0) = some (283, 0, 0, 1, mX0_asksYear) := rfl
theorem gbn_0_355 : (gx_bT 0).find? (fun e => e.1 == 355) = none := rfl
theorem gvn_0_355 : gx_vn 0 355 = some 2 := rfl
theorem gv_0_355_0 : (gx_vT 0).find? (fun e => e.1 == 355 && e.2.1 == 0) = some (355, 0, 0, 2, mX0_laysFits) := rfl
theorem gbn_0_364 : (gx_bT 0).find? (fun e => e.1 == 364) = none := rfl
theorem gvn_0_364 : gx_vn 0 364 = some 0 := rfl
theorem gv_0_364_0 : (gx_vT 0).find? (fun e => e.1 == 364 && e.2.1 == 0) = some (364, 0, 0, 0, mX0_askOf) := rfl
theorem gbn_0_289 : (gx_bT 0).find? (fun e => e.1 == 289) = none := rfl
theorem gvn_0_289 : gx_vn 0 289 = some 1 := rfl
theorem gv_0_289_0 : (gx_vT 0).find? (fun e => e.1 == 289 && e.2.1 == 0) = some (289, 0, 0, 1, mX0_asksEntry) := rfl
theorem gbn_0_317 : (gx_bT 0).find? (fun e => e.1 == 317) = none := rfl
theorem gvn_0_317 : gx_vn 0 317 = some 2 := rfl
theorem gv_0_317_0 : (gx_vT 0).find? (fun e => e.1 == 317 && e.2.1 == 0) = some (317, 0, 0, 2, mX0_passesBy) := rfl
theorem gbn_0_441 : (gx_bT 0).find? (fun e => e.1 == 441) = none := rfl
theorem gvn_0_441 : gx_vn 0 441 = some 1 := rfl
theorem gv_0_441_0 : (gx_vT 0).find? (fun e => e.1 == 441 && e.2.1 == 0) = some (441, 0, 0, 1, mX0_isKept) := rfl
theorem gw_X0_honest_X0_isOf : gx_lower mX0_honest mX0_isOf = mX0_isOf := if_neg (by decide +kernel)
theorem gbn_0_292 : (gx_bT 0).find? (fun e => e.1 == 292) = none := rfl
theorem gvn_0_292 : gx_vn 0 292 = some 1 := rfl
theorem gv_0_292_0 : (gx_vT 0).find? (fun e => e.1 == 292 && e.2.1 == 0) = some (292, 0, 0, 1, mX0_ripeOf) := rfl
theorem gw_X0_share_X0_isOneOf : gx_lower mX0_share mX0_isOneOf = mX0_isOneOf := if_neg (by decide +kernel)
theorem gbn_0_387 : (gx_bT 0).find? (fun e => e.1 == 387) = none := rfl
theorem gs_0_387 : (gx_sT 0).find? (fun e => e.1 == 387) = some (387, 0, 1, mX0_factorial) := rfl
theorem gw_X0_share_X0_factorial : gx_lower mX0_share mX0_factorial = mX0_factorial := if_neg (by decide +kernel)
theorem gw_X0_share_J10_bitCount : gx_lower mX0_share mJ10_bitCount = mJ10_bitCount := if_neg (by decide +kernel)
theorem gw_X0_share_X0_isOf : gx_lower mX0_share mX0_isOf = mX0_isOf := if_neg (by decide +kernel)
theorem gw_X0_share_X0_part : gx_lower mX0_share mX0_part = mX0_part := if_neg (by decide +kernel)
theorem gbn_0_286 : (gx_bT 0).find? (fun e => e.1 == 286) = none := rfl
theorem gvn_0_286 : gx_vn 0 286 = some 1 := rfl
theorem gv_0_286_0 : (gx_vT 0).find? (fun e => e.1 == 286 && e.2.1 == 0) = some (286, 0, 0, 1, mX0_thereIn) := rfl
theorem gbn_0_313 : (gx_bT 0).find? (fun e => e.1 == 313) = none := rfl
theorem gvn_0_313 : gx_vn 0 313 = some 3 := rfl
theorem gv_0_313_0 : (gx_vT 0).find? (fun e => e.1 == 313 && e.2.1 == 0) = some (313, 0, 0, 3, mX0_sign) := rfl
theorem gbn_7_202 : (gx_bT 7).find? (fun e => e.1 == 202) = none := rfl
theorem gvn_7_202 : gx_vn 7 202 = some 0 := rfl
theorem gv_7_202_7 : (gx_vT 7).find? (fun e => e.1 == 202 && e.2.1 == 7) = some (202, 7, 0, 0, mX7_clears) := rfl
theorem gbn_7_208 : (gx_bT 7).find? (fun e => e.1 == 208) = none := rfl
theorem gvn_7_208 : gx_vn 7 208 = some 0 := rfl
theorem gv_7_208_7 : (gx_vT 7).find? (fun e => e.1 == 208 && e.2.1 == 7) = some (208, 7, 0, 0, mX7_isGood) := rfl
theorem gbn_7_205 : (gx_bT 7).find? (fun e => e.1 == 205) = none := rfl
theorem gvn_7_205 : gx_vn 7 205 = some 0 := rfl
theorem gv_7_205_7 : (gx_vT 7).find? (fun e => e.1 == 205 && e.2.1 == 7) = some (205, 7, 0, 0, mX7_begins) := rfl
theorem gbn_7_226 : (gx_bT 7).find? (fun e => e.1 == 226) = none := rfl
theorem gvn_7_226 : gx_vn 7 226 = some 0 := rfl
theorem gv_7_226_7 : (gx_vT 7).find? (fun e => e.1 == 226 && e.2.1 == 7) = some (226, 7, 0, 0, mX7_isOver) := rfl
theorem gj_7_212 : (gx_jT 7).find? (fun e => e.1 == 212) = some (212, (50717 : Int64)) := rfl
theorem gbn_7_220 : (gx_bT 7).find? (fun e => e.1 == 220) = none := rfl
theorem gvn_7_220 : gx_vn 7 220 = some 0 := rfl
theorem gv_7_220_7 : (gx_vT 7).find? (fun e => e.1 == 220 && e.2.1 == 7) = some (220, 7, 0, 0, mX7_lineHere) := rfl
theorem gj_7_214 : (gx_jT 7).find? (fun e => e.1 == 214) = some (214, (13385674 : Int64)) := rfl
theorem gbn_7_223 : (gx_bT 7).find? (fun e => e.1 == 223) = none := rfl
theorem gvn_7_223 : gx_vn 7 223 = some 0 := rfl
theorem gv_7_223_7 : (gx_vT 7).find? (fun e => e.1 == 223 && e.2.1 == 7) = some (223, 7, 0, 0, mX7_ends) := rfl
theorem gj_7_216 : (gx_jT 7).find? (fun e => e.1 == 216) = some (216, (8798 : Int64)) := rfl
theorem gj_7_218 : (gx_jT 7).find? (fun e => e.1 == 218) = some (218, (298288 : Int64)) := rfl
theorem gbn_8_107 : (gx_bT 8).find? (fun e => e.1 == 107) = none := rfl
theorem gvn_8_107 : gx_vn 8 107 = some 1 := rfl
theorem gv_8_107_8 : (gx_vT 8).find? (fun e => e.1 == 107 && e.2.1 == 8) = some (107, 8, 0, 1, mX8_expects) := rfl
theorem gbn_8_111 : (gx_bT 8).find? (fun e => e.1 == 111) = none := rfl
theorem gvn_8_111 : gx_vn 8 111 = some 2 := rfl
theorem gv_8_111_8 : (gx_vT 8).find? (fun e => e.1 == 111 && e.2.1 == 8) = some (111, 8, 0, 2, mX8_number) := rfl
theorem gl_8_114 : (gx_lT 8).find? (fun e => e.1 == 114) = some (114, .retAddr 16) := rfl
theorem gl_8_115 : (gx_lT 8).find? (fun e => e.1 == 115) = some (115, .retAddr 17) := rfl
theorem gbn_8_117 : (gx_bT 8).find? (fun e => e.1 == 117) = none := rfl
theorem gvn_8_117 : gx_vn 8 117 = some 3 := rfl
theorem gv_8_117_8 : (gx_vT 8).find? (fun e => e.1 == 117 && e.2.1 == 8) = some (117, 8, 0, 3, mX8_told) := rfl
theorem gf_8_121_1 : (gx_flT 8).find? (fun e => e.1 == 121 && e.2.1 == 1) = some (121, 1, 0, 1) := rfl
theorem gl_8_123 : (gx_lT 8).find? (fun e => e.1 == 123) = some (123, .retAddr 18) := rfl
theorem gf_8_125_1 : (gx_flT 8).find? (fun e => e.1 == 125 && e.2.1 == 1) = some (125, 1, 1, 1) := rfl
theorem gl_8_127 : (gx_lT 8).find? (fun e => e.1 == 127) = some (127, .retAddr 19) := rfl
theorem gf_8_129_1 : (gx_flT 8).find? (fun e => e.1 == 129 && e.2.1 == 1) = some (129, 1, 2, 1) := rfl
theorem gf_8_154_1 : (gx_flT 8).find? (fun e => e.1 == 154 && e.2.1 == 1) = some (154, 1, 6, 1) := rfl
theorem gf_8_157_1 : (gx_flT 8).find? (fun e => e.1 == 157 && e.2.1 == 1) = some (157, 1, 12, 1) := rfl
theorem gl_8_160 : (gx_lT 8).find? (fun e => e.1 == 160) = some (160, .retAddr 27) := rfl
theorem gf_8_162_1 : (gx_flT 8).find? (fun e => e.1 == 162 && e.2.1 == 1) = some (162, 1, 13, 1) := rfl
theorem gl_8_165 : (gx_lT 8).find? (fun e => e.1 == 165) = some (165, .retAddr 28) := rfl
theorem gf_8_131_1 : (gx_flT 8).find? (fun e => e.1 == 131 && e.2.1 == 1) = some (131, 1, 4, 1) := rfl
theorem gf_8_167_1 : (gx_flT 8).find? (fun e => e.1 == 167 && e.2.1 == 1) = some (167, 1, 14, 1) := rfl
theorem gl_8_170 : (gx_lT 8).find? (fun e => e.1 == 170) = some (170, .retAddr 29) := rfl
theorem gf_8_171_1 : (gx_flT 8).find? (fun e => e.1 == 171 && e.2.1 == 1) = some (171, 1, 15, 1) := rfl
theorem gl_8_174 : (gx_lT 8).find? (fun e => e.1 == 174) = some (174, .retAddr 30) := rfl
theorem gf_8_134_1 : (gx_flT 8).find? (fun e => e.1 == 134 && e.2.1 == 1) = some (134, 1, 9, 1) := rfl
theorem gl_8_138 : (gx_lT 8).find? (fun e => e.1 == 138) = some (138, .retAddr 21) := rfl
theorem gf_8_139_1 : (gx_flT 8).find? (fun e => e.1 == 139 && e.2.1 == 1) = some (139, 1, 10, 1) := rfl
theorem gl_8_142 : (gx_lT 8).find? (fun e => e.1 == 142) = some (142, .retAddr 22) := rfl
theorem gf_8_143_1 : (gx_flT 8).find? (fun e => e.1 == 143 && e.2.1 == 1) = some (143, 1, 11, 1) := rfl
theorem gl_8_146 : (gx_lT 8).find? (fun e => e.1 == 146) = some (146, .retAddr 23) := rfl
theorem gl_8_175 : (gx_lT 8).find? (fun e => e.1 == 175) = some (175, .retAddr 20) := rfl
theorem gbn_8_176 : (gx_bT 8).find? (fun e => e.1 == 176) = none := rfl
theorem gvn_8_176 : gx_vn 8 176 = some 2 := rfl
theorem gv_8_176_8 : (gx_vT 8).find? (fun e => e.1 == 176 && e.2.1 == 8) = some (176, 8, 0, 2, mX8_begins) := rfl
theorem gl_8_183 : (gx_lT 8).find? (fun e => e.1 == 183) = some (183, .retAddr 24) := rfl
theorem gbn_8_180 : (gx_bT 8).find? (fun e => e.1 == 180) = none := rfl
theorem gvn_8_180 : gx_vn 8 180 = some 0 := rfl
theorem gv_8_180_8 : (gx_vT 8).find? (fun e => e.1 == 180 && e.2.1 == 8) = some (180, 8, 0, 0, mX8_newInk) := rfl
theorem gl_8_187 : (gx_lT 8).find? (fun e => e.1 == 187) = some (187, .retAddr 26) := rfl
theorem gbn_8_184 : (gx_bT 8).find? (fun e => e.1 == 184) = none := rfl
theorem gvn_8_184 : gx_vn 8 184 = some 0 := rfl
theorem gv_8_184_8 : (gx_vT 8).find? (fun e => e.1 == 184 && e.2.1 == 8) = some (184, 8, 0, 0, mX8_newPage) := rfl
theorem gbn_8_189 : (gx_bT 8).find? (fun e => e.1 == 189) = none := rfl
theorem gvn_8_189 : gx_vn 8 189 = some 0 := rfl
theorem gv_8_189_8 : (gx_vT 8).find? (fun e => e.1 == 189 && e.2.1 == 8) = some (189, 8, 0, 0, mX8_newEntry) := rfl
theorem gf_8_192_1 : (gx_flT 8).find? (fun e => e.1 == 192 && e.2.1 == 1) = some (192, 1, 3, 1) := rfl
theorem gbn_8_195 : (gx_bT 8).find? (fun e => e.1 == 195) = none := rfl
theorem gvn_8_195 : gx_vn 8 195 = some 0 := rfl
theorem gv_8_195_8 : (gx_vT 8).find? (fun e => e.1 == 195 && e.2.1 == 8) = some (195, 8, 0, 0, mX8_head) := rfl
theorem gbn_8_198 : (gx_bT 8).find? (fun e => e.1 == 198) = none := rfl
theorem gvn_8_198 : gx_vn 8 198 = some 0 := rfl
theorem gv_8_198_8 : (gx_vT 8).find? (fun e => e.1 == 198 && e.2.1 == 8) = some (198, 8, 0, 0, mX8_line) := rfl
theorem gn_0_99 : (gx_nT 0).find? (fun e => e.1 == 99) = some (99, 8) := rfl
theorem gbn_0_101 : (gx_bT 0).find? (fun e => e.1 == 101) = none := rfl
theorem gp_0_101 : (gx_pT 0).find? (fun e => e.1 == 101) = some (101, 0, 1, mX8_init) := rfl
theorem gbn_0_102 : (gx_bT 0).find? (fun e => e.1 == 102) = none := rfl
theorem gbn_7_401 : (gx_bT 7).find? (fun e => e.1 == 401) = none := rfl
theorem gs_7_401 : (gx_sT 7).find? (fun e => e.1 == 401) = some (401, 0, 1, mX7_times) := rfl
theorem gbn_7_421 : (gx_bT 7).find? (fun e => e.1 == 421) = none := rfl
theorem gs_7_421 : (gx_sT 7).find? (fun e => e.1 == 421) = some (421, 0, 2, mX7_power) := rfl
theorem gw_X7_weightOf_X7_sizeOf : gx_lower mX7_weightOf mX7_sizeOf = mX7_sizeOf := if_neg (by decide +kernel)
theorem gw_X7_weightOf_X7_power : gx_lower mX7_weightOf mX7_power = mX7_power := if_neg (by decide +kernel)
theorem gbn_7_404 : (gx_bT 7).find? (fun e => e.1 == 404) = none := rfl
theorem gs_7_404 : (gx_sT 7).find? (fun e => e.1 == 404) = some (404, 0, 2, mX7_common) := rfl
theorem gw_X7_part_X7_common : gx_lower mX7_part mX7_common = mX7_common := if_neg (by decide +kernel)
theorem gbn_7_426 : (gx_bT 7).find? (fun e => e.1 == 426) = none := rfl
theorem gvn_7_426 : gx_vn 7 426 = some 1 := rfl
theorem gv_7_426_7 : (gx_vT 7).find? (fun e => e.1 == 426 && e.2.1 == 7) = some (426, 7, 0, 1, mX7_isSoon) := rfl
theorem gw_X7_chance_X7_in : gx_lower mX7_chance mX7_in = mX7_in := if_neg (by decide +kernel)
theorem gw_X7_chance_X7_isHalf : gx_lower mX7_chance mX7_isHalf = mX7_isHalf := if_neg (by decide +kernel)
theorem gbn_7_429 : (gx_bT 7).find? (fun e => e.1 == 429) = none := rfl
theorem gvn_7_429 : gx_vn 7 429 = some 3 := rfl
theorem gv_7_429_7 : (gx_vT 7).find? (fun e => e.1 == 429 && e.2.1 == 7) = some (429, 7, 0, 3, mX7_weightOf) := rfl
theorem gw_X7_chance_X7_power : gx_lower mX7_chance mX7_power = mX7_power := if_neg (by decide +kernel)
theorem gbn_7_411 : (gx_bT 7).find? (fun e => e.1 == 411) = none := rfl
theorem gs_7_411 : (gx_sT 7).find? (fun e => e.1 == 411) = some (411, 0, 3, mX7_part) := rfl
theorem gw_X7_chance_X7_part : gx_lower mX7_chance mX7_part = mX7_part := if_neg (by decide +kernel)
theorem gj_7_433 : (gx_jT 7).find? (fun e => e.1 == 433) = some (433, (-2 : Int64)) := rfl
theorem gw_X7_mean_X7_isHalf : gx_lower mX7_mean mX7_isHalf = mX7_isHalf := if_neg (by decide +kernel)
theorem gw_X7_mean_X7_power : gx_lower mX7_mean mX7_power = mX7_power := if_neg (by decide +kernel)
theorem gw_X7_mean_X7_part : gx_lower mX7_mean mX7_part = mX7_part := if_neg (by decide +kernel)
theorem gw_X7_share_X7_isHalf : gx_lower mX7_share mX7_isHalf = mX7_isHalf := if_neg (by decide +kernel)
theorem gw_X7_share_X7_isBit : gx_lower mX7_share mX7_isBit = mX7_isBit := if_neg (by decide +kernel)
theorem gw_X7_share_X7_sizeOf : gx_lower mX7_share mX7_sizeOf = mX7_sizeOf := if_neg (by decide +kernel)
theorem gw_X7_share_X7_times : gx_lower mX7_share mX7_times = mX7_times := if_neg (by decide +kernel)
theorem gw_X7_share_X7_part : gx_lower mX7_share mX7_part = mX7_part := if_neg (by decide +kernel)
