set_option maxRecDepth 100000
/-! ===== A PURE MACHINE, ITS TABLES (printed by tools/gentab.py) ===== -/
/-- a method: its name, its code, its locals, its answer, its handlers, its class, its height (calls go to lesser heights) -/
abbrev gx_Y : Type := MethodName × ByteArray × Nat × Option FieldType × List (Nat × Nat × Nat × Nat) × Nat × Nat
abbrev gx_nm (Y : gx_Y) : MethodName := Y.1
abbrev gx_cd (Y : gx_Y) : ByteArray := Y.2.1
abbrev gx_mL (Y : gx_Y) : Nat := Y.2.2.1
abbrev gx_rt (Y : gx_Y) : Option FieldType := Y.2.2.2.1
abbrev gx_hh (Y : gx_Y) : List (Nat × Nat × Nat × Nat) := Y.2.2.2.2.1
abbrev gx_oc (Y : gx_Y) : Nat := Y.2.2.2.2.2.1
abbrev gx_ht (Y : gx_Y) : Nat := Y.2.2.2.2.2.2 % 1000
/-- the script, in a number beside the height: its length, its ints -/
abbrev gx_sk (Y : gx_Y) : Nat := Y.2.2.2.2.2.2 / 1000
def gx_cname (k : Nat) : String := (["GallRegister", "GallRegister$Book", "GallRegister$Fading", "GallRegister$Damp", "GallRegister$Printed", "GallRegister$EvenYears", "GallRegister$Slot", "GallRegisterModel", "GallRegister$Reader", "GallRegister$Fault", "GallRegisterLaw", "java/util/ArrayList", "java/util/AbstractList", "java/util/AbstractCollection", "java/lang/String", "java/lang/StringLatin1", "jdk/internal/util/Preconditions", "java/lang/Throwable", "java/lang/Exception", "java/lang/Integer", "java/util/Objects"] : List String).getD k ""
def gx_cl : List vw_C := [(RX0, TX0, 32), (RX1, TX1, 17), (RX2, TX2, 1), (RX3, TX3, 2), (RX4, TX4, 2), (RX5, TX5, 2), (RX6, TX6, 1), (RX7, TX7, 41), (RX8, TX8, 7), (RX9, TX9, 8), (RJ2, TJ2, 3), (RJ12, TJ12, 0), (RJ16, TJ16, 0), (RJ18, TJ18, 0), (RJ19, TJ19, 0)]
def gx_T (ci : Nat) : u_T := ([TX0, TX1, TX2, TX3, TX4, TX5, TX6, TX7, TX8, TX9, TJ2, TJ12, TJ16, TJ18, TJ19] : List u_T).getD ci TX0
def gx_ty (ci : Nat) : Nat → FieldType := ([tyX0, tyX1, tyX2, tyX3, tyX4, tyX5, tyX6, tyX7, tyX8, tyX9, tyJ2, tyJ12, tyJ16, tyJ18, tyJ19] : List (Nat → FieldType)).getD ci tyX0
def gx_N (ci : Nat) : Nat := ([32, 17, 1, 2, 2, 2, 1, 41, 7, 8, 3, 0, 0, 0, 0] : List Nat).getD ci 0
/-- a receiver's class by its tag; 200: a text -/
def gx_rname (t : Nat) : String := if t = 200 then "java/lang/String" else ([RX0, RX1, RX2, RX3, RX4, RX5, RX6, RX7, RX8, RX9, RJ2, RJ12, RJ16, RJ18, RJ19] : List String).getD t ""
def mJ0_init : gx_Y := (yJ0_init, cJ0_init, 1, none, [], 13, 2)
def mJ10_bitCount : gx_Y := (yJ10_bitCount, cJ10_bitCount, 1, (some FieldType.int), [], 19, 2)
def mJ10_signum : gx_Y := (yJ10_signum, cJ10_signum, 1, (some FieldType.int), [], 19, 2)
def mJ2_elementData : gx_Y := (yJ2_elementData, cJ2_elementData, 2, (some (FieldType.object "java/lang/Object")), [], 11, 2)
def mJ2_grow_2 : gx_Y := (yJ2_grow_2, cJ2_grow_2, 4, (some (FieldType.array (FieldType.object "java/lang/Object"))), [], 11, 2)
def mJ2_isEmpty : gx_Y := (yJ2_isEmpty, cJ2_isEmpty, 1, (some FieldType.boolean), [], 11, 2)
def mJ2_size : gx_Y := (yJ2_size, cJ2_size, 1, (some FieldType.int), [], 11, 2)
def mJ4_coder : gx_Y := (yJ4_coder, cJ4_coder, 1, (some FieldType.byte), [], 14, 2)
def mJ4_isLatin1 : gx_Y := (yJ4_isLatin1, cJ4_isLatin1, 1, (some FieldType.boolean), [], 14, 2)
def mJ6_checkIndex : gx_Y := (yJ6_checkIndex, cJ6_checkIndex, 3, (some FieldType.int), [], 16, 2)
def mJ8_init_2 : gx_Y := (yJ8_init_2, cJ8_init_2, 5, none, [], 17, 2)
def mX0_asItIs : gx_Y := (yX0_asItIs, cX0_asItIs, 1, none, [], 0, 2)
def mX0_count : gx_Y := (yX0_count, cX0_count, 4, (some FieldType.int), [], 0, 2)
def mX0_divisor : gx_Y := (yX0_divisor, cX0_divisor, 10, (some FieldType.long), [], 0, 2)
def mX0_everyEntry : gx_Y := (yX0_everyEntry, cX0_everyEntry, 1, (some FieldType.int), [], 0, 2)
def mX0_factorial : gx_Y := (yX0_factorial, cX0_factorial, 4, (some FieldType.long), [], 0, 2)
def mX0_fault : gx_Y := (yX0_fault, cX0_fault, 2, (some FieldType.int), [], 0, 2)
def mX0_isBook : gx_Y := (yX0_isBook, cX0_isBook, 1, (some FieldType.boolean), [], 0, 2)
def mX0_isIn : gx_Y := (yX0_isIn, cX0_isIn, 6, (some FieldType.boolean), [], 0, 2)
def mX0_isOf : gx_Y := (yX0_isOf, cX0_isOf, 2, (some FieldType.boolean), [], 0, 2)
def mX0_isThere : gx_Y := (yX0_isThere, cX0_isThere, 3, (some FieldType.boolean), [], 0, 2)
def mX0_onPage : gx_Y := (yX0_onPage, cX0_onPage, 4, (some FieldType.int), [], 0, 2)
def mX0_puts : gx_Y := (yX0_puts, cX0_puts, 3, none, [], 0, 2)
def mX0_setsRising : gx_Y := (yX0_setsRising, cX0_setsRising, 3, none, [], 0, 2)
def mX0_shadeOf : gx_Y := (yX0_shadeOf, cX0_shadeOf, 3, (some FieldType.int), [], 0, 2)
def mX0_worstIn : gx_Y := (yX0_worstIn, cX0_worstIn, 6, (some FieldType.int), [], 0, 2)
def mX1_init : gx_Y := (yX1_init, cX1_init, 1, none, [], 1, 2)
def mX1_place : gx_Y := (yX1_place, cX1_place, 4, (some FieldType.int), [], 1, 2)
def mX2_init : gx_Y := (yX2_init, cX2_init, 2, none, [], 2, 2)
def mX2_more : gx_Y := (yX2_more, cX2_more, 3, (some FieldType.int), [], 2, 2)
def mX6_at : gx_Y := (yX6_at, cX6_at, 2, (some FieldType.long), [], 6, 2)
def mX6_init : gx_Y := (yX6_init, cX6_init, 1, none, [], 6, 2)
def mX6_make : gx_Y := (yX6_make, cX6_make, 3, none, [], 6, 2)
def mX6_put : gx_Y := (yX6_put, cX6_put, 4, none, [], 6, 2)
def mX6_size : gx_Y := (yX6_size, cX6_size, 1, (some FieldType.int), [], 6, 2)
def mX7_copyRow : gx_Y := (yX7_copyRow, cX7_copyRow, 5, none, [], 7, 2)
def mX7_cut : gx_Y := (yX7_cut, cX7_cut, 3, (some FieldType.long), [], 7, 2)
def mX7_does : gx_Y := (yX7_does, cX7_does, 6, none, [], 7, 2)
def mX7_entries : gx_Y := (yX7_entries, cX7_entries, 1, (some FieldType.int), [], 7, 2)
def mX7_fadeBy : gx_Y := (yX7_fadeBy, cX7_fadeBy, 5, (some FieldType.int), [], 7, 2)
def mX7_fails : gx_Y := (yX7_fails, cX7_fails, 2, none, [], 7, 2)
def mX7_fault : gx_Y := (yX7_fault, cX7_fault, 2, (some FieldType.int), [], 7, 2)
def mX7_four : gx_Y := (yX7_four, cX7_four, 3, none, [], 7, 2)
def mX7_hasRead : gx_Y := (yX7_hasRead, cX7_hasRead, 2, (some FieldType.int), [], 7, 2)
def mX7_in : gx_Y := (yX7_in, cX7_in, 6, (some FieldType.boolean), [], 7, 2)
def mX7_init : gx_Y := (yX7_init, cX7_init, 2, none, [], 7, 2)
def mX7_is : gx_Y := (yX7_is, cX7_is, 3, (some FieldType.boolean), [], 7, 2)
def mX7_isBit : gx_Y := (yX7_isBit, cX7_isBit, 2, (some FieldType.boolean), [], 7, 2)
def mX7_isBook : gx_Y := (yX7_isBook, cX7_isBook, 1, (some FieldType.boolean), [], 7, 2)
def mX7_isByte : gx_Y := (yX7_isByte, cX7_isByte, 4, (some FieldType.boolean), [], 7, 2)
def mX7_isGood : gx_Y := (yX7_isGood, cX7_isGood, 1, (some FieldType.boolean), [], 7, 2)
def mX7_isOver : gx_Y := (yX7_isOver, cX7_isOver, 1, none, [], 7, 2)
def mX7_lessOf : gx_Y := (yX7_lessOf, cX7_lessOf, 2, (some FieldType.int), [], 7, 2)
def mX7_moreOf : gx_Y := (yX7_moreOf, cX7_moreOf, 2, (some FieldType.int), [], 7, 2)
def mX7_placeOf : gx_Y := (yX7_placeOf, cX7_placeOf, 4, (some FieldType.int), [], 7, 2)
def mX7_shadeOf : gx_Y := (yX7_shadeOf, cX7_shadeOf, 3, (some FieldType.int), [], 7, 2)
def mX7_sizeOf : gx_Y := (yX7_sizeOf, cX7_sizeOf, 3, (some FieldType.int), [], 7, 2)
def mX7_tells : gx_Y := (yX7_tells, cX7_tells, 3, none, [], 7, 2)
def mX7_years : gx_Y := (yX7_years, cX7_years, 1, (some FieldType.int), [], 7, 2)
def mJ15_checkIndex : gx_Y := (yJ15_checkIndex, cJ15_checkIndex, 2, (some FieldType.int), [], 20, 3)
def mJ1_init : gx_Y := (yJ1_init, cJ1_init, 1, none, [], 12, 3)
def mJ2_grow : gx_Y := (yJ2_grow, cJ2_grow, 1, (some (FieldType.array (FieldType.object "java/lang/Object"))), [], 11, 3)
def mJ4_checkIndex : gx_Y := (yJ4_checkIndex, cJ4_checkIndex, 2, none, [], 14, 3)
def mJ4_length : gx_Y := (yJ4_length, cJ4_length, 1, (some FieldType.int), [], 14, 3)
def mJ9_init : gx_Y := (yJ9_init, cJ9_init, 5, none, [], 18, 3)
def mX0_allIn : gx_Y := (yX0_allIn, cX0_allIn, 4, (some FieldType.int), [], 0, 3)
def mX0_anew : gx_Y := (yX0_anew, cX0_anew, 2, (some FieldType.int), [], 0, 3)
def mX0_askOf : gx_Y := (yX0_askOf, cX0_askOf, 4, (some FieldType.int), [], 0, 3)
def mX0_begins : gx_Y := (yX0_begins, cX0_begins, 3, none, [], 0, 3)
def mX0_bleach : gx_Y := (yX0_bleach, cX0_bleach, 2, none, [], 0, 3)
def mX0_clearIn : gx_Y := (yX0_clearIn, cX0_clearIn, 4, (some FieldType.int), [], 0, 3)
def mX0_end : gx_Y := (yX0_end, cX0_end, 2, (some FieldType.int), [], 0, 3)
def mX0_facing : gx_Y := (yX0_facing, cX0_facing, 3, (some FieldType.int), [], 0, 3)
def mX0_feed : gx_Y := (yX0_feed, cX0_feed, 6, (some FieldType.int), [], 0, 3)
def mX0_isEntry : gx_Y := (yX0_isEntry, cX0_isEntry, 3, (some FieldType.boolean), [], 0, 3)
def mX0_isInk : gx_Y := (yX0_isInk, cX0_isInk, 2, (some FieldType.boolean), [], 0, 3)
def mX0_isLaw : gx_Y := (yX0_isLaw, cX0_isLaw, 1, (some FieldType.boolean), [], 0, 3)
def mX0_isOneOf : gx_Y := (yX0_isOneOf, cX0_isOneOf, 2, (some FieldType.boolean), [], 0, 3)
def mX0_isPage : gx_Y := (yX0_isPage, cX0_isPage, 2, (some FieldType.boolean), [], 0, 3)
def mX0_isSeed : gx_Y := (yX0_isSeed, cX0_isSeed, 1, (some FieldType.boolean), [], 0, 3)
def mX0_isSlot : gx_Y := (yX0_isSlot, cX0_isSlot, 1, (some FieldType.boolean), [], 0, 3)
def mX0_isYear : gx_Y := (yX0_isYear, cX0_isYear, 3, (some FieldType.boolean), [], 0, 3)
def mX0_lastOf : gx_Y := (yX0_lastOf, cX0_lastOf, 2, (some FieldType.int), [], 0, 3)
def mX0_lies : gx_Y := (yX0_lies, cX0_lies, 3, (some FieldType.int), [], 0, 3)
def mX0_number : gx_Y := (yX0_number, cX0_number, 3, (some FieldType.int), [], 0, 3)
def mX0_part : gx_Y := (yX0_part, cX0_part, 5, (some FieldType.long), [], 0, 3)
def mX0_pure : gx_Y := (yX0_pure, cX0_pure, 10, (some FieldType.int), [], 0, 3)
def mX0_put : gx_Y := (yX0_put, cX0_put, 4, (some FieldType.int), [], 0, 3)
def mX0_ripeOf : gx_Y := (yX0_ripeOf, cX0_ripeOf, 4, (some FieldType.int), [], 0, 3)
def mX0_sign : gx_Y := (yX0_sign, cX0_sign, 4, (some FieldType.int), [], 0, 3)
def mX0_sortsOf : gx_Y := (yX0_sortsOf, cX0_sortsOf, 7, (some FieldType.int), [], 0, 3)
def mX0_thereIn : gx_Y := (yX0_thereIn, cX0_thereIn, 4, (some FieldType.int), [], 0, 3)
def mX0_undo : gx_Y := (yX0_undo, cX0_undo, 1, (some FieldType.int), [], 0, 3)
def mX1_copy : gx_Y := (yX1_copy, cX1_copy, 2, (some (FieldType.object "GallRegister$Book")), [], 1, 3)
def mX2_less : gx_Y := (yX2_less, cX2_less, 3, (some FieldType.int), [], 2, 3)
def mX3_init : gx_Y := (yX3_init, cX3_init, 2, none, [], 3, 3)
def mX4_init : gx_Y := (yX4_init, cX4_init, 2, none, [], 4, 3)
def mX5_init : gx_Y := (yX5_init, cX5_init, 2, none, [], 5, 3)
def mX7_allAt : gx_Y := (yX7_allAt, cX7_allAt, 4, (some FieldType.int), [], 7, 3)
def mX7_alone : gx_Y := (yX7_alone, cX7_alone, 8, (some FieldType.int), [], 7, 3)
def mX7_anew : gx_Y := (yX7_anew, cX7_anew, 2, (some FieldType.int), [], 7, 3)
def mX7_begin0 : gx_Y := (yX7_begin0, cX7_begin0, 4, none, [], 7, 3)
def mX7_bleach0 : gx_Y := (yX7_bleach0, cX7_bleach0, 3, none, [], 7, 3)
def mX7_clearAt : gx_Y := (yX7_clearAt, cX7_clearAt, 4, (some FieldType.int), [], 7, 3)
def mX7_clears : gx_Y := (yX7_clears, cX7_clears, 2, none, [], 7, 3)
def mX7_copyBook : gx_Y := (yX7_copyBook, cX7_copyBook, 3, none, [], 7, 3)
def mX7_count : gx_Y := (yX7_count, cX7_count, 4, (some FieldType.int), [], 7, 3)
def mX7_end : gx_Y := (yX7_end, cX7_end, 2, (some FieldType.int), [], 7, 3)
def mX7_facing : gx_Y := (yX7_facing, cX7_facing, 4, (some FieldType.int), [], 7, 3)
def mX7_feed : gx_Y := (yX7_feed, cX7_feed, 6, (some FieldType.int), [], 7, 3)
def mX7_isEntry : gx_Y := (yX7_isEntry, cX7_isEntry, 3, (some FieldType.boolean), [], 7, 3)
def mX7_isHalf : gx_Y := (yX7_isHalf, cX7_isHalf, 1, (some FieldType.boolean), [], 7, 3)
def mX7_isInk : gx_Y := (yX7_isInk, cX7_isInk, 2, (some FieldType.boolean), [], 7, 3)
def mX7_isPage : gx_Y := (yX7_isPage, cX7_isPage, 2, (some FieldType.boolean), [], 7, 3)
def mX7_isSeed : gx_Y := (yX7_isSeed, cX7_isSeed, 1, (some FieldType.boolean), [], 7, 3)
def mX7_isSlot : gx_Y := (yX7_isSlot, cX7_isSlot, 1, (some FieldType.boolean), [], 7, 3)
def mX7_isSo : gx_Y := (yX7_isSo, cX7_isSo, 4, (some FieldType.boolean), [], 7, 3)
def mX7_isSoon : gx_Y := (yX7_isSoon, cX7_isSoon, 2, (some FieldType.boolean), [], 7, 3)
def mX7_isThere : gx_Y := (yX7_isThere, cX7_isThere, 3, (some FieldType.boolean), [], 7, 3)
def mX7_isYear : gx_Y := (yX7_isYear, cX7_isYear, 3, (some FieldType.boolean), [], 7, 3)
def mX7_lastOf : gx_Y := (yX7_lastOf, cX7_lastOf, 2, (some FieldType.int), [], 7, 3)
def mX7_lays : gx_Y := (yX7_lays, cX7_lays, 2, none, [], 7, 3)
def mX7_lies : gx_Y := (yX7_lies, cX7_lies, 3, (some FieldType.int), [], 7, 3)
def mX7_next : gx_Y := (yX7_next, cX7_next, 2, none, [], 7, 3)
def mX7_orderOf : gx_Y := (yX7_orderOf, cX7_orderOf, 4, (some FieldType.int), [], 7, 3)
def mX7_put : gx_Y := (yX7_put, cX7_put, 4, (some FieldType.int), [], 7, 3)
def mX7_ripeOf : gx_Y := (yX7_ripeOf, cX7_ripeOf, 4, (some FieldType.int), [], 7, 3)
def mX7_undo : gx_Y := (yX7_undo, cX7_undo, 1, (some FieldType.int), [], 7, 3)
def mX8_isNext : gx_Y := (yX8_isNext, cX8_isNext, 3, (some FieldType.boolean), [], 8, 3)
def mJ2_add_2 : gx_Y := (yJ2_add_2, cJ2_add_2, 4, none, [], 11, 4)
def mJ2_get : gx_Y := (yJ2_get, cJ2_get, 2, (some (FieldType.object "java/lang/Object")), [], 11, 4)
def mJ2_init : gx_Y := (yJ2_init, cJ2_init, 1, none, [], 11, 4)
def mJ2_set : gx_Y := (yJ2_set, cJ2_set, 4, (some (FieldType.object "java/lang/Object")), [], 11, 4)
def mJ5_charAt : gx_Y := (yJ5_charAt, cJ5_charAt, 2, (some FieldType.char), [], 15, 4)
def mX0_acts : gx_Y := (yX0_acts, cX0_acts, 5, none, [], 0, 4)
def mX0_ages : gx_Y := (yX0_ages, cX0_ages, 7, (some FieldType.int), [], 0, 4)
def mX0_allLast : gx_Y := (yX0_allLast, cX0_allLast, 1, (some FieldType.int), [], 0, 4)
def mX0_areTwo : gx_Y := (yX0_areTwo, cX0_areTwo, 3, (some FieldType.boolean), [], 0, 4)
def mX0_asksSeen : gx_Y := (yX0_asksSeen, cX0_asksSeen, 4, (some FieldType.int), [(17, 35, 104, 341), (36, 91, 104, 341), (92, 103, 104, 341)], 0, 4)
def mX0_entry : gx_Y := (yX0_entry, cX0_entry, 3, (some FieldType.int), [], 0, 4)
def mX0_faces : gx_Y := (yX0_faces, cX0_faces, 2, (some FieldType.int), [], 0, 4)
def mX0_ink : gx_Y := (yX0_ink, cX0_ink, 3, (some FieldType.int), [], 0, 4)
def mX0_isChance : gx_Y := (yX0_isChance, cX0_isChance, 2, (some FieldType.boolean), [], 0, 4)
def mX0_on : gx_Y := (yX0_on, cX0_on, 2, (some FieldType.int), [], 0, 4)
def mX0_order : gx_Y := (yX0_order, cX0_order, 4, (some FieldType.int), [], 0, 4)
def mX0_page : gx_Y := (yX0_page, cX0_page, 2, (some FieldType.int), [], 0, 4)
def mX0_passesBy : gx_Y := (yX0_passesBy, cX0_passesBy, 5, (some FieldType.int), [], 0, 4)
def mX0_paste : gx_Y := (yX0_paste, cX0_paste, 7, (some FieldType.int), [(17, 44, 45, 341), (17, 44, 50, 480), (17, 44, 55, 482)], 0, 4)
def mX0_rate : gx_Y := (yX0_rate, cX0_rate, 4, (some FieldType.int), [], 0, 4)
def mX0_row : gx_Y := (yX0_row, cX0_row, 5, (some FieldType.int), [(28, 40, 41, 472)], 0, 4)
def mX0_uses : gx_Y := (yX0_uses, cX0_uses, 4, (some FieldType.int), [], 0, 4)
def mX0_write : gx_Y := (yX0_write, cX0_write, 6, (some FieldType.int), [(10, 22, 23, 341), (10, 22, 28, 478)], 0, 4)
def mX3_less : gx_Y := (yX3_less, cX3_less, 3, (some FieldType.int), [], 3, 4)
def mX4_more : gx_Y := (yX4_more, cX4_more, 5, (some FieldType.int), [], 4, 4)
def mX5_less : gx_Y := (yX5_less, cX5_less, 3, (some FieldType.int), [], 5, 4)
def mX7_actsOf : gx_Y := (yX7_actsOf, cX7_actsOf, 4, none, [], 7, 4)
def mX7_ages : gx_Y := (yX7_ages, cX7_ages, 7, (some FieldType.int), [], 7, 4)
def mX7_areTwo : gx_Y := (yX7_areTwo, cX7_areTwo, 3, (some FieldType.boolean), [], 7, 4)
def mX7_back : gx_Y := (yX7_back, cX7_back, 2, (some FieldType.int), [], 7, 4)
def mX7_begins : gx_Y := (yX7_begins, cX7_begins, 1, none, [], 7, 4)
def mX7_ends : gx_Y := (yX7_ends, cX7_ends, 1, none, [], 7, 4)
def mX7_entry : gx_Y := (yX7_entry, cX7_entry, 3, (some FieldType.int), [], 7, 4)
def mX7_faces : gx_Y := (yX7_faces, cX7_faces, 2, (some FieldType.int), [], 7, 4)
def mX7_image : gx_Y := (yX7_image, cX7_image, 2, (some FieldType.int), [], 7, 4)
def mX7_ink : gx_Y := (yX7_ink, cX7_ink, 3, (some FieldType.int), [], 7, 4)
def mX7_isRoom : gx_Y := (yX7_isRoom, cX7_isRoom, 4, (some FieldType.boolean), [], 7, 4)
def mX7_isThen : gx_Y := (yX7_isThen, cX7_isThen, 3, (some FieldType.boolean), [], 7, 4)
def mX7_number_2 : gx_Y := (yX7_number_2, cX7_number_2, 4, (some FieldType.int), [], 7, 4)
def mX7_on : gx_Y := (yX7_on, cX7_on, 4, (some FieldType.int), [], 7, 4)
def mX7_oneBy : gx_Y := (yX7_oneBy, cX7_oneBy, 5, (some FieldType.int), [], 7, 4)
def mX7_order : gx_Y := (yX7_order, cX7_order, 4, (some FieldType.int), [], 7, 4)
def mX7_page : gx_Y := (yX7_page, cX7_page, 2, (some FieldType.int), [], 7, 4)
def mX7_pageLine : gx_Y := (yX7_pageLine, cX7_pageLine, 2, none, [], 7, 4)
def mX7_passesOf : gx_Y := (yX7_passesOf, cX7_passesOf, 5, (some FieldType.int), [], 7, 4)
def mX7_paste : gx_Y := (yX7_paste, cX7_paste, 7, (some FieldType.int), [], 7, 4)
def mX7_rate : gx_Y := (yX7_rate, cX7_rate, 4, (some FieldType.int), [], 7, 4)
def mX7_row : gx_Y := (yX7_row, cX7_row, 5, (some FieldType.int), [], 7, 4)
def mX7_sortsOf : gx_Y := (yX7_sortsOf, cX7_sortsOf, 7, (some FieldType.int), [], 7, 4)
def mX7_steps : gx_Y := (yX7_steps, cX7_steps, 6, none, [], 7, 4)
def mX7_takesWord : gx_Y := (yX7_takesWord, cX7_takesWord, 3, (some FieldType.boolean), [], 7, 4)
def mX7_thereAt : gx_Y := (yX7_thereAt, cX7_thereAt, 4, (some FieldType.int), [], 7, 4)
def mX7_uses : gx_Y := (yX7_uses, cX7_uses, 4, (some FieldType.int), [], 7, 4)
def mX7_whyNot : gx_Y := (yX7_whyNot, cX7_whyNot, 5, (some FieldType.int), [], 7, 4)
def mX7_write : gx_Y := (yX7_write, cX7_write, 5, (some FieldType.int), [], 7, 4)
def mX7_writtenBy : gx_Y := (yX7_writtenBy, cX7_writtenBy, 5, (some FieldType.int), [], 7, 4)
def mX8_next : gx_Y := (yX8_next, cX8_next, 1, none, [], 8, 4)
def mX9_init : gx_Y := (yX9_init, cX9_init, 3, none, [], 9, 4)
def mJ2_add : gx_Y := (yJ2_add, cJ2_add, 2, (some FieldType.boolean), [], 11, 5)
def mJ4_charAt : gx_Y := (yJ4_charAt, cJ4_charAt, 2, (some FieldType.char), [], 14, 5)
def mX0_back : gx_Y := (yX0_back, cX0_back, 2, (some FieldType.int), [], 0, 5)
def mX0_goesOn : gx_Y := (yX0_goesOn, cX0_goesOn, 4, none, [], 0, 5)
def mX0_init : gx_Y := (yX0_init, cX0_init, 1, none, [], 0, 5)
def mX7_age : gx_Y := (yX7_age, cX7_age, 3, (some FieldType.int), [], 7, 5)
def mX7_asks : gx_Y := (yX7_asks, cX7_asks, 3, none, [], 7, 5)
def mX7_newest : gx_Y := (yX7_newest, cX7_newest, 2, (some FieldType.int), [], 7, 5)
def mX7_oldest : gx_Y := (yX7_oldest, cX7_oldest, 2, (some FieldType.int), [], 7, 5)
def mX7_runs : gx_Y := (yX7_runs, cX7_runs, 3, none, [], 7, 5)
def mX7_there : gx_Y := (yX7_there, cX7_there, 2, (some FieldType.int), [], 7, 5)
def mX8_init : gx_Y := (yX8_init, cX8_init, 2, none, [], 8, 5)
def mX8_wrong : gx_Y := (yX8_wrong, cX8_wrong, 2, (some (FieldType.object "GallRegister$Fault")), [], 8, 5)
def mX0_image : gx_Y := (yX0_image, cX0_image, 2, (some FieldType.int), [], 0, 6)
def mX0_lays : gx_Y := (yX0_lays, cX0_lays, 3, none, [], 0, 6)
def mX7_allBy : gx_Y := (yX7_allBy, cX7_allBy, 2, (some FieldType.int), [], 7, 6)
def mX7_draws : gx_Y := (yX7_draws, cX7_draws, 6, none, [], 7, 6)
def mX7_getsBy : gx_Y := (yX7_getsBy, cX7_getsBy, 8, (some FieldType.int), [], 7, 6)
def mX7_hide : gx_Y := (yX7_hide, cX7_hide, 4, (some FieldType.int), [], 7, 6)
def mX7_kinds : gx_Y := (yX7_kinds, cX7_kinds, 6, (some FieldType.int), [], 7, 6)
def mX7_later : gx_Y := (yX7_later, cX7_later, 3, (some FieldType.int), [], 7, 6)
def mX7_laysDates : gx_Y := (yX7_laysDates, cX7_laysDates, 6, none, [], 7, 6)
def mX7_laysNow : gx_Y := (yX7_laysNow, cX7_laysNow, 1, none, [], 7, 6)
def mX7_number : gx_Y := (yX7_number, cX7_number, 5, (some FieldType.int), [], 7, 6)
def mX7_other : gx_Y := (yX7_other, cX7_other, 3, (some FieldType.int), [], 7, 6)
def mX7_save : gx_Y := (yX7_save, cX7_save, 3, (some FieldType.int), [], 7, 6)
def mX8_is : gx_Y := (yX8_is, cX8_is, 3, (some FieldType.boolean), [], 8, 6)
def mX8_number : gx_Y := (yX8_number, cX8_number, 4, (some FieldType.int), [], 8, 6)
def mX0_allByLaw : gx_Y := (yX0_allByLaw, cX0_allByLaw, 2, (some FieldType.int), [], 0, 7)
def mX0_asksBook : gx_Y := (yX0_asksBook, cX0_asksBook, 1, (some FieldType.boolean), [], 0, 7)
def mX0_draws : gx_Y := (yX0_draws, cX0_draws, 6, none, [], 0, 7)
def mX0_getsOf : gx_Y := (yX0_getsOf, cX0_getsOf, 5, (some FieldType.int), [], 0, 7)
def mX0_isSo : gx_Y := (yX0_isSo, cX0_isSo, 3, (some FieldType.boolean), [], 0, 7)
def mX0_later : gx_Y := (yX0_later, cX0_later, 3, (some FieldType.int), [], 0, 7)
def mX0_laysChance : gx_Y := (yX0_laysChance, cX0_laysChance, 7, none, [], 0, 7)
def mX0_other : gx_Y := (yX0_other, cX0_other, 3, (some FieldType.int), [], 0, 7)
def mX7_alike : gx_Y := (yX7_alike, cX7_alike, 5, (some FieldType.int), [], 7, 7)
def mX7_all : gx_Y := (yX7_all, cX7_all, 2, (some FieldType.int), [], 7, 7)
def mX7_ask : gx_Y := (yX7_ask, cX7_ask, 4, (some FieldType.int), [], 7, 7)
def mX7_betrayed : gx_Y := (yX7_betrayed, cX7_betrayed, 3, (some FieldType.int), [], 7, 7)
def mX7_blank : gx_Y := (yX7_blank, cX7_blank, 3, (some FieldType.int), [], 7, 7)
def mX7_bleaches : gx_Y := (yX7_bleaches, cX7_bleaches, 3, (some FieldType.int), [], 7, 7)
def mX7_bold : gx_Y := (yX7_bold, cX7_bold, 5, (some FieldType.int), [], 7, 7)
def mX7_by : gx_Y := (yX7_by, cX7_by, 2, (some FieldType.int), [], 7, 7)
def mX7_clear : gx_Y := (yX7_clear, cX7_clear, 2, (some FieldType.int), [], 7, 7)
def mX7_cross : gx_Y := (yX7_cross, cX7_cross, 4, (some FieldType.int), [], 7, 7)
def mX7_darkest : gx_Y := (yX7_darkest, cX7_darkest, 2, (some FieldType.int), [], 7, 7)
def mX7_dates : gx_Y := (yX7_dates, cX7_dates, 4, (some FieldType.int), [], 7, 7)
def mX7_drawn : gx_Y := (yX7_drawn, cX7_drawn, 3, (some FieldType.int), [], 7, 7)
def mX7_entryLine : gx_Y := (yX7_entryLine, cX7_entryLine, 2, none, [], 7, 7)
def mX7_falls : gx_Y := (yX7_falls, cX7_falls, 4, (some FieldType.int), [], 7, 7)
def mX7_first : gx_Y := (yX7_first, cX7_first, 5, (some FieldType.int), [], 7, 7)
def mX7_gets : gx_Y := (yX7_gets, cX7_gets, 5, (some FieldType.int), [], 7, 7)
def mX7_heavy : gx_Y := (yX7_heavy, cX7_heavy, 4, (some FieldType.int), [], 7, 7)
def mX7_honest : gx_Y := (yX7_honest, cX7_honest, 4, (some FieldType.int), [], 7, 7)
def mX7_inkLine : gx_Y := (yX7_inkLine, cX7_inkLine, 2, none, [], 7, 7)
def mX7_last : gx_Y := (yX7_last, cX7_last, 5, (some FieldType.int), [], 7, 7)
def mX7_lasts : gx_Y := (yX7_lasts, cX7_lasts, 4, (some FieldType.int), [], 7, 7)
def mX7_law : gx_Y := (yX7_law, cX7_law, 3, (some FieldType.int), [], 7, 7)
def mX7_laws : gx_Y := (yX7_laws, cX7_laws, 5, (some FieldType.int), [], 7, 7)
def mX7_leaves : gx_Y := (yX7_leaves, cX7_leaves, 4, (some FieldType.int), [], 7, 7)
def mX7_luck : gx_Y := (yX7_luck, cX7_luck, 6, (some FieldType.int), [], 7, 7)
def mX7_match : gx_Y := (yX7_match, cX7_match, 5, (some FieldType.int), [], 7, 7)
def mX7_palest : gx_Y := (yX7_palest, cX7_palest, 2, (some FieldType.int), [], 7, 7)
def mX7_paling : gx_Y := (yX7_paling, cX7_paling, 4, (some FieldType.int), [], 7, 7)
def mX7_passes : gx_Y := (yX7_passes, cX7_passes, 3, (some FieldType.int), [], 7, 7)
def mX7_peak : gx_Y := (yX7_peak, cX7_peak, 2, (some FieldType.int), [], 7, 7)
def mX7_peaks : gx_Y := (yX7_peaks, cX7_peaks, 3, (some FieldType.int), [], 7, 7)
def mX7_rests : gx_Y := (yX7_rests, cX7_rests, 8, (some FieldType.int), [], 7, 7)
def mX7_retraces : gx_Y := (yX7_retraces, cX7_retraces, 4, (some FieldType.int), [], 7, 7)
def mX7_ripe : gx_Y := (yX7_ripe, cX7_ripe, 2, (some FieldType.int), [], 7, 7)
def mX7_rising : gx_Y := (yX7_rising, cX7_rising, 4, (some FieldType.int), [], 7, 7)
def mX7_shade : gx_Y := (yX7_shade, cX7_shade, 3, (some FieldType.int), [], 7, 7)
def mX7_sorts : gx_Y := (yX7_sorts, cX7_sorts, 2, (some FieldType.int), [], 7, 7)
def mX7_spread : gx_Y := (yX7_spread, cX7_spread, 2, (some FieldType.int), [], 7, 7)
def mX7_steady : gx_Y := (yX7_steady, cX7_steady, 5, (some FieldType.int), [], 7, 7)
def mX7_sum : gx_Y := (yX7_sum, cX7_sum, 5, (some FieldType.int), [], 7, 7)
def mX7_suspects : gx_Y := (yX7_suspects, cX7_suspects, 4, (some FieldType.int), [], 7, 7)
def mX7_swaps : gx_Y := (yX7_swaps, cX7_swaps, 5, (some FieldType.int), [], 7, 7)
def mX7_worth : gx_Y := (yX7_worth, cX7_worth, 2, (some FieldType.int), [], 7, 7)
def mX8_takes : gx_Y := (yX8_takes, cX8_takes, 3, (some FieldType.boolean), [], 8, 7)
def mX0_asksEntry : gx_Y := (yX0_asksEntry, cX0_asksEntry, 2, (some FieldType.boolean), [], 0, 8)
def mX0_asksYear : gx_Y := (yX0_asksYear, cX0_asksYear, 2, (some FieldType.boolean), [], 0, 8)
def mX0_by : gx_Y := (yX0_by, cX0_by, 2, (some FieldType.int), [], 0, 8)
def mX0_chance : gx_Y := (yX0_chance, cX0_chance, 5, (some FieldType.int), [], 0, 8)
def mX0_drawn : gx_Y := (yX0_drawn, cX0_drawn, 3, (some FieldType.int), [], 0, 8)
def mX0_gets : gx_Y := (yX0_gets, cX0_gets, 5, (some FieldType.int), [], 0, 8)
def mX0_heavy : gx_Y := (yX0_heavy, cX0_heavy, 3, (some FieldType.int), [], 0, 8)
def mX0_isKept : gx_Y := (yX0_isKept, cX0_isKept, 2, (some FieldType.boolean), [], 0, 8)
def mX0_kinds : gx_Y := (yX0_kinds, cX0_kinds, 6, (some FieldType.int), [], 0, 8)
def mX0_law : gx_Y := (yX0_law, cX0_law, 3, (some FieldType.int), [], 0, 8)
def mX0_laws : gx_Y := (yX0_laws, cX0_laws, 5, (some FieldType.int), [], 0, 8)
def mX0_laysFits : gx_Y := (yX0_laysFits, cX0_laysFits, 6, (some FieldType.int), [], 0, 8)
def mX0_luck : gx_Y := (yX0_luck, cX0_luck, 6, (some FieldType.int), [], 0, 8)
def mX0_mean : gx_Y := (yX0_mean, cX0_mean, 3, (some FieldType.long), [], 0, 8)
def mX0_peaks : gx_Y := (yX0_peaks, cX0_peaks, 3, (some FieldType.int), [], 0, 8)
def mX0_rests : gx_Y := (yX0_rests, cX0_rests, 6, (some FieldType.int), [], 0, 8)
def mX0_worth : gx_Y := (yX0_worth, cX0_worth, 2, (some FieldType.int), [], 0, 8)
def mX7_lineHere : gx_Y := (yX7_lineHere, cX7_lineHere, 1, none, [], 7, 8)
def mX8_begins : gx_Y := (yX8_begins, cX8_begins, 3, (some FieldType.boolean), [], 8, 8)
def mX8_expects : gx_Y := (yX8_expects, cX8_expects, 2, none, [], 8, 8)
def mX8_newPage : gx_Y := (yX8_newPage, cX8_newPage, 1, none, [], 8, 8)
def mX0_age : gx_Y := (yX0_age, cX0_age, 3, (some FieldType.int), [], 0, 9)
def mX0_alike : gx_Y := (yX0_alike, cX0_alike, 5, (some FieldType.int), [], 0, 9)
def mX0_all : gx_Y := (yX0_all, cX0_all, 2, (some FieldType.int), [], 0, 9)
def mX0_ask : gx_Y := (yX0_ask, cX0_ask, 4, (some FieldType.int), [], 0, 9)
def mX0_betrayed : gx_Y := (yX0_betrayed, cX0_betrayed, 3, (some FieldType.int), [], 0, 9)
def mX0_blank : gx_Y := (yX0_blank, cX0_blank, 3, (some FieldType.int), [], 0, 9)
def mX0_bleaches : gx_Y := (yX0_bleaches, cX0_bleaches, 3, (some FieldType.int), [], 0, 9)
def mX0_bold : gx_Y := (yX0_bold, cX0_bold, 5, (some FieldType.int), [], 0, 9)
def mX0_clear : gx_Y := (yX0_clear, cX0_clear, 2, (some FieldType.int), [], 0, 9)
def mX0_cross : gx_Y := (yX0_cross, cX0_cross, 4, (some FieldType.int), [], 0, 9)
def mX0_darkest : gx_Y := (yX0_darkest, cX0_darkest, 4, (some FieldType.int), [], 0, 9)
def mX0_dates : gx_Y := (yX0_dates, cX0_dates, 4, (some FieldType.int), [], 0, 9)
def mX0_falls : gx_Y := (yX0_falls, cX0_falls, 4, (some FieldType.int), [], 0, 9)
def mX0_first : gx_Y := (yX0_first, cX0_first, 4, (some FieldType.int), [], 0, 9)
def mX0_hide : gx_Y := (yX0_hide, cX0_hide, 3, (some FieldType.int), [], 0, 9)
def mX0_honest : gx_Y := (yX0_honest, cX0_honest, 4, (some FieldType.int), [], 0, 9)
def mX0_last : gx_Y := (yX0_last, cX0_last, 4, (some FieldType.int), [], 0, 9)
def mX0_lasts : gx_Y := (yX0_lasts, cX0_lasts, 4, (some FieldType.int), [], 0, 9)
def mX0_leaves : gx_Y := (yX0_leaves, cX0_leaves, 4, (some FieldType.int), [], 0, 9)
def mX0_match : gx_Y := (yX0_match, cX0_match, 5, (some FieldType.int), [], 0, 9)
def mX0_newest : gx_Y := (yX0_newest, cX0_newest, 4, (some FieldType.int), [], 0, 9)
def mX0_oldest : gx_Y := (yX0_oldest, cX0_oldest, 4, (some FieldType.int), [], 0, 9)
def mX0_palest : gx_Y := (yX0_palest, cX0_palest, 4, (some FieldType.int), [], 0, 9)
def mX0_paling : gx_Y := (yX0_paling, cX0_paling, 4, (some FieldType.int), [], 0, 9)
def mX0_passes : gx_Y := (yX0_passes, cX0_passes, 3, (some FieldType.int), [], 0, 9)
def mX0_peak : gx_Y := (yX0_peak, cX0_peak, 2, (some FieldType.int), [], 0, 9)
def mX0_retraces : gx_Y := (yX0_retraces, cX0_retraces, 4, (some FieldType.int), [], 0, 9)
def mX0_ripe : gx_Y := (yX0_ripe, cX0_ripe, 2, (some FieldType.int), [], 0, 9)
def mX0_rising : gx_Y := (yX0_rising, cX0_rising, 2, (some FieldType.int), [], 0, 9)
def mX0_save : gx_Y := (yX0_save, cX0_save, 2, (some FieldType.int), [], 0, 9)
def mX0_shade : gx_Y := (yX0_shade, cX0_shade, 3, (some FieldType.int), [], 0, 9)
def mX0_share : gx_Y := (yX0_share, cX0_share, 7, (some FieldType.int), [], 0, 9)
def mX0_sorts : gx_Y := (yX0_sorts, cX0_sorts, 2, (some FieldType.int), [], 0, 9)
def mX0_spread : gx_Y := (yX0_spread, cX0_spread, 5, (some FieldType.int), [], 0, 9)
def mX0_steady : gx_Y := (yX0_steady, cX0_steady, 6, (some FieldType.int), [], 0, 9)
def mX0_sum : gx_Y := (yX0_sum, cX0_sum, 5, (some FieldType.int), [], 0, 9)
def mX0_suspects : gx_Y := (yX0_suspects, cX0_suspects, 4, (some FieldType.int), [], 0, 9)
def mX0_swaps : gx_Y := (yX0_swaps, cX0_swaps, 5, (some FieldType.int), [], 0, 9)
def mX0_there : gx_Y := (yX0_there, cX0_there, 2, (some FieldType.int), [], 0, 9)
def mX7_book : gx_Y := (yX7_book, cX7_book, 1, (some FieldType.int), [], 7, 9)
def mX8_told : gx_Y := (yX8_told, cX8_told, 4, (some FieldType.int), [], 8, 9)
def mX8_head : gx_Y := (yX8_head, cX8_head, 1, none, [], 8, 10)
def mX8_newEntry : gx_Y := (yX8_newEntry, cX8_newEntry, 2, none, [], 8, 10)
def mX8_newInk : gx_Y := (yX8_newInk, cX8_newInk, 2, none, [], 8, 10)
def mX8_line : gx_Y := (yX8_line, cX8_line, 1, none, [], 8, 11)
def mX8_whole : gx_Y := (yX8_whole, cX8_whole, 1, (some (FieldType.object "GallRegister$Book")), [], 8, 12)
def mX0_book : gx_Y := (yX0_book, cX0_book, 4, (some FieldType.int), [(0, 33, 40, 112), (0, 33, 67, 0), (40, 60, 67, 0)], 0, 13)
def mX7_times : gx_Y := (yX7_times, cX7_times, 1, (some FieldType.int), [], 7, 40)
def mX7_power : gx_Y := (yX7_power, cX7_power, 3, (some FieldType.long), [], 7, 60)
def mX7_weightOf : gx_Y := (yX7_weightOf, cX7_weightOf, 9, (some FieldType.long), [], 7, 61)
def mX7_common : gx_Y := (yX7_common, cX7_common, 4, (some FieldType.long), [], 7, 200)
def mX7_part : gx_Y := (yX7_part, cX7_part, 5, (some FieldType.long), [], 7, 201)
def mX7_chance : gx_Y := (yX7_chance, cX7_chance, 5, (some FieldType.int), [], 7, 202)
def mX7_mean : gx_Y := (yX7_mean, cX7_mean, 3, (some FieldType.long), [], 7, 202)
def mX7_share : gx_Y := (yX7_share, cX7_share, 6, (some FieldType.int), [], 7, 202)
def mL_law : gx_Y := (x, code, 4, ret, [], 10, 203)
def gx_nest : List Cond := [(Jvm.Cond.fieldLinkNest "GallRegister$Reader" (121 : Nat) "GallRegister$Book" "years" "I" "GallRegister"), (Jvm.Cond.fieldLinkNest "GallRegister" (133 : Nat) "GallRegister$Book" "years" "I" "GallRegister"), (Jvm.Cond.fieldLinkNest "GallRegister$Reader" (125 : Nat) "GallRegister$Book" "law" "I" "GallRegister"), (Jvm.Cond.fieldLinkNest "GallRegister" (188 : Nat) "GallRegister$Book" "law" "I" "GallRegister"), (Jvm.Cond.fieldLinkNest "GallRegister$Reader" (129 : Nat) "GallRegister$Book" "odds" "I" "GallRegister"), (Jvm.Cond.fieldLinkNest "GallRegister" (410 : Nat) "GallRegister$Book" "odds" "I" "GallRegister"), (Jvm.Cond.fieldLinkNest "GallRegister" (109 : Nat) "GallRegister$Book" "lines" "I" "GallRegister"), (Jvm.Cond.fieldLinkNest "GallRegister$Reader" (192 : Nat) "GallRegister$Book" "lines" "I" "GallRegister"), (Jvm.Cond.fieldLinkNest "GallRegister" (120 : Nat) "GallRegister$Book" "inks" "I" "GallRegister"), (Jvm.Cond.fieldLinkNest "GallRegister$Reader" (131 : Nat) "GallRegister$Book" "inks" "I" "GallRegister"), (Jvm.Cond.fieldLinkNest "GallRegister" (123 : Nat) "GallRegister$Book" "pages" "I" "GallRegister"), (Jvm.Cond.fieldLinkNest "GallRegister$Reader" (151 : Nat) "GallRegister$Book" "pages" "I" "GallRegister"), (Jvm.Cond.fieldLinkNest "GallRegister" (126 : Nat) "GallRegister$Book" "entries" "I" "GallRegister"), (Jvm.Cond.fieldLinkNest "GallRegister$Reader" (154 : Nat) "GallRegister$Book" "entries" "I" "GallRegister"), (Jvm.Cond.fieldLinkNest "GallRegister" (237 : Nat) "GallRegister$Book" "acts" "I" "GallRegister"), (Jvm.Cond.fieldLinkNest "GallRegister$Reader" (149 : Nat) "GallRegister$Book" "damp" "I" "GallRegister"), (Jvm.Cond.fieldLinkNest "GallRegister" (160 : Nat) "GallRegister$Book" "damp" "I" "GallRegister"), (Jvm.Cond.fieldLinkNest "GallRegister$Reader" (134 : Nat) "GallRegister$Book" "rise" "[I" "GallRegister"), (Jvm.Cond.fieldLinkNest "GallRegister" (148 : Nat) "GallRegister$Book" "rise" "[I" "GallRegister"), (Jvm.Cond.fieldLinkNest "GallRegister$Reader" (139 : Nat) "GallRegister$Book" "top" "[I" "GallRegister"), (Jvm.Cond.fieldLinkNest "GallRegister" (151 : Nat) "GallRegister$Book" "top" "[I" "GallRegister"), (Jvm.Cond.fieldLinkNest "GallRegister$Fading" (19 : Nat) "GallRegister$Book" "fade" "[I" "GallRegister"), (Jvm.Cond.fieldLinkNest "GallRegister$Damp" (37 : Nat) "GallRegister$Book" "fade" "[I" "GallRegister"), (Jvm.Cond.fieldLinkNest "GallRegister$Reader" (143 : Nat) "GallRegister$Book" "fade" "[I" "GallRegister"), (Jvm.Cond.fieldLinkNest "GallRegister" (154 : Nat) "GallRegister$Book" "fade" "[I" "GallRegister"), (Jvm.Cond.fieldLinkNest "GallRegister$Damp" (27 : Nat) "GallRegister$Book" "page" "[I" "GallRegister"), (Jvm.Cond.fieldLinkNest "GallRegister$Reader" (157 : Nat) "GallRegister$Book" "page" "[I" "GallRegister"), (Jvm.Cond.fieldLinkNest "GallRegister" (167 : Nat) "GallRegister$Book" "page" "[I" "GallRegister"), (Jvm.Cond.fieldLinkNest "GallRegister$Reader" (162 : Nat) "GallRegister$Book" "ink" "[I" "GallRegister"), (Jvm.Cond.fieldLinkNest "GallRegister" (170 : Nat) "GallRegister$Book" "ink" "[I" "GallRegister"), (Jvm.Cond.fieldLinkNest "GallRegister$Reader" (167 : Nat) "GallRegister$Book" "wrote" "[I" "GallRegister"), (Jvm.Cond.fieldLinkNest "GallRegister" (173 : Nat) "GallRegister$Book" "wrote" "[I" "GallRegister"), (Jvm.Cond.fieldLinkNest "GallRegister$Reader" (171 : Nat) "GallRegister$Book" "says" "[I" "GallRegister"), (Jvm.Cond.fieldLinkNest "GallRegister" (176 : Nat) "GallRegister$Book" "says" "[I" "GallRegister"), (Jvm.Cond.fieldLinkNest "GallRegister" (240 : Nat) "GallRegister$Book" "act" "[I" "GallRegister"), (Jvm.Cond.fieldLinkNest "GallRegister" (444 : Nat) "GallRegister$Slot" "row" "Ljava/lang/Object;" "GallRegister"), (Jvm.Cond.fieldLinkNest "GallRegister$Fading" (15 : Nat) "GallRegister" "book" "LGallRegister$Book;" "GallRegister"), (Jvm.Cond.fieldLinkNest "GallRegister$Damp" (23 : Nat) "GallRegister" "book" "LGallRegister$Book;" "GallRegister"), (Jvm.Cond.fieldLinkNest "GallRegister$Reader" (44 : Nat) "GallRegister" "tape" "[B" "GallRegister"), (Jvm.Cond.fieldLinkNest "GallRegister$Reader" (15 : Nat) "GallRegister" "taped" "I" "GallRegister"), (Jvm.Cond.fieldLinkNest "GallRegister$Damp" (17 : Nat) "GallRegister" "dampNow" "I" "GallRegister"), (Jvm.Cond.fieldLinkNest "GallRegister$Fading" (28 : Nat) "GallRegister" "wet" "I" "GallRegister"), (Jvm.Cond.fieldLinkNest "GallRegister$Printed" (23 : Nat) "GallRegister" "ahead" "[I" "GallRegister"), (Jvm.Cond.fieldLinkNest "GallRegister$Fading" (25 : Nat) "GallRegister" "inkNow" "[I" "GallRegister"), (Jvm.Cond.fieldLinkNest "GallRegister$Damp" (40 : Nat) "GallRegister" "inkNow" "[I" "GallRegister"), (Jvm.Cond.fieldLinkNest "GallRegister" (114 : Nat) "GallRegister$Fault" "kind" "I" "GallRegister"), (Jvm.Cond.fieldLinkNest "GallRegister" (117 : Nat) "GallRegister$Fault" "place" "I" "GallRegister"), (Jvm.Cond.methodLinkNest "GallRegister" (9 : Nat) ({ cls := "GallRegister$Book", name := "<init>", desc := "()V" } : Jvm.MethodName) "GallRegister"), (Jvm.Cond.methodLinkNest "GallRegister" (42 : Nat) ({ cls := "GallRegister$Fading", name := "<init>", desc := "(LGallRegister;)V" } : Jvm.MethodName) "GallRegister"), (Jvm.Cond.methodLinkNest "GallRegister" (51 : Nat) ({ cls := "GallRegister$Damp", name := "<init>", desc := "(LGallRegister;)V" } : Jvm.MethodName) "GallRegister"), (Jvm.Cond.methodLinkNest "GallRegister$Damp" (7 : Nat) ({ cls := "GallRegister$Fading", name := "<init>", desc := "(LGallRegister;)V" } : Jvm.MethodName) "GallRegister"), (Jvm.Cond.methodLinkNest "GallRegister" (54 : Nat) ({ cls := "GallRegister$Printed", name := "<init>", desc := "(LGallRegister;)V" } : Jvm.MethodName) "GallRegister"), (Jvm.Cond.methodLinkNest "GallRegister$Printed" (9 : Nat) ({ cls := "GallRegister$Fading", name := "<init>", desc := "(LGallRegister;)V" } : Jvm.MethodName) "GallRegister"), (Jvm.Cond.methodLinkNest "GallRegister" (57 : Nat) ({ cls := "GallRegister$EvenYears", name := "<init>", desc := "(LGallRegister;)V" } : Jvm.MethodName) "GallRegister"), (Jvm.Cond.methodLinkNest "GallRegister$EvenYears" (7 : Nat) ({ cls := "GallRegister$Fading", name := "<init>", desc := "(LGallRegister;)V" } : Jvm.MethodName) "GallRegister"), (Jvm.Cond.methodLinkNest "GallRegister" (76 : Nat) ({ cls := "GallRegister$Slot", name := "<init>", desc := "()V" } : Jvm.MethodName) "GallRegister"), (Jvm.Cond.methodLinkNest "GallRegister$Reader" (24 : Nat) ({ cls := "GallRegister$Book", name := "<init>", desc := "()V" } : Jvm.MethodName) "GallRegister"), (Jvm.Cond.methodLinkNest "GallRegister$Reader" (48 : Nat) ({ cls := "GallRegister", name := "isIn", desc := "(JJJ)Z" } : Jvm.MethodName) "GallRegister"), (Jvm.Cond.methodLinkNest "GallRegister$Fading" (32 : Nat) ({ cls := "GallRegister", name := "isOf", desc := "(II)Z" } : Jvm.MethodName) "GallRegister"), (Jvm.Cond.methodLinkNest "GallRegister$Damp" (33 : Nat) ({ cls := "GallRegister", name := "isOf", desc := "(II)Z" } : Jvm.MethodName) "GallRegister"), (Jvm.Cond.methodLinkNest "GallRegister$Printed" (15 : Nat) ({ cls := "GallRegister", name := "facing", desc := "(I)I" } : Jvm.MethodName) "GallRegister"), (Jvm.Cond.methodLinkNest "GallRegister$Printed" (19 : Nat) ({ cls := "GallRegister", name := "isThere", desc := "(II)Z" } : Jvm.MethodName) "GallRegister"), (Jvm.Cond.castable "GallRegister$Fault" "GallRegister$Fault"), (Jvm.Cond.castable "java/lang/NullPointerException" "java/lang/NullPointerException"), (Jvm.Cond.castable "java/lang/RuntimeException" "java/lang/Throwable"), (Jvm.Cond.castable "java/lang/NegativeArraySizeException" "java/lang/NegativeArraySizeException"), (Jvm.Cond.castable "java/lang/ArrayIndexOutOfBoundsException" "java/lang/ArrayIndexOutOfBoundsException"), (Jvm.Cond.castable "java/lang/ArrayStoreException" "java/lang/ArrayStoreException"), (Jvm.Cond.castable "java/lang/ArrayIndexOutOfBoundsException" "java/lang/IndexOutOfBoundsException"), (Jvm.Cond.castable "GallRegister$Fading" "java/lang/Object"), (Jvm.Cond.castable "GallRegister$Slot" "java/lang/Object"), (Jvm.Cond.castable "GallRegister" "java/lang/Object"), (Jvm.Cond.castable "GallRegister$Book" "java/lang/Object"), (Jvm.Cond.castable "GallRegister$Damp" "java/lang/Object"), (Jvm.Cond.castable "GallRegister$Printed" "java/lang/Object"), (Jvm.Cond.castable "GallRegister$EvenYears" "java/lang/Object"), (Jvm.Cond.castable "java/util/ArrayList" "java/lang/Object"), (Jvm.Cond.castable "GallRegisterModel" "java/lang/Object"), (Jvm.Cond.castable "GallRegister$Reader" "java/lang/Object"), (Jvm.Cond.castable "GallRegister$Token" "java/lang/Object"), (Jvm.Cond.castable "GallRegister$Fault" "java/lang/Object"), (Jvm.Cond.castable "java/lang/NullPointerException" "java/lang/Object"), (Jvm.Cond.castable "java/lang/NegativeArraySizeException" "java/lang/Object"), (Jvm.Cond.castable "java/lang/ArrayIndexOutOfBoundsException" "java/lang/Object"), (Jvm.Cond.castable "java/lang/ArrayStoreException" "java/lang/Object"), (Jvm.Cond.castable "java/lang/Throwable" "java/lang/Object"), (Jvm.Cond.castable "java/lang/String" "java/lang/Object"), (Jvm.Cond.castable "GallRegister$Damp" "GallRegister$Fading"), (Jvm.Cond.castable "GallRegister$Printed" "GallRegister$Fading"), (Jvm.Cond.castable "GallRegister$EvenYears" "GallRegister$Fading"), (Jvm.Cond.castable "[I" "java/lang/Object"), (Jvm.Cond.castable "[B" "java/lang/Object"), (Jvm.Cond.castable "[LGallRegister$Fading;" "java/lang/Object"), (Jvm.Cond.castable "[LGallRegister$Slot;" "java/lang/Object"), (Jvm.Cond.castable "[Ljava/lang/Object;" "java/lang/Object"), (Jvm.Cond.castable "[S" "java/lang/Object"), (Jvm.Cond.castable "[J" "java/lang/Object"), (Jvm.Cond.castable "[Z" "java/lang/Object"), (Jvm.Cond.declares ({ cls := "java/lang/Exception", name := "<init>", desc := "()V" } : Jvm.MethodName)), (Jvm.Cond.declares ({ cls := "java/lang/Exception", name := "<init>", desc := "(Ljava/lang/String;)V" } : Jvm.MethodName)), (Jvm.Cond.declares ({ cls := "java/lang/Throwable", name := "<init>", desc := "()V" } : Jvm.MethodName)), (Jvm.Cond.declares ({ cls := "java/lang/Throwable", name := "<init>", desc := "(Ljava/lang/String;)V" } : Jvm.MethodName)), (Jvm.Cond.declares ({ cls := "java/lang/Throwable", name := "fillInStackTrace", desc := "()Ljava/lang/Throwable;" } : Jvm.MethodName)), (Jvm.Cond.declares ({ cls := "java/lang/RuntimeException", name := "<init>", desc := "()V" } : Jvm.MethodName)), (Jvm.Cond.declares ({ cls := "java/lang/RuntimeException", name := "<init>", desc := "(Ljava/lang/String;)V" } : Jvm.MethodName)), (Jvm.Cond.declares ({ cls := "java/lang/IndexOutOfBoundsException", name := "<init>", desc := "()V" } : Jvm.MethodName)), (Jvm.Cond.declares ({ cls := "java/lang/IndexOutOfBoundsException", name := "<init>", desc := "(Ljava/lang/String;)V" } : Jvm.MethodName)), (Jvm.Cond.declares ({ cls := "java/lang/Object", name := "getClass", desc := "()Ljava/lang/Class;" } : Jvm.MethodName))]
theorem gx_nest_tbl : ∀ w ∈ gx_nest, w ∈ lw_tbl := List.forall_mem_cons.mpr ⟨q174, List.forall_mem_cons.mpr ⟨q175, List.forall_mem_cons.mpr ⟨q177, List.forall_mem_cons.mpr ⟨q178, List.forall_mem_cons.mpr ⟨q180, List.forall_mem_cons.mpr ⟨q181, List.forall_mem_cons.mpr ⟨q183, List.forall_mem_cons.mpr ⟨q184, List.forall_mem_cons.mpr ⟨q186, List.forall_mem_cons.mpr ⟨q187, List.forall_mem_cons.mpr ⟨q189, List.forall_mem_cons.mpr ⟨q190, List.forall_mem_cons.mpr ⟨q192, List.forall_mem_cons.mpr ⟨q193, List.forall_mem_cons.mpr ⟨q195, List.forall_mem_cons.mpr ⟨q197, List.forall_mem_cons.mpr ⟨q198, List.forall_mem_cons.mpr ⟨q200, List.forall_mem_cons.mpr ⟨q201, List.forall_mem_cons.mpr ⟨q203, List.forall_mem_cons.mpr ⟨q204, List.forall_mem_cons.mpr ⟨q206, List.forall_mem_cons.mpr ⟨q207, List.forall_mem_cons.mpr ⟨q208, List.forall_mem_cons.mpr ⟨q209, List.forall_mem_cons.mpr ⟨q211, List.forall_mem_cons.mpr ⟨q212, List.forall_mem_cons.mpr ⟨q213, List.forall_mem_cons.mpr ⟨q215, List.forall_mem_cons.mpr ⟨q216, List.forall_mem_cons.mpr ⟨q218, List.forall_mem_cons.mpr ⟨q219, List.forall_mem_cons.mpr ⟨q221, List.forall_mem_cons.mpr ⟨q222, List.forall_mem_cons.mpr ⟨q224, List.forall_mem_cons.mpr ⟨q314, List.forall_mem_cons.mpr ⟨q344, List.forall_mem_cons.mpr ⟨q345, List.forall_mem_cons.mpr ⟨q347, List.forall_mem_cons.mpr ⟨q349, List.forall_mem_cons.mpr ⟨q355, List.forall_mem_cons.mpr ⟨q357, List.forall_mem_cons.mpr ⟨q366, List.forall_mem_cons.mpr ⟨q368, List.forall_mem_cons.mpr ⟨q369, List.forall_mem_cons.mpr ⟨q660, List.forall_mem_cons.mpr ⟨q662, List.forall_mem_cons.mpr ⟨q169, List.forall_mem_cons.mpr ⟨q263, List.forall_mem_cons.mpr ⟨q275, List.forall_mem_cons.mpr ⟨q278, List.forall_mem_cons.mpr ⟨q286, List.forall_mem_cons.mpr ⟨q289, List.forall_mem_cons.mpr ⟨q297, List.forall_mem_cons.mpr ⟨q300, List.forall_mem_cons.mpr ⟨q309, List.forall_mem_cons.mpr ⟨q477, List.forall_mem_cons.mpr ⟨q488, List.forall_mem_cons.mpr ⟨q821, List.forall_mem_cons.mpr ⟨q822, List.forall_mem_cons.mpr ⟨q840, List.forall_mem_cons.mpr ⟨q841, List.forall_mem_cons.mpr ⟨q598, List.forall_mem_cons.mpr ⟨q1096, List.forall_mem_cons.mpr ⟨q1100, List.forall_mem_cons.mpr ⟨q1418, List.forall_mem_cons.mpr ⟨q1450, List.forall_mem_cons.mpr ⟨q1474, List.forall_mem_cons.mpr ⟨q2245, List.forall_mem_cons.mpr ⟨q2246, List.forall_mem_cons.mpr ⟨q2247, List.forall_mem_cons.mpr ⟨q2248, List.forall_mem_cons.mpr ⟨q2249, List.forall_mem_cons.mpr ⟨q2250, List.forall_mem_cons.mpr ⟨q2251, List.forall_mem_cons.mpr ⟨q2252, List.forall_mem_cons.mpr ⟨q2253, List.forall_mem_cons.mpr ⟨q2254, List.forall_mem_cons.mpr ⟨q2255, List.forall_mem_cons.mpr ⟨q2256, List.forall_mem_cons.mpr ⟨q2257, List.forall_mem_cons.mpr ⟨q2258, List.forall_mem_cons.mpr ⟨q2259, List.forall_mem_cons.mpr ⟨q2260, List.forall_mem_cons.mpr ⟨q2261, List.forall_mem_cons.mpr ⟨q2262, List.forall_mem_cons.mpr ⟨q2263, List.forall_mem_cons.mpr ⟨q2264, List.forall_mem_cons.mpr ⟨q2265, List.forall_mem_cons.mpr ⟨q2266, List.forall_mem_cons.mpr ⟨q2270, List.forall_mem_cons.mpr ⟨q2271, List.forall_mem_cons.mpr ⟨q2272, List.forall_mem_cons.mpr ⟨q2273, List.forall_mem_cons.mpr ⟨q2274, List.forall_mem_cons.mpr ⟨q2275, List.forall_mem_cons.mpr ⟨q2276, List.forall_mem_cons.mpr ⟨q2277, List.forall_mem_cons.mpr ⟨q599, List.forall_mem_cons.mpr ⟨q600, List.forall_mem_cons.mpr ⟨q601, List.forall_mem_cons.mpr ⟨q602, List.forall_mem_cons.mpr ⟨q640, List.forall_mem_cons.mpr ⟨q1097, List.forall_mem_cons.mpr ⟨q1098, List.forall_mem_cons.mpr ⟨q1451, List.forall_mem_cons.mpr ⟨q1452, List.forall_mem_cons.mpr ⟨q2269, fun _ h => absurd h List.not_mem_nil⟩⟩⟩⟩⟩⟩⟩⟩⟩⟩⟩⟩⟩⟩⟩⟩⟩⟩⟩⟩⟩⟩⟩⟩⟩⟩⟩⟩⟩⟩⟩⟩⟩⟩⟩⟩⟩⟩⟩⟩⟩⟩⟩⟩⟩⟩⟩⟩⟩⟩⟩⟩⟩⟩⟩⟩⟩⟩⟩⟩⟩⟩⟩⟩⟩⟩⟩⟩⟩⟩⟩⟩⟩⟩⟩⟩⟩⟩⟩⟩⟩⟩⟩⟩⟩⟩⟩⟩⟩⟩⟩⟩⟩⟩⟩⟩⟩⟩⟩⟩⟩⟩⟩⟩⟩⟩⟩⟩
theorem gx_nest_warm {s U : State} (hW : s.WarmedH U.vm) (h : ∀ w ∈ gx_nest, va_Nw w s) : ∀ w ∈ gx_nest, va_Nw w U := by
  have key : ∀ w ∈ gx_nest, va_Nw w s → va_Nw w U := List.forall_mem_cons.mpr ⟨va_Nw.warmF hW, List.forall_mem_cons.mpr ⟨va_Nw.warmF hW, List.forall_mem_cons.mpr ⟨va_Nw.warmF hW, List.forall_mem_cons.mpr ⟨va_Nw.warmF hW, List.forall_mem_cons.mpr ⟨va_Nw.warmF hW, List.forall_mem_cons.mpr ⟨va_Nw.warmF hW, List.forall_mem_cons.mpr ⟨va_Nw.warmF hW, List.forall_mem_cons.mpr ⟨va_Nw.warmF hW, List.forall_mem_cons.mpr ⟨va_Nw.warmF hW, List.forall_mem_cons.mpr ⟨va_Nw.warmF hW, List.forall_mem_cons.mpr ⟨va_Nw.warmF hW, List.forall_mem_cons.mpr ⟨va_Nw.warmF hW, List.forall_mem_cons.mpr ⟨va_Nw.warmF hW, List.forall_mem_cons.mpr ⟨va_Nw.warmF hW, List.forall_mem_cons.mpr ⟨va_Nw.warmF hW, List.forall_mem_cons.mpr ⟨va_Nw.warmF hW, List.forall_mem_cons.mpr ⟨va_Nw.warmF hW, List.forall_mem_cons.mpr ⟨va_Nw.warmF hW, List.forall_mem_cons.mpr ⟨va_Nw.warmF hW, List.forall_mem_cons.mpr ⟨va_Nw.warmF hW, List.forall_mem_cons.mpr ⟨va_Nw.warmF hW, List.forall_mem_cons.mpr ⟨va_Nw.warmF hW, List.forall_mem_cons.mpr ⟨va_Nw.warmF hW, List.forall_mem_cons.mpr ⟨va_Nw.warmF hW, List.forall_mem_cons.mpr ⟨va_Nw.warmF hW, List.forall_mem_cons.mpr ⟨va_Nw.warmF hW, List.forall_mem_cons.mpr ⟨va_Nw.warmF hW, List.forall_mem_cons.mpr ⟨va_Nw.warmF hW, List.forall_mem_cons.mpr ⟨va_Nw.warmF hW, List.forall_mem_cons.mpr ⟨va_Nw.warmF hW, List.forall_mem_cons.mpr ⟨va_Nw.warmF hW, List.forall_mem_cons.mpr ⟨va_Nw.warmF hW, List.forall_mem_cons.mpr ⟨va_Nw.warmF hW, List.forall_mem_cons.mpr ⟨va_Nw.warmF hW, List.forall_mem_cons.mpr ⟨va_Nw.warmF hW, List.forall_mem_cons.mpr ⟨va_Nw.warmF hW, List.forall_mem_cons.mpr ⟨va_Nw.warmF hW, List.forall_mem_cons.mpr ⟨va_Nw.warmF hW, List.forall_mem_cons.mpr ⟨va_Nw.warmF hW, List.forall_mem_cons.mpr ⟨va_Nw.warmF hW, List.forall_mem_cons.mpr ⟨va_Nw.warmF hW, List.forall_mem_cons.mpr ⟨va_Nw.warmF hW, List.forall_mem_cons.mpr ⟨va_Nw.warmF hW, List.forall_mem_cons.mpr ⟨va_Nw.warmF hW, List.forall_mem_cons.mpr ⟨va_Nw.warmF hW, List.forall_mem_cons.mpr ⟨va_Nw.warmF hW, List.forall_mem_cons.mpr ⟨va_Nw.warmF hW, List.forall_mem_cons.mpr ⟨va_Nw.warmM hW, List.forall_mem_cons.mpr ⟨va_Nw.warmM hW, List.forall_mem_cons.mpr ⟨va_Nw.warmM hW, List.forall_mem_cons.mpr ⟨va_Nw.warmM hW, List.forall_mem_cons.mpr ⟨va_Nw.warmM hW, List.forall_mem_cons.mpr ⟨va_Nw.warmM hW, List.forall_mem_cons.mpr ⟨va_Nw.warmM hW, List.forall_mem_cons.mpr ⟨va_Nw.warmM hW, List.forall_mem_cons.mpr ⟨va_Nw.warmM hW, List.forall_mem_cons.mpr ⟨va_Nw.warmM hW, List.forall_mem_cons.mpr ⟨va_Nw.warmM hW, List.forall_mem_cons.mpr ⟨va_Nw.warmM hW, List.forall_mem_cons.mpr ⟨va_Nw.warmM hW, List.forall_mem_cons.mpr ⟨va_Nw.warmM hW, List.forall_mem_cons.mpr ⟨va_Nw.warmM hW, List.forall_mem_cons.mpr ⟨va_Nw.warmC hW, List.forall_mem_cons.mpr ⟨va_Nw.warmC hW, List.forall_mem_cons.mpr ⟨va_Nw.warmC hW, List.forall_mem_cons.mpr ⟨va_Nw.warmC hW, List.forall_mem_cons.mpr ⟨va_Nw.warmC hW, List.forall_mem_cons.mpr ⟨va_Nw.warmC hW, List.forall_mem_cons.mpr ⟨va_Nw.warmC hW, List.forall_mem_cons.mpr ⟨va_Nw.warmC hW, List.forall_mem_cons.mpr ⟨va_Nw.warmC hW, List.forall_mem_cons.mpr ⟨va_Nw.warmC hW, List.forall_mem_cons.mpr ⟨va_Nw.warmC hW, List.forall_mem_cons.mpr ⟨va_Nw.warmC hW, List.forall_mem_cons.mpr ⟨va_Nw.warmC hW, List.forall_mem_cons.mpr ⟨va_Nw.warmC hW, List.forall_mem_cons.mpr ⟨va_Nw.warmC hW, List.forall_mem_cons.mpr ⟨va_Nw.warmC hW, List.forall_mem_cons.mpr ⟨va_Nw.warmC hW, List.forall_mem_cons.mpr ⟨va_Nw.warmC hW, List.forall_mem_cons.mpr ⟨va_Nw.warmC hW, List.forall_mem_cons.mpr ⟨va_Nw.warmC hW, List.forall_mem_cons.mpr ⟨va_Nw.warmC hW, List.forall_mem_cons.mpr ⟨va_Nw.warmC hW, List.forall_mem_cons.mpr ⟨va_Nw.warmC hW, List.forall_mem_cons.mpr ⟨va_Nw.warmC hW, List.forall_mem_cons.mpr ⟨va_Nw.warmC hW, List.forall_mem_cons.mpr ⟨va_Nw.warmC hW, List.forall_mem_cons.mpr ⟨va_Nw.warmC hW, List.forall_mem_cons.mpr ⟨va_Nw.warmC hW, List.forall_mem_cons.mpr ⟨va_Nw.warmC hW, List.forall_mem_cons.mpr ⟨va_Nw.warmC hW, List.forall_mem_cons.mpr ⟨va_Nw.warmC hW, List.forall_mem_cons.mpr ⟨va_Nw.warmC hW, List.forall_mem_cons.mpr ⟨va_Nw.warmC hW, List.forall_mem_cons.mpr ⟨va_Nw.warmC hW, List.forall_mem_cons.mpr ⟨va_Nw.warmC hW, List.forall_mem_cons.mpr ⟨va_Nw.warmC hW, List.forall_mem_cons.mpr ⟨va_Nw.warmD hW, List.forall_mem_cons.mpr ⟨va_Nw.warmD hW, List.forall_mem_cons.mpr ⟨va_Nw.warmD hW, List.forall_mem_cons.mpr ⟨va_Nw.warmD hW, List.forall_mem_cons.mpr ⟨va_Nw.warmD hW, List.forall_mem_cons.mpr ⟨va_Nw.warmD hW, List.forall_mem_cons.mpr ⟨va_Nw.warmD hW, List.forall_mem_cons.mpr ⟨va_Nw.warmD hW, List.forall_mem_cons.mpr ⟨va_Nw.warmD hW, List.forall_mem_cons.mpr ⟨va_Nw.warmD hW, fun _ h => absurd h List.not_mem_nil⟩⟩⟩⟩⟩⟩⟩⟩⟩⟩⟩⟩⟩⟩⟩⟩⟩⟩⟩⟩⟩⟩⟩⟩⟩⟩⟩⟩⟩⟩⟩⟩⟩⟩⟩⟩⟩⟩⟩⟩⟩⟩⟩⟩⟩⟩⟩⟩⟩⟩⟩⟩⟩⟩⟩⟩⟩⟩⟩⟩⟩⟩⟩⟩⟩⟩⟩⟩⟩⟩⟩⟩⟩⟩⟩⟩⟩⟩⟩⟩⟩⟩⟩⟩⟩⟩⟩⟩⟩⟩⟩⟩⟩⟩⟩⟩⟩⟩⟩⟩⟩⟩⟩⟩⟩⟩⟩⟩
  exact fun w hw => key w hw (h w hw)
def gx_flT_0 : List (Nat × Nat × Nat × Nat) := [(10, 0, 0, 0), (16, 0, 1, 0), (20, 0, 4, 0), (24, 0, 5, 0), (28, 0, 6, 0), (31, 0, 15, 0), (34, 0, 16, 0), (37, 0, 17, 0), (45, 0, 19, 0), (58, 0, 20, 0), (62, 0, 21, 0), (65, 0, 22, 0), (68, 0, 23, 0), (71, 0, 24, 0), (77, 0, 30, 0), (84, 0, 31, 0), (88, 0, 2, 0), (106, 0, 3, 0), (109, 1, 3, 1), (114, 9, 6, 1), (117, 9, 7, 1), (120, 1, 4, 1), (123, 1, 5, 1), (126, 1, 6, 1), (133, 1, 0, 1), (148, 1, 9, 1), (151, 1, 10, 1), (154, 1, 11, 1), (160, 1, 8, 1), (167, 1, 12, 1), (170, 1, 13, 1), (173, 1, 14, 1), (176, 1, 15, 1), (188, 1, 1, 1), (191, 0, 14, 0), (199, 0, 7, 0), (202, 0, 8, 0), (205, 0, 9, 0), (208, 0, 10, 0), (211, 0, 11, 0), (214, 0, 12, 0), (217, 0, 13, 0), (231, 0, 18, 0), (237, 1, 7, 1), (240, 1, 16, 1), (349, 0, 25, 0), (358, 0, 26, 0), (400, 0, 27, 0), (404, 0, 28, 0), (407, 0, 29, 0), (410, 1, 2, 1), (444, 6, 0, 1)]
def gx_flT_1 : List (Nat × Nat × Nat × Nat) := [(9, 1, 9, 0), (15, 1, 10, 0), (18, 1, 11, 0), (21, 1, 12, 0), (24, 1, 13, 0), (27, 1, 14, 0), (30, 1, 15, 0), (33, 1, 16, 0), (37, 1, 0, 0), (41, 1, 1, 0), (44, 1, 2, 0), (47, 1, 3, 0), (50, 1, 4, 0), (53, 1, 5, 0), (56, 1, 6, 0), (59, 1, 7, 0), (62, 1, 8, 0)]
def gx_flT_2 : List (Nat × Nat × Nat × Nat) := [(3, 2, 0, 0), (3, 3, 0, 0), (3, 4, 0, 0), (3, 5, 0, 0), (15, 0, 0, 1), (19, 1, 11, 1), (25, 0, 17, 1), (28, 0, 8, 1)]
def gx_flT_3 : List (Nat × Nat × Nat × Nat) := [(1, 3, 1, 0), (17, 0, 7, 1), (23, 0, 0, 1), (27, 1, 12, 1), (37, 1, 11, 1), (40, 0, 17, 1)]
def gx_flT_4 : List (Nat × Nat × Nat × Nat) := [(3, 4, 1, 0), (23, 0, 16, 1)]
def gx_flT_5 : List (Nat × Nat × Nat × Nat) := [(1, 5, 1, 0)]
def gx_flT_6 : List (Nat × Nat × Nat × Nat) := [(7, 6, 0, 0)]
def gx_flT_7 : List (Nat × Nat × Nat × Nat) := [(7, 7, 1, 0), (13, 7, 2, 0), (16, 7, 3, 0), (20, 7, 4, 0), (23, 7, 5, 0), (27, 7, 15, 0), (31, 7, 16, 0), (34, 7, 17, 0), (37, 7, 18, 0), (40, 7, 19, 0), (43, 7, 20, 0), (46, 7, 21, 0), (49, 7, 22, 0), (53, 7, 31, 0), (56, 7, 32, 0), (59, 7, 33, 0), (62, 7, 34, 0), (65, 7, 35, 0), (68, 7, 36, 0), (71, 7, 40, 0), (74, 7, 0, 0), (91, 7, 6, 0), (98, 7, 7, 0), (105, 7, 9, 0), (108, 7, 10, 0), (111, 7, 11, 0), (115, 7, 8, 0), (126, 7, 12, 0), (129, 7, 13, 0), (153, 7, 14, 0), (252, 7, 23, 0), (255, 7, 24, 0), (258, 7, 25, 0), (261, 7, 26, 0), (264, 7, 28, 0), (267, 7, 29, 0), (303, 7, 27, 0), (306, 7, 30, 0), (368, 7, 37, 0), (374, 7, 38, 0), (380, 7, 39, 0)]
def gx_flT_8 : List (Nat × Nat × Nat × Nat) := [(3, 8, 6, 0), (15, 0, 2, 1), (19, 8, 0, 0), (25, 8, 1, 0), (35, 8, 5, 0), (41, 8, 2, 0), (44, 0, 1, 1), (52, 8, 3, 0), (62, 8, 4, 0), (121, 1, 0, 1), (125, 1, 1, 1), (129, 1, 2, 1), (131, 1, 4, 1), (134, 1, 9, 1), (139, 1, 10, 1), (143, 1, 11, 1), (149, 1, 8, 1), (151, 1, 5, 1), (154, 1, 6, 1), (157, 1, 12, 1), (162, 1, 13, 1), (167, 1, 14, 1), (171, 1, 15, 1), (192, 1, 3, 1)]
def gx_flT_9 : List (Nat × Nat × Nat × Nat) := [(7, 9, 6, 0), (13, 9, 7, 0)]
def gx_flT_10 : List (Nat × Nat × Nat × Nat) := []
def gx_flT_11 : List (Nat × Nat × Nat × Nat) := [(9, 10, 1, 0), (48, 10, 2, 0), (63, 10, 0, 0)]
def gx_flT_12 : List (Nat × Nat × Nat × Nat) := [(7, 10, 0, 0)]
def gx_flT_13 : List (Nat × Nat × Nat × Nat) := []
def gx_flT_14 : List (Nat × Nat × Nat × Nat) := []
def gx_flT_15 : List (Nat × Nat × Nat × Nat) := []
def gx_flT_16 : List (Nat × Nat × Nat × Nat) := []
def gx_flT_17 : List (Nat × Nat × Nat × Nat) := [(7, 9, 0, 0), (17, 9, 1, 0), (24, 9, 2, 0), (31, 9, 3, 0)]
def gx_flT_18 : List (Nat × Nat × Nat × Nat) := []
def gx_flT_19 : List (Nat × Nat × Nat × Nat) := []
def gx_flT_20 : List (Nat × Nat × Nat × Nat) := []
def gx_flT (k : Nat) : List (Nat × Nat × Nat × Nat) := match k with
  | 0 => gx_flT_0
  | 1 => gx_flT_1
  | 2 => gx_flT_2
  | 3 => gx_flT_3
  | 4 => gx_flT_4
  | 5 => gx_flT_5
  | 6 => gx_flT_6
  | 7 => gx_flT_7
  | 8 => gx_flT_8
  | 9 => gx_flT_9
  | 11 => gx_flT_11
  | 12 => gx_flT_12
  | 17 => gx_flT_17
  | _ => []
/-- what a field's link is: (entry, class, place, 1: of a nest mate) -/
def gx_okF (oc : Nat) (e : Nat × Nat × Nat × Nat) : Prop := match e.2.2.2 with
  | 0 => ∃ ref : String, Cond.fieldLink (gx_cname oc) e.1 ref (gx_T e.2.1 e.2.2.1).2.1 (gx_T e.2.1 e.2.2.1).2.2.1 ∈ lw_all ∧ (ref = (gx_T e.2.1 e.2.2.1).1 ∨ Cond.sameField ref (gx_T e.2.1 e.2.2.1).1 (gx_T e.2.1 e.2.2.1).2.1 (gx_T e.2.1 e.2.2.1).2.2.1 ∈ lw_all)
  | _ => ∃ ref host : String, Cond.fieldLinkNest (gx_cname oc) e.1 ref (gx_T e.2.1 e.2.2.1).2.1 (gx_T e.2.1 e.2.2.1).2.2.1 host ∈ gx_nest ∧ ref = (gx_T e.2.1 e.2.2.1).1
theorem gx_flT_ok_0 : ∀ e ∈ gx_flT_0, gx_okF 0 e := List.forall_mem_cons.mpr ⟨⟨"GallRegister", q346, Or.inl rfl⟩, List.forall_mem_cons.mpr ⟨⟨"GallRegister", q348, Or.inl rfl⟩, List.forall_mem_cons.mpr ⟨⟨"GallRegister", q352, Or.inl rfl⟩, List.forall_mem_cons.mpr ⟨⟨"GallRegister", q353, Or.inl rfl⟩, List.forall_mem_cons.mpr ⟨⟨"GallRegister", q354, Or.inl rfl⟩, List.forall_mem_cons.mpr ⟨⟨"GallRegister", q365, Or.inl rfl⟩, List.forall_mem_cons.mpr ⟨⟨"GallRegister", q367, Or.inl rfl⟩, List.forall_mem_cons.mpr ⟨⟨"GallRegister", q370, Or.inl rfl⟩, List.forall_mem_cons.mpr ⟨⟨"GallRegister", q372, Or.inl rfl⟩, List.forall_mem_cons.mpr ⟨⟨"GallRegister", q373, Or.inl rfl⟩, List.forall_mem_cons.mpr ⟨⟨"GallRegister", q374, Or.inl rfl⟩, List.forall_mem_cons.mpr ⟨⟨"GallRegister", q375, Or.inl rfl⟩, List.forall_mem_cons.mpr ⟨⟨"GallRegister", q376, Or.inl rfl⟩, List.forall_mem_cons.mpr ⟨⟨"GallRegister", q377, Or.inl rfl⟩, List.forall_mem_cons.mpr ⟨⟨"GallRegister", q383, Or.inl rfl⟩, List.forall_mem_cons.mpr ⟨⟨"GallRegister", q384, Or.inl rfl⟩, List.forall_mem_cons.mpr ⟨⟨"GallRegister", q350, Or.inl rfl⟩, List.forall_mem_cons.mpr ⟨⟨"GallRegister", q351, Or.inl rfl⟩, List.forall_mem_cons.mpr ⟨⟨"GallRegister$Book", "GallRegister", (List.mem_of_getElem? (i := 6) rfl), rfl⟩, List.forall_mem_cons.mpr ⟨⟨"GallRegister$Fault", "GallRegister", (List.mem_of_getElem? (i := 45) rfl), rfl⟩, List.forall_mem_cons.mpr ⟨⟨"GallRegister$Fault", "GallRegister", (List.mem_of_getElem? (i := 46) rfl), rfl⟩, List.forall_mem_cons.mpr ⟨⟨"GallRegister$Book", "GallRegister", (List.mem_of_getElem? (i := 8) rfl), rfl⟩, List.forall_mem_cons.mpr ⟨⟨"GallRegister$Book", "GallRegister", (List.mem_of_getElem? (i := 10) rfl), rfl⟩, List.forall_mem_cons.mpr ⟨⟨"GallRegister$Book", "GallRegister", (List.mem_of_getElem? (i := 12) rfl), rfl⟩, List.forall_mem_cons.mpr ⟨⟨"GallRegister$Book", "GallRegister", (List.mem_of_getElem? (i := 1) rfl), rfl⟩, List.forall_mem_cons.mpr ⟨⟨"GallRegister$Book", "GallRegister", (List.mem_of_getElem? (i := 18) rfl), rfl⟩, List.forall_mem_cons.mpr ⟨⟨"GallRegister$Book", "GallRegister", (List.mem_of_getElem? (i := 20) rfl), rfl⟩, List.forall_mem_cons.mpr ⟨⟨"GallRegister$Book", "GallRegister", (List.mem_of_getElem? (i := 24) rfl), rfl⟩, List.forall_mem_cons.mpr ⟨⟨"GallRegister$Book", "GallRegister", (List.mem_of_getElem? (i := 16) rfl), rfl⟩, List.forall_mem_cons.mpr ⟨⟨"GallRegister$Book", "GallRegister", (List.mem_of_getElem? (i := 27) rfl), rfl⟩, List.forall_mem_cons.mpr ⟨⟨"GallRegister$Book", "GallRegister", (List.mem_of_getElem? (i := 29) rfl), rfl⟩, List.forall_mem_cons.mpr ⟨⟨"GallRegister$Book", "GallRegister", (List.mem_of_getElem? (i := 31) rfl), rfl⟩, List.forall_mem_cons.mpr ⟨⟨"GallRegister$Book", "GallRegister", (List.mem_of_getElem? (i := 33) rfl), rfl⟩, List.forall_mem_cons.mpr ⟨⟨"GallRegister$Book", "GallRegister", (List.mem_of_getElem? (i := 3) rfl), rfl⟩, List.forall_mem_cons.mpr ⟨⟨"GallRegister", q364, Or.inl rfl⟩, List.forall_mem_cons.mpr ⟨⟨"GallRegister", q356, Or.inl rfl⟩, List.forall_mem_cons.mpr ⟨⟨"GallRegister", q358, Or.inl rfl⟩, List.forall_mem_cons.mpr ⟨⟨"GallRegister", q359, Or.inl rfl⟩, List.forall_mem_cons.mpr ⟨⟨"GallRegister", q360, Or.inl rfl⟩, List.forall_mem_cons.mpr ⟨⟨"GallRegister", q361, Or.inl rfl⟩, List.forall_mem_cons.mpr ⟨⟨"GallRegister", q362, Or.inl rfl⟩, List.forall_mem_cons.mpr ⟨⟨"GallRegister", q363, Or.inl rfl⟩, List.forall_mem_cons.mpr ⟨⟨"GallRegister", q371, Or.inl rfl⟩, List.forall_mem_cons.mpr ⟨⟨"GallRegister$Book", "GallRegister", (List.mem_of_getElem? (i := 14) rfl), rfl⟩, List.forall_mem_cons.mpr ⟨⟨"GallRegister$Book", "GallRegister", (List.mem_of_getElem? (i := 34) rfl), rfl⟩, List.forall_mem_cons.mpr ⟨⟨"GallRegister", q378, Or.inl rfl⟩, List.forall_mem_cons.mpr ⟨⟨"GallRegister", q379, Or.inl rfl⟩, List.forall_mem_cons.mpr ⟨⟨"GallRegister", q380, Or.inl rfl⟩, List.forall_mem_cons.mpr ⟨⟨"GallRegister", q381, Or.inl rfl⟩, List.forall_mem_cons.mpr ⟨⟨"GallRegister", q382, Or.inl rfl⟩, List.forall_mem_cons.mpr ⟨⟨"GallRegister$Book", "GallRegister", (List.mem_of_getElem? (i := 5) rfl), rfl⟩, List.forall_mem_cons.mpr ⟨⟨"GallRegister$Slot", "GallRegister", (List.mem_of_getElem? (i := 35) rfl), rfl⟩, fun _ h => absurd h List.not_mem_nil⟩⟩⟩⟩⟩⟩⟩⟩⟩⟩⟩⟩⟩⟩⟩⟩⟩⟩⟩⟩⟩⟩⟩⟩⟩⟩⟩⟩⟩⟩⟩⟩⟩⟩⟩⟩⟩⟩⟩⟩⟩⟩⟩⟩⟩⟩⟩⟩⟩⟩⟩⟩
theorem gx_flT_ok_1 : ∀ e ∈ gx_flT_1, gx_okF 1 e := List.forall_mem_cons.mpr ⟨⟨"GallRegister$Book", q199, Or.inl rfl⟩, List.forall_mem_cons.mpr ⟨⟨"GallRegister$Book", q202, Or.inl rfl⟩, List.forall_mem_cons.mpr ⟨⟨"GallRegister$Book", q205, Or.inl rfl⟩, List.forall_mem_cons.mpr ⟨⟨"GallRegister$Book", q210, Or.inl rfl⟩, List.forall_mem_cons.mpr ⟨⟨"GallRegister$Book", q214, Or.inl rfl⟩, List.forall_mem_cons.mpr ⟨⟨"GallRegister$Book", q217, Or.inl rfl⟩, List.forall_mem_cons.mpr ⟨⟨"GallRegister$Book", q220, Or.inl rfl⟩, List.forall_mem_cons.mpr ⟨⟨"GallRegister$Book", q223, Or.inl rfl⟩, List.forall_mem_cons.mpr ⟨⟨"GallRegister$Book", q173, Or.inl rfl⟩, List.forall_mem_cons.mpr ⟨⟨"GallRegister$Book", q176, Or.inl rfl⟩, List.forall_mem_cons.mpr ⟨⟨"GallRegister$Book", q179, Or.inl rfl⟩, List.forall_mem_cons.mpr ⟨⟨"GallRegister$Book", q182, Or.inl rfl⟩, List.forall_mem_cons.mpr ⟨⟨"GallRegister$Book", q185, Or.inl rfl⟩, List.forall_mem_cons.mpr ⟨⟨"GallRegister$Book", q188, Or.inl rfl⟩, List.forall_mem_cons.mpr ⟨⟨"GallRegister$Book", q191, Or.inl rfl⟩, List.forall_mem_cons.mpr ⟨⟨"GallRegister$Book", q194, Or.inl rfl⟩, List.forall_mem_cons.mpr ⟨⟨"GallRegister$Book", q196, Or.inl rfl⟩, fun _ h => absurd h List.not_mem_nil⟩⟩⟩⟩⟩⟩⟩⟩⟩⟩⟩⟩⟩⟩⟩⟩⟩
theorem gx_flT_ok_2 : ∀ e ∈ gx_flT_2, gx_okF 2 e := List.forall_mem_cons.mpr ⟨⟨"GallRegister$Fading", q267, Or.inl rfl⟩, List.forall_mem_cons.mpr ⟨⟨"GallRegister$Fading", q267, Or.inl rfl⟩, List.forall_mem_cons.mpr ⟨⟨"GallRegister$Fading", q267, Or.inl rfl⟩, List.forall_mem_cons.mpr ⟨⟨"GallRegister$Fading", q267, Or.inl rfl⟩, List.forall_mem_cons.mpr ⟨⟨"GallRegister", "GallRegister", (List.mem_of_getElem? (i := 36) rfl), rfl⟩, List.forall_mem_cons.mpr ⟨⟨"GallRegister$Book", "GallRegister", (List.mem_of_getElem? (i := 21) rfl), rfl⟩, List.forall_mem_cons.mpr ⟨⟨"GallRegister", "GallRegister", (List.mem_of_getElem? (i := 43) rfl), rfl⟩, List.forall_mem_cons.mpr ⟨⟨"GallRegister", "GallRegister", (List.mem_of_getElem? (i := 41) rfl), rfl⟩, fun _ h => absurd h List.not_mem_nil⟩⟩⟩⟩⟩⟩⟩⟩
theorem gx_flT_ok_3 : ∀ e ∈ gx_flT_3, gx_okF 3 e := List.forall_mem_cons.mpr ⟨⟨"GallRegister$Damp", q279, Or.inl rfl⟩, List.forall_mem_cons.mpr ⟨⟨"GallRegister", "GallRegister", (List.mem_of_getElem? (i := 40) rfl), rfl⟩, List.forall_mem_cons.mpr ⟨⟨"GallRegister", "GallRegister", (List.mem_of_getElem? (i := 37) rfl), rfl⟩, List.forall_mem_cons.mpr ⟨⟨"GallRegister$Book", "GallRegister", (List.mem_of_getElem? (i := 25) rfl), rfl⟩, List.forall_mem_cons.mpr ⟨⟨"GallRegister$Book", "GallRegister", (List.mem_of_getElem? (i := 22) rfl), rfl⟩, List.forall_mem_cons.mpr ⟨⟨"GallRegister", "GallRegister", (List.mem_of_getElem? (i := 44) rfl), rfl⟩, fun _ h => absurd h List.not_mem_nil⟩⟩⟩⟩⟩⟩
theorem gx_flT_ok_4 : ∀ e ∈ gx_flT_4, gx_okF 4 e := List.forall_mem_cons.mpr ⟨⟨"GallRegister$Printed", q290, Or.inl rfl⟩, List.forall_mem_cons.mpr ⟨⟨"GallRegister", "GallRegister", (List.mem_of_getElem? (i := 42) rfl), rfl⟩, fun _ h => absurd h List.not_mem_nil⟩⟩
theorem gx_flT_ok_5 : ∀ e ∈ gx_flT_5, gx_okF 5 e := List.forall_mem_cons.mpr ⟨⟨"GallRegister$EvenYears", q301, Or.inl rfl⟩, fun _ h => absurd h List.not_mem_nil⟩
theorem gx_flT_ok_6 : ∀ e ∈ gx_flT_6, gx_okF 6 e := List.forall_mem_cons.mpr ⟨⟨"GallRegister$Slot", q313, Or.inl rfl⟩, fun _ h => absurd h List.not_mem_nil⟩
theorem gx_flT_ok_7 : ∀ e ∈ gx_flT_7, gx_okF 7 e := List.forall_mem_cons.mpr ⟨⟨"GallRegisterModel", q1484, Or.inl rfl⟩, List.forall_mem_cons.mpr ⟨⟨"GallRegisterModel", q1485, Or.inl rfl⟩, List.forall_mem_cons.mpr ⟨⟨"GallRegisterModel", q1486, Or.inl rfl⟩, List.forall_mem_cons.mpr ⟨⟨"GallRegisterModel", q1487, Or.inl rfl⟩, List.forall_mem_cons.mpr ⟨⟨"GallRegisterModel", q1488, Or.inl rfl⟩, List.forall_mem_cons.mpr ⟨⟨"GallRegisterModel", q1498, Or.inl rfl⟩, List.forall_mem_cons.mpr ⟨⟨"GallRegisterModel", q1499, Or.inl rfl⟩, List.forall_mem_cons.mpr ⟨⟨"GallRegisterModel", q1500, Or.inl rfl⟩, List.forall_mem_cons.mpr ⟨⟨"GallRegisterModel", q1501, Or.inl rfl⟩, List.forall_mem_cons.mpr ⟨⟨"GallRegisterModel", q1502, Or.inl rfl⟩, List.forall_mem_cons.mpr ⟨⟨"GallRegisterModel", q1503, Or.inl rfl⟩, List.forall_mem_cons.mpr ⟨⟨"GallRegisterModel", q1504, Or.inl rfl⟩, List.forall_mem_cons.mpr ⟨⟨"GallRegisterModel", q1505, Or.inl rfl⟩, List.forall_mem_cons.mpr ⟨⟨"GallRegisterModel", q1514, Or.inl rfl⟩, List.forall_mem_cons.mpr ⟨⟨"GallRegisterModel", q1515, Or.inl rfl⟩, List.forall_mem_cons.mpr ⟨⟨"GallRegisterModel", q1516, Or.inl rfl⟩, List.forall_mem_cons.mpr ⟨⟨"GallRegisterModel", q1517, Or.inl rfl⟩, List.forall_mem_cons.mpr ⟨⟨"GallRegisterModel", q1518, Or.inl rfl⟩, List.forall_mem_cons.mpr ⟨⟨"GallRegisterModel", q1519, Or.inl rfl⟩, List.forall_mem_cons.mpr ⟨⟨"GallRegisterModel", q1523, Or.inl rfl⟩, List.forall_mem_cons.mpr ⟨⟨"GallRegisterModel", q1483, Or.inl rfl⟩, List.forall_mem_cons.mpr ⟨⟨"GallRegisterModel", q1489, Or.inl rfl⟩, List.forall_mem_cons.mpr ⟨⟨"GallRegisterModel", q1490, Or.inl rfl⟩, List.forall_mem_cons.mpr ⟨⟨"GallRegisterModel", q1492, Or.inl rfl⟩, List.forall_mem_cons.mpr ⟨⟨"GallRegisterModel", q1493, Or.inl rfl⟩, List.forall_mem_cons.mpr ⟨⟨"GallRegisterModel", q1494, Or.inl rfl⟩, List.forall_mem_cons.mpr ⟨⟨"GallRegisterModel", q1491, Or.inl rfl⟩, List.forall_mem_cons.mpr ⟨⟨"GallRegisterModel", q1495, Or.inl rfl⟩, List.forall_mem_cons.mpr ⟨⟨"GallRegisterModel", q1496, Or.inl rfl⟩, List.forall_mem_cons.mpr ⟨⟨"GallRegisterModel", q1497, Or.inl rfl⟩, List.forall_mem_cons.mpr ⟨⟨"GallRegisterModel", q1506, Or.inl rfl⟩, List.forall_mem_cons.mpr ⟨⟨"GallRegisterModel", q1507, Or.inl rfl⟩, List.forall_mem_cons.mpr ⟨⟨"GallRegisterModel", q1508, Or.inl rfl⟩, List.forall_mem_cons.mpr ⟨⟨"GallRegisterModel", q1509, Or.inl rfl⟩, List.forall_mem_cons.mpr ⟨⟨"GallRegisterModel", q1511, Or.inl rfl⟩, List.forall_mem_cons.mpr ⟨⟨"GallRegisterModel", q1512, Or.inl rfl⟩, List.forall_mem_cons.mpr ⟨⟨"GallRegisterModel", q1510, Or.inl rfl⟩, List.forall_mem_cons.mpr ⟨⟨"GallRegisterModel", q1513, Or.inl rfl⟩, List.forall_mem_cons.mpr ⟨⟨"GallRegisterModel", q1520, Or.inl rfl⟩, List.forall_mem_cons.mpr ⟨⟨"GallRegisterModel", q1521, Or.inl rfl⟩, List.forall_mem_cons.mpr ⟨⟨"GallRegisterModel", q1522, Or.inl rfl⟩, fun _ h => absurd h List.not_mem_nil⟩⟩⟩⟩⟩⟩⟩⟩⟩⟩⟩⟩⟩⟩⟩⟩⟩⟩⟩⟩⟩⟩⟩⟩⟩⟩⟩⟩⟩⟩⟩⟩⟩⟩⟩⟩⟩⟩⟩⟩⟩
theorem gx_flT_ok_8 : ∀ e ∈ gx_flT_8, gx_okF 8 e := List.forall_mem_cons.mpr ⟨⟨"GallRegister$Reader", q507, Or.inl rfl⟩, List.forall_mem_cons.mpr ⟨⟨"GallRegister", "GallRegister", (List.mem_of_getElem? (i := 39) rfl), rfl⟩, List.forall_mem_cons.mpr ⟨⟨"GallRegister$Reader", q501, Or.inl rfl⟩, List.forall_mem_cons.mpr ⟨⟨"GallRegister$Reader", q502, Or.inl rfl⟩, List.forall_mem_cons.mpr ⟨⟨"GallRegister$Reader", q506, Or.inl rfl⟩, List.forall_mem_cons.mpr ⟨⟨"GallRegister$Reader", q503, Or.inl rfl⟩, List.forall_mem_cons.mpr ⟨⟨"GallRegister", "GallRegister", (List.mem_of_getElem? (i := 38) rfl), rfl⟩, List.forall_mem_cons.mpr ⟨⟨"GallRegister$Reader", q504, Or.inl rfl⟩, List.forall_mem_cons.mpr ⟨⟨"GallRegister$Reader", q505, Or.inl rfl⟩, List.forall_mem_cons.mpr ⟨⟨"GallRegister$Book", "GallRegister", (List.mem_of_getElem? (i := 0) rfl), rfl⟩, List.forall_mem_cons.mpr ⟨⟨"GallRegister$Book", "GallRegister", (List.mem_of_getElem? (i := 2) rfl), rfl⟩, List.forall_mem_cons.mpr ⟨⟨"GallRegister$Book", "GallRegister", (List.mem_of_getElem? (i := 4) rfl), rfl⟩, List.forall_mem_cons.mpr ⟨⟨"GallRegister$Book", "GallRegister", (List.mem_of_getElem? (i := 9) rfl), rfl⟩, List.forall_mem_cons.mpr ⟨⟨"GallRegister$Book", "GallRegister", (List.mem_of_getElem? (i := 17) rfl), rfl⟩, List.forall_mem_cons.mpr ⟨⟨"GallRegister$Book", "GallRegister", (List.mem_of_getElem? (i := 19) rfl), rfl⟩, List.forall_mem_cons.mpr ⟨⟨"GallRegister$Book", "GallRegister", (List.mem_of_getElem? (i := 23) rfl), rfl⟩, List.forall_mem_cons.mpr ⟨⟨"GallRegister$Book", "GallRegister", (List.mem_of_getElem? (i := 15) rfl), rfl⟩, List.forall_mem_cons.mpr ⟨⟨"GallRegister$Book", "GallRegister", (List.mem_of_getElem? (i := 11) rfl), rfl⟩, List.forall_mem_cons.mpr ⟨⟨"GallRegister$Book", "GallRegister", (List.mem_of_getElem? (i := 13) rfl), rfl⟩, List.forall_mem_cons.mpr ⟨⟨"GallRegister$Book", "GallRegister", (List.mem_of_getElem? (i := 26) rfl), rfl⟩, List.forall_mem_cons.mpr ⟨⟨"GallRegister$Book", "GallRegister", (List.mem_of_getElem? (i := 28) rfl), rfl⟩, List.forall_mem_cons.mpr ⟨⟨"GallRegister$Book", "GallRegister", (List.mem_of_getElem? (i := 30) rfl), rfl⟩, List.forall_mem_cons.mpr ⟨⟨"GallRegister$Book", "GallRegister", (List.mem_of_getElem? (i := 32) rfl), rfl⟩, List.forall_mem_cons.mpr ⟨⟨"GallRegister$Book", "GallRegister", (List.mem_of_getElem? (i := 7) rfl), rfl⟩, fun _ h => absurd h List.not_mem_nil⟩⟩⟩⟩⟩⟩⟩⟩⟩⟩⟩⟩⟩⟩⟩⟩⟩⟩⟩⟩⟩⟩⟩⟩
theorem gx_flT_ok_9 : ∀ e ∈ gx_flT_9, gx_okF 9 e := List.forall_mem_cons.mpr ⟨⟨"GallRegister$Fault", q659, Or.inl rfl⟩, List.forall_mem_cons.mpr ⟨⟨"GallRegister$Fault", q661, Or.inl rfl⟩, fun _ h => absurd h List.not_mem_nil⟩⟩
theorem gx_flT_ok_11 : ∀ e ∈ gx_flT_11, gx_okF 11 e := List.forall_mem_cons.mpr ⟨⟨"java/util/ArrayList", q332, Or.inl rfl⟩, List.forall_mem_cons.mpr ⟨⟨"java/util/ArrayList", q333, Or.inl rfl⟩, List.forall_mem_cons.mpr ⟨⟨"java/util/ArrayList", q335, Or.inr q336⟩, fun _ h => absurd h List.not_mem_nil⟩⟩⟩
theorem gx_flT_ok_12 : ∀ e ∈ gx_flT_12, gx_okF 12 e := List.forall_mem_cons.mpr ⟨⟨"java/util/AbstractList", q334, Or.inl rfl⟩, fun _ h => absurd h List.not_mem_nil⟩
theorem gx_flT_ok_17 : ∀ e ∈ gx_flT_17, gx_okF 17 e := List.forall_mem_cons.mpr ⟨⟨"java/lang/Throwable", q665, Or.inl rfl⟩, List.forall_mem_cons.mpr ⟨⟨"java/lang/Throwable", q666, Or.inl rfl⟩, List.forall_mem_cons.mpr ⟨⟨"java/lang/Throwable", q667, Or.inl rfl⟩, List.forall_mem_cons.mpr ⟨⟨"java/lang/Throwable", q664, Or.inl rfl⟩, fun _ h => absurd h List.not_mem_nil⟩⟩⟩⟩
theorem gx_flT_ok (k : Nat) : ∀ e ∈ gx_flT k, gx_okF k e := by
  match k with
  | 0 => exact gx_flT_ok_0
  | 1 => exact gx_flT_ok_1
  | 2 => exact gx_flT_ok_2
  | 3 => exact gx_flT_ok_3
  | 4 => exact gx_flT_ok_4
  | 5 => exact gx_flT_ok_5
  | 6 => exact gx_flT_ok_6
  | 7 => exact gx_flT_ok_7
  | 8 => exact gx_flT_ok_8
  | 9 => exact gx_flT_ok_9
  | 11 => exact gx_flT_ok_11
  | 12 => exact gx_flT_ok_12
  | 17 => exact gx_flT_ok_17
  | 10 => exact fun _ h => absurd h List.not_mem_nil
  | 13 => exact fun _ h => absurd h List.not_mem_nil
  | 14 => exact fun _ h => absurd h List.not_mem_nil
  | 15 => exact fun _ h => absurd h List.not_mem_nil
  | 16 => exact fun _ h => absurd h List.not_mem_nil
  | n + 18 => exact fun _ h => absurd h List.not_mem_nil
/-- a field: the object's class has to be the link's, or below it -/
def gx_fl (oc ix tag : Nat) : Option (Nat × Nat) := ((gx_flT oc).find? (fun e => e.1 == ix && e.2.1 == tag)).map (fun e => e.2.2)
def gx_code (Y : gx_Y) : Cond := match gx_hh Y with
  | [] => Cond.code (gx_nm Y) (gx_cd Y) (gx_mL Y) (gx_rt Y)
  | h :: t => Cond.codeWith (gx_nm Y) (gx_cd Y) (gx_mL Y) (gx_rt Y) (h :: t)
def gx_okY (Y : gx_Y) : Prop := gx_code Y ∈ lw_all ∧ Cond.initialized (gx_cname (gx_oc Y)) ∈ lw_all ∧ (gx_nm Y).cls = gx_cname (gx_oc Y) ∧ gx_oc Y < 21
theorem okY_J0_init : gx_okY mJ0_init := ⟨q328, q133, rfl, by decide⟩
theorem okY_J10_bitCount : gx_okY mJ10_bitCount := ⟨q1198, q149, rfl, by decide⟩
theorem okY_J10_signum : gx_okY mJ10_signum := ⟨q959, q149, rfl, by decide⟩
theorem okY_J2_elementData : gx_okY mJ2_elementData := ⟨q1381, q135, rfl, by decide⟩
theorem okY_J2_grow_2 : gx_okY mJ2_grow_2 := ⟨q1321, q135, rfl, by decide⟩
theorem okY_J2_isEmpty : gx_okY mJ2_isEmpty := ⟨q1389, q135, rfl, by decide⟩
theorem okY_J2_size : gx_okY mJ2_size := ⟨q1305, q135, rfl, by decide⟩
theorem okY_J4_coder : gx_okY mJ4_coder := ⟨q551, q141, rfl, by decide⟩
theorem okY_J4_isLatin1 : gx_okY mJ4_isLatin1 := ⟨q561, q141, rfl, by decide⟩
theorem okY_J6_checkIndex : gx_okY mJ6_checkIndex := ⟨q572, q143, rfl, by decide⟩
theorem okY_J8_init_2 : gx_okY mJ8_init_2 := ⟨q658, q145, rfl, by decide⟩
theorem okY_X0_asItIs : gx_okY mX0_asItIs := ⟨q788, q126, rfl, by decide⟩
theorem okY_X0_count : gx_okY mX0_count := ⟨q1296, q126, rfl, by decide⟩
theorem okY_X0_divisor : gx_okY mX0_divisor := ⟨q1210, q126, rfl, by decide⟩
theorem okY_X0_everyEntry : gx_okY mX0_everyEntry := ⟨q928, q126, rfl, by decide⟩
theorem okY_X0_factorial : gx_okY mX0_factorial := ⟨q1204, q126, rfl, by decide⟩
theorem okY_X0_fault : gx_okY mX0_fault := ⟨q725, q126, rfl, by decide⟩
theorem okY_X0_isBook : gx_okY mX0_isBook := ⟨q860, q126, rfl, by decide⟩
theorem okY_X0_isIn : gx_okY mX0_isIn := ⟨q464, q126, rfl, by decide⟩
theorem okY_X0_isOf : gx_okY mX0_isOf := ⟨q806, q126, rfl, by decide⟩
theorem okY_X0_isThere : gx_okY mX0_isThere := ⟨q803, q126, rfl, by decide⟩
theorem okY_X0_onPage : gx_okY mX0_onPage := ⟨q764, q126, rfl, by decide⟩
theorem okY_X0_puts : gx_okY mX0_puts := ⟨q457, q126, rfl, by decide⟩
theorem okY_X0_setsRising : gx_okY mX0_setsRising := ⟨q811, q126, rfl, by decide⟩
theorem okY_X0_shadeOf : gx_okY mX0_shadeOf := ⟨q876, q126, rfl, by decide⟩
theorem okY_X0_worstIn : gx_okY mX0_worstIn := ⟨q1144, q126, rfl, by decide⟩
theorem okY_X1_init : gx_okY mX1_init := ⟨q171, q127, rfl, by decide⟩
theorem okY_X1_place : gx_okY mX1_place := ⟨q756, q127, rfl, by decide⟩
theorem okY_X2_init : gx_okY mX2_init := ⟨q265, q128, rfl, by decide⟩
theorem okY_X2_more : gx_okY mX2_more := ⟨q843, q128, rfl, by decide⟩
theorem okY_X6_at : gx_okY mX6_at := ⟨q1116, q132, rfl, by decide⟩
theorem okY_X6_init : gx_okY mX6_init := ⟨q311, q132, rfl, by decide⟩
theorem okY_X6_make : gx_okY mX6_make := ⟨q1428, q132, rfl, by decide⟩
theorem okY_X6_put : gx_okY mX6_put := ⟨q1457, q132, rfl, by decide⟩
theorem okY_X6_size : gx_okY mX6_size := ⟨q1108, q132, rfl, by decide⟩
theorem okY_X7_copyRow : gx_okY mX7_copyRow := ⟨q1756, q136, rfl, by decide⟩
theorem okY_X7_cut : gx_okY mX7_cut := ⟨q1625, q136, rfl, by decide⟩
theorem okY_X7_does : gx_okY mX7_does := ⟨q2212, q136, rfl, by decide⟩
theorem okY_X7_entries : gx_okY mX7_entries := ⟨q1785, q136, rfl, by decide⟩
theorem okY_X7_fadeBy : gx_okY mX7_fadeBy := ⟨q1867, q136, rfl, by decide⟩
theorem okY_X7_fails : gx_okY mX7_fails := ⟨q1695, q136, rfl, by decide⟩
theorem okY_X7_fault : gx_okY mX7_fault := ⟨q1645, q136, rfl, by decide⟩
theorem okY_X7_four : gx_okY mX7_four := ⟨q1637, q136, rfl, by decide⟩
theorem okY_X7_hasRead : gx_okY mX7_hasRead := ⟨q1719, q136, rfl, by decide⟩
theorem okY_X7_in : gx_okY mX7_in := ⟨q1618, q136, rfl, by decide⟩
theorem okY_X7_init : gx_okY mX7_init := ⟨q1481, q136, rfl, by decide⟩
theorem okY_X7_is : gx_okY mX7_is := ⟨q1691, q136, rfl, by decide⟩
theorem okY_X7_isBit : gx_okY mX7_isBit := ⟨q1833, q136, rfl, by decide⟩
theorem okY_X7_isBook : gx_okY mX7_isBook := ⟨q1814, q136, rfl, by decide⟩
theorem okY_X7_isByte : gx_okY mX7_isByte := ⟨q1669, q136, rfl, by decide⟩
theorem okY_X7_isGood : gx_okY mX7_isGood := ⟨q1678, q136, rfl, by decide⟩
theorem okY_X7_isOver : gx_okY mX7_isOver := ⟨q1749, q136, rfl, by decide⟩
theorem okY_X7_lessOf : gx_okY mX7_lessOf := ⟨q1856, q136, rfl, by decide⟩
theorem okY_X7_moreOf : gx_okY mX7_moreOf := ⟨q1870, q136, rfl, by decide⟩
theorem okY_X7_placeOf : gx_okY mX7_placeOf := ⟨q1790, q136, rfl, by decide⟩
theorem okY_X7_shadeOf : gx_okY mX7_shadeOf := ⟨q1864, q136, rfl, by decide⟩
theorem okY_X7_sizeOf : gx_okY mX7_sizeOf := ⟨q2006, q136, rfl, by decide⟩
theorem okY_X7_tells : gx_okY mX7_tells := ⟨q1657, q136, rfl, by decide⟩
theorem okY_X7_years : gx_okY mX7_years := ⟨q1818, q136, rfl, by decide⟩
theorem okY_J15_checkIndex : gx_okY mJ15_checkIndex := ⟨q1376, q154, rfl, by decide⟩
theorem okY_J1_init : gx_okY mJ1_init := ⟨q325, q134, rfl, by decide⟩
theorem okY_J2_grow : gx_okY mJ2_grow := ⟨q1317, q135, rfl, by decide⟩
theorem okY_J4_checkIndex : gx_okY mJ4_checkIndex := ⟨q567, q141, rfl, by decide⟩
theorem okY_J4_length : gx_okY mJ4_length := ⟨q547, q141, rfl, by decide⟩
theorem okY_J9_init : gx_okY mJ9_init := ⟨q655, q146, rfl, by decide⟩
theorem okY_X0_allIn : gx_okY mX0_allIn := ⟨q912, q126, rfl, by decide⟩
theorem okY_X0_anew : gx_okY mX0_anew := ⟨q1288, q126, rfl, by decide⟩
theorem okY_X0_askOf : gx_okY mX0_askOf := ⟨q1140, q126, rfl, by decide⟩
theorem okY_X0_begins : gx_okY mX0_begins := ⟨q847, q126, rfl, by decide⟩
theorem okY_X0_bleach : gx_okY mX0_bleach := ⟨q856, q126, rfl, by decide⟩
theorem okY_X0_clearIn : gx_okY mX0_clearIn := ⟨q904, q126, rfl, by decide⟩
theorem okY_X0_end : gx_okY mX0_end := ⟨q461, q126, rfl, by decide⟩
theorem okY_X0_facing : gx_okY mX0_facing := ⟨q772, q126, rfl, by decide⟩
theorem okY_X0_feed : gx_okY mX0_feed := ⟨q453, q126, rfl, by decide⟩
theorem okY_X0_isEntry : gx_okY mX0_isEntry := ⟨q752, q126, rfl, by decide⟩
theorem okY_X0_isInk : gx_okY mX0_isInk := ⟨q733, q126, rfl, by decide⟩
theorem okY_X0_isLaw : gx_okY mX0_isLaw := ⟨q1163, q126, rfl, by decide⟩
theorem okY_X0_isOneOf : gx_okY mX0_isOneOf := ⟨q736, q126, rfl, by decide⟩
theorem okY_X0_isPage : gx_okY mX0_isPage := ⟨q744, q126, rfl, by decide⟩
theorem okY_X0_isSeed : gx_okY mX0_isSeed := ⟨q1254, q126, rfl, by decide⟩
theorem okY_X0_isSlot : gx_okY mX0_isSlot := ⟨q1103, q126, rfl, by decide⟩
theorem okY_X0_isYear : gx_okY mX0_isYear := ⟨q864, q126, rfl, by decide⟩
theorem okY_X0_lastOf : gx_okY mX0_lastOf := ⟨q1036, q126, rfl, by decide⟩
theorem okY_X0_lies : gx_okY mX0_lies := ⟨q1044, q126, rfl, by decide⟩
theorem okY_X0_number : gx_okY mX0_number := ⟨q1124, q126, rfl, by decide⟩
theorem okY_X0_part : gx_okY mX0_part := ⟨q1207, q126, rfl, by decide⟩
theorem okY_X0_pure : gx_okY mX0_pure := ⟨q1011, q126, rfl, by decide⟩
theorem okY_X0_put : gx_okY mX0_put := ⟨q963, q126, rfl, by decide⟩
theorem okY_X0_ripeOf : gx_okY mX0_ripeOf := ⟨q888, q126, rfl, by decide⟩
theorem okY_X0_sign : gx_okY mX0_sign := ⟨q956, q126, rfl, by decide⟩
theorem okY_X0_sortsOf : gx_okY mX0_sortsOf := ⟨q932, q126, rfl, by decide⟩
theorem okY_X0_thereIn : gx_okY mX0_thereIn := ⟨q868, q126, rfl, by decide⟩
theorem okY_X0_undo : gx_okY mX0_undo := ⟨q1284, q126, rfl, by decide⟩
theorem okY_X1_copy : gx_okY mX1_copy := ⟨q1366, q127, rfl, by decide⟩
theorem okY_X2_less : gx_okY mX2_less := ⟨q820, q128, rfl, by decide⟩
theorem okY_X3_init : gx_okY mX3_init := ⟨q277, q129, rfl, by decide⟩
theorem okY_X4_init : gx_okY mX4_init := ⟨q288, q130, rfl, by decide⟩
theorem okY_X5_init : gx_okY mX5_init := ⟨q299, q131, rfl, by decide⟩
theorem okY_X7_allAt : gx_okY mX7_allAt := ⟨q1910, q136, rfl, by decide⟩
theorem okY_X7_alone : gx_okY mX7_alone := ⟨q1974, q136, rfl, by decide⟩
theorem okY_X7_anew : gx_okY mX7_anew := ⟨q2224, q136, rfl, by decide⟩
theorem okY_X7_begin0 : gx_okY mX7_begin0 := ⟨q1853, q136, rfl, by decide⟩
theorem okY_X7_bleach0 : gx_okY mX7_bleach0 := ⟨q1878, q136, rfl, by decide⟩
theorem okY_X7_clearAt : gx_okY mX7_clearAt := ⟨q1902, q136, rfl, by decide⟩
theorem okY_X7_clears : gx_okY mX7_clears := ⟨q1653, q136, rfl, by decide⟩
theorem okY_X7_copyBook : gx_okY mX7_copyBook := ⟨q1753, q136, rfl, by decide⟩
theorem okY_X7_count : gx_okY mX7_count := ⟨q2232, q136, rfl, by decide⟩
theorem okY_X7_end : gx_okY mX7_end := ⟨q1641, q136, rfl, by decide⟩
theorem okY_X7_facing : gx_okY mX7_facing := ⟨q1802, q136, rfl, by decide⟩
theorem okY_X7_feed : gx_okY mX7_feed := ⟨q1633, q136, rfl, by decide⟩
theorem okY_X7_isEntry : gx_okY mX7_isEntry := ⟨q1781, q136, rfl, by decide⟩
theorem okY_X7_isHalf : gx_okY mX7_isHalf := ⟨q2138, q136, rfl, by decide⟩
theorem okY_X7_isInk : gx_okY mX7_isInk := ⟨q1764, q136, rfl, by decide⟩
theorem okY_X7_isPage : gx_okY mX7_isPage := ⟨q1773, q136, rfl, by decide⟩
theorem okY_X7_isSeed : gx_okY mX7_isSeed := ⟨q2191, q136, rfl, by decide⟩
theorem okY_X7_isSlot : gx_okY mX7_isSlot := ⟨q1614, q136, rfl, by decide⟩
theorem okY_X7_isSo : gx_okY mX7_isSo := ⟨q2003, q136, rfl, by decide⟩
theorem okY_X7_isSoon : gx_okY mX7_isSoon := ⟨q2171, q136, rfl, by decide⟩
theorem okY_X7_isThere : gx_okY mX7_isThere := ⟨q1830, q136, rfl, by decide⟩
theorem okY_X7_isYear : gx_okY mX7_isYear := ⟨q1810, q136, rfl, by decide⟩
theorem okY_X7_lastOf : gx_okY mX7_lastOf := ⟨q2111, q136, rfl, by decide⟩
theorem okY_X7_lays : gx_okY mX7_lays := ⟨q1822, q136, rfl, by decide⟩
theorem okY_X7_lies : gx_okY mX7_lies := ⟨q1962, q136, rfl, by decide⟩
theorem okY_X7_next : gx_okY mX7_next := ⟨q1665, q136, rfl, by decide⟩
theorem okY_X7_orderOf : gx_okY mX7_orderOf := ⟨q1954, q136, rfl, by decide⟩
theorem okY_X7_put : gx_okY mX7_put := ⟨q1958, q136, rfl, by decide⟩
theorem okY_X7_ripeOf : gx_okY mX7_ripeOf := ⟨q1886, q136, rfl, by decide⟩
theorem okY_X7_undo : gx_okY mX7_undo := ⟨q2220, q136, rfl, by decide⟩
theorem okY_X8_isNext : gx_okY mX8_isNext := ⟨q487, q137, rfl, by decide⟩
theorem okY_J2_add_2 : gx_okY mJ2_add_2 := ⟨q1313, q135, rfl, by decide⟩
theorem okY_J2_get : gx_okY mJ2_get := ⟨q1393, q135, rfl, by decide⟩
theorem okY_J2_init : gx_okY mJ2_init := ⟨q322, q135, rfl, by decide⟩
theorem okY_J2_set : gx_okY mJ2_set := ⟨q1373, q135, rfl, by decide⟩
theorem okY_J5_charAt : gx_okY mJ5_charAt := ⟨q564, q142, rfl, by decide⟩
theorem okY_X0_acts : gx_okY mX0_acts := ⟨q851, q126, rfl, by decide⟩
theorem okY_X0_ages : gx_okY mX0_ages := ⟨q1060, q126, rfl, by decide⟩
theorem okY_X0_allLast : gx_okY mX0_allLast := ⟨q1171, q126, rfl, by decide⟩
theorem okY_X0_areTwo : gx_okY mX0_areTwo := ⟨q1221, q126, rfl, by decide⟩
theorem okY_X0_asksSeen : gx_okY mX0_asksSeen := ⟨q1073, q126, rfl, by decide⟩
theorem okY_X0_entry : gx_okY mX0_entry := ⟨q748, q126, rfl, by decide⟩
theorem okY_X0_faces : gx_okY mX0_faces := ⟨q768, q126, rfl, by decide⟩
theorem okY_X0_ink : gx_okY mX0_ink := ⟨q729, q126, rfl, by decide⟩
theorem okY_X0_isChance : gx_okY mX0_isChance := ⟨q1237, q126, rfl, by decide⟩
theorem okY_X0_on : gx_okY mX0_on := ⟨q760, q126, rfl, by decide⟩
theorem okY_X0_order : gx_okY mX0_order := ⟨q1023, q126, rfl, by decide⟩
theorem okY_X0_page : gx_okY mX0_page := ⟨q740, q126, rfl, by decide⟩
theorem okY_X0_passesBy : gx_okY mX0_passesBy := ⟨q1007, q126, rfl, by decide⟩
theorem okY_X0_paste : gx_okY mX0_paste := ⟨q1461, q126, rfl, by decide⟩
theorem okY_X0_rate : gx_okY mX0_rate := ⟨q1292, q126, rfl, by decide⟩
theorem okY_X0_row : gx_okY mX0_row := ⟨q1397, q126, rfl, by decide⟩
theorem okY_X0_uses : gx_okY mX0_uses := ⟨q979, q126, rfl, by decide⟩
theorem okY_X0_write : gx_okY mX0_write := ⟨q1434, q126, rfl, by decide⟩
theorem okY_X3_less : gx_okY mX3_less := ⟨q818, q129, rfl, by decide⟩
theorem okY_X4_more : gx_okY mX4_more := ⟨q839, q130, rfl, by decide⟩
theorem okY_X5_less : gx_okY mX5_less := ⟨q825, q131, rfl, by decide⟩
theorem okY_X7_actsOf : gx_okY mX7_actsOf := ⟨q1874, q136, rfl, by decide⟩
theorem okY_X7_ages : gx_okY mX7_ages := ⟨q1986, q136, rfl, by decide⟩
theorem okY_X7_areTwo : gx_okY mX7_areTwo := ⟨q2155, q136, rfl, by decide⟩
theorem okY_X7_back : gx_okY mX7_back := ⟨q2241, q136, rfl, by decide⟩
theorem okY_X7_begins : gx_okY mX7_begins := ⟨q1661, q136, rfl, by decide⟩
theorem okY_X7_ends : gx_okY mX7_ends := ⟨q1745, q136, rfl, by decide⟩
theorem okY_X7_entry : gx_okY mX7_entry := ⟨q1777, q136, rfl, by decide⟩
theorem okY_X7_faces : gx_okY mX7_faces := ⟨q1798, q136, rfl, by decide⟩
theorem okY_X7_image : gx_okY mX7_image := ⟨q2237, q136, rfl, by decide⟩
theorem okY_X7_ink : gx_okY mX7_ink := ⟨q1760, q136, rfl, by decide⟩
theorem okY_X7_isRoom : gx_okY mX7_isRoom := ⟨q1715, q136, rfl, by decide⟩
theorem okY_X7_isThen : gx_okY mX7_isThen := ⟨q1841, q136, rfl, by decide⟩
theorem okY_X7_number_2 : gx_okY mX7_number_2 := ⟨q1704, q136, rfl, by decide⟩
theorem okY_X7_on : gx_okY mX7_on := ⟨q1794, q136, rfl, by decide⟩
theorem okY_X7_oneBy : gx_okY mX7_oneBy := ⟨q1918, q136, rfl, by decide⟩
theorem okY_X7_order : gx_okY mX7_order := ⟨q2098, q136, rfl, by decide⟩
theorem okY_X7_page : gx_okY mX7_page := ⟨q1769, q136, rfl, by decide⟩
theorem okY_X7_pageLine : gx_okY mX7_pageLine := ⟨q1731, q136, rfl, by decide⟩
theorem okY_X7_passesOf : gx_okY mX7_passesOf := ⟨q1970, q136, rfl, by decide⟩
theorem okY_X7_paste : gx_okY mX7_paste := ⟨q1629, q136, rfl, by decide⟩
theorem okY_X7_rate : gx_okY mX7_rate := ⟨q2228, q136, rfl, by decide⟩
theorem okY_X7_row : gx_okY mX7_row := ⟨q1611, q136, rfl, by decide⟩
theorem okY_X7_sortsOf : gx_okY mX7_sortsOf := ⟨q1930, q136, rfl, by decide⟩
theorem okY_X7_steps : gx_okY mX7_steps := ⟨q1860, q136, rfl, by decide⟩
theorem okY_X7_takesWord : gx_okY mX7_takesWord := ⟨q1687, q136, rfl, by decide⟩
theorem okY_X7_thereAt : gx_okY mX7_thereAt := ⟨q1826, q136, rfl, by decide⟩
theorem okY_X7_uses : gx_okY mX7_uses := ⟨q2058, q136, rfl, by decide⟩
theorem okY_X7_whyNot : gx_okY mX7_whyNot := ⟨q1995, q136, rfl, by decide⟩
theorem okY_X7_write : gx_okY mX7_write := ⟨q1622, q136, rfl, by decide⟩
theorem okY_X7_writtenBy : gx_okY mX7_writtenBy := ⟨q2066, q136, rfl, by decide⟩
theorem okY_X8_next : gx_okY mX8_next := ⟨q483, q137, rfl, by decide⟩
theorem okY_X9_init : gx_okY mX9_init := ⟨q652, q147, rfl, by decide⟩
theorem okY_J2_add : gx_okY mJ2_add := ⟨q1309, q135, rfl, by decide⟩
theorem okY_J4_charAt : gx_okY mJ4_charAt := ⟨q557, q141, rfl, by decide⟩
theorem okY_X0_back : gx_okY mX0_back := ⟨q1385, q126, rfl, by decide⟩
theorem okY_X0_goesOn : gx_okY mX0_goesOn := ⟨q799, q126, rfl, by decide⟩
theorem okY_X0_init : gx_okY mX0_init := ⟨q163, q126, rfl, by decide⟩
theorem okY_X7_age : gx_okY mX7_age := ⟨q2082, q136, rfl, by decide⟩
theorem okY_X7_asks : gx_okY mX7_asks := ⟨q1683, q136, rfl, by decide⟩
theorem okY_X7_newest : gx_okY mX7_newest := ⟨q2062, q136, rfl, by decide⟩
theorem okY_X7_oldest : gx_okY mX7_oldest := ⟨q2070, q136, rfl, by decide⟩
theorem okY_X7_runs : gx_okY mX7_runs := ⟨q1849, q136, rfl, by decide⟩
theorem okY_X7_there : gx_okY mX7_there := ⟨q1806, q136, rfl, by decide⟩
theorem okY_X8_init : gx_okY mX8_init := ⟨q474, q137, rfl, by decide⟩
theorem okY_X8_wrong : gx_okY mX8_wrong := ⟨q595, q137, rfl, by decide⟩
theorem okY_X0_image : gx_okY mX0_image := ⟨q1300, q126, rfl, by decide⟩
theorem okY_X0_lays : gx_okY mX0_lays := ⟨q795, q126, rfl, by decide⟩
theorem okY_X7_allBy : gx_okY mX7_allBy := ⟨q2034, q136, rfl, by decide⟩
theorem okY_X7_draws : gx_okY mX7_draws := ⟨q2196, q136, rfl, by decide⟩
theorem okY_X7_getsBy : gx_okY mX7_getsBy := ⟨q2159, q136, rfl, by decide⟩
theorem okY_X7_hide : gx_okY mX7_hide := ⟨q2119, q136, rfl, by decide⟩
theorem okY_X7_kinds : gx_okY mX7_kinds := ⟨q2026, q136, rfl, by decide⟩
theorem okY_X7_later : gx_okY mX7_later := ⟨q2106, q136, rfl, by decide⟩
theorem okY_X7_laysDates : gx_okY mX7_laysDates := ⟨q1999, q136, rfl, by decide⟩
theorem okY_X7_laysNow : gx_okY mX7_laysNow := ⟨q1845, q136, rfl, by decide⟩
theorem okY_X7_number : gx_okY mX7_number := ⟨q1700, q136, rfl, by decide⟩
theorem okY_X7_other : gx_okY mX7_other := ⟨q2115, q136, rfl, by decide⟩
theorem okY_X7_save : gx_okY mX7_save := ⟨q2123, q136, rfl, by decide⟩
theorem okY_X8_is : gx_okY mX8_is := ⟨q543, q137, rfl, by decide⟩
theorem okY_X8_number : gx_okY mX8_number := ⟨q688, q137, rfl, by decide⟩
theorem okY_X0_allByLaw : gx_okY mX0_allByLaw := ⟨q1167, q126, rfl, by decide⟩
theorem okY_X0_asksBook : gx_okY mX0_asksBook := ⟨q784, q126, rfl, by decide⟩
theorem okY_X0_draws : gx_okY mX0_draws := ⟨q1259, q126, rfl, by decide⟩
theorem okY_X0_getsOf : gx_okY mX0_getsOf := ⟨q1225, q126, rfl, by decide⟩
theorem okY_X0_isSo : gx_okY mX0_isSo := ⟨q1120, q126, rfl, by decide⟩
theorem okY_X0_later : gx_okY mX0_later := ⟨q1031, q126, rfl, by decide⟩
theorem okY_X0_laysChance : gx_okY mX0_laysChance := ⟨q1242, q126, rfl, by decide⟩
theorem okY_X0_other : gx_okY mX0_other := ⟨q1040, q126, rfl, by decide⟩
theorem okY_X7_alike : gx_okY mX7_alike := ⟨q1934, q136, rfl, by decide⟩
theorem okY_X7_all : gx_okY mX7_all := ⟨q1906, q136, rfl, by decide⟩
theorem okY_X7_ask : gx_okY mX7_ask := ⟨q2018, q136, rfl, by decide⟩
theorem okY_X7_betrayed : gx_okY mX7_betrayed := ⟨q1982, q136, rfl, by decide⟩
theorem okY_X7_blank : gx_okY mX7_blank := ⟨q1894, q136, rfl, by decide⟩
theorem okY_X7_bleaches : gx_okY mX7_bleaches := ⟨q2216, q136, rfl, by decide⟩
theorem okY_X7_bold : gx_okY mX7_bold := ⟨q2046, q136, rfl, by decide⟩
theorem okY_X7_by : gx_okY mX7_by := ⟨q2038, q136, rfl, by decide⟩
theorem okY_X7_clear : gx_okY mX7_clear := ⟨q1898, q136, rfl, by decide⟩
theorem okY_X7_cross : gx_okY mX7_cross := ⟨q1946, q136, rfl, by decide⟩
theorem okY_X7_darkest : gx_okY mX7_darkest := ⟨q1914, q136, rfl, by decide⟩
theorem okY_X7_dates : gx_okY mX7_dates := ⟨q1991, q136, rfl, by decide⟩
theorem okY_X7_drawn : gx_okY mX7_drawn := ⟨q2188, q136, rfl, by decide⟩
theorem okY_X7_entryLine : gx_okY mX7_entryLine := ⟨q1737, q136, rfl, by decide⟩
theorem okY_X7_falls : gx_okY mX7_falls := ⟨q2078, q136, rfl, by decide⟩
theorem okY_X7_first : gx_okY mX7_first := ⟨q2010, q136, rfl, by decide⟩
theorem okY_X7_gets : gx_okY mX7_gets := ⟨q2163, q136, rfl, by decide⟩
theorem okY_X7_heavy : gx_okY mX7_heavy := ⟨q2127, q136, rfl, by decide⟩
theorem okY_X7_honest : gx_okY mX7_honest := ⟨q2086, q136, rfl, by decide⟩
theorem okY_X7_inkLine : gx_okY mX7_inkLine := ⟨q1723, q136, rfl, by decide⟩
theorem okY_X7_last : gx_okY mX7_last := ⟨q2014, q136, rfl, by decide⟩
theorem okY_X7_lasts : gx_okY mX7_lasts := ⟨q2094, q136, rfl, by decide⟩
theorem okY_X7_law : gx_okY mX7_law := ⟨q2042, q136, rfl, by decide⟩
theorem okY_X7_laws : gx_okY mX7_laws := ⟨q2030, q136, rfl, by decide⟩
theorem okY_X7_leaves : gx_okY mX7_leaves := ⟨q2022, q136, rfl, by decide⟩
theorem okY_X7_luck : gx_okY mX7_luck := ⟨q2204, q136, rfl, by decide⟩
theorem okY_X7_match : gx_okY mX7_match := ⟨q2102, q136, rfl, by decide⟩
theorem okY_X7_palest : gx_okY mX7_palest := ⟨q1922, q136, rfl, by decide⟩
theorem okY_X7_paling : gx_okY mX7_paling := ⟨q1942, q136, rfl, by decide⟩
theorem okY_X7_passes : gx_okY mX7_passes := ⟨q1966, q136, rfl, by decide⟩
theorem okY_X7_peak : gx_okY mX7_peak := ⟨q1882, q136, rfl, by decide⟩
theorem okY_X7_peaks : gx_okY mX7_peaks := ⟨q2090, q136, rfl, by decide⟩
theorem okY_X7_rests : gx_okY mX7_rests := ⟨q2151, q136, rfl, by decide⟩
theorem okY_X7_retraces : gx_okY mX7_retraces := ⟨q2208, q136, rfl, by decide⟩
theorem okY_X7_ripe : gx_okY mX7_ripe := ⟨q1890, q136, rfl, by decide⟩
theorem okY_X7_rising : gx_okY mX7_rising := ⟨q1938, q136, rfl, by decide⟩
theorem okY_X7_shade : gx_okY mX7_shade := ⟨q1837, q136, rfl, by decide⟩
theorem okY_X7_sorts : gx_okY mX7_sorts := ⟨q1926, q136, rfl, by decide⟩
theorem okY_X7_spread : gx_okY mX7_spread := ⟨q2054, q136, rfl, by decide⟩
theorem okY_X7_steady : gx_okY mX7_steady := ⟨q2074, q136, rfl, by decide⟩
theorem okY_X7_sum : gx_okY mX7_sum := ⟨q2050, q136, rfl, by decide⟩
theorem okY_X7_suspects : gx_okY mX7_suspects := ⟨q1978, q136, rfl, by decide⟩
theorem okY_X7_swaps : gx_okY mX7_swaps := ⟨q1950, q136, rfl, by decide⟩
theorem okY_X7_worth : gx_okY mX7_worth := ⟨q2131, q136, rfl, by decide⟩
theorem okY_X8_takes : gx_okY mX8_takes := ⟨q539, q137, rfl, by decide⟩
theorem okY_X0_asksEntry : gx_okY mX0_asksEntry := ⟨q884, q126, rfl, by decide⟩
theorem okY_X0_asksYear : gx_okY mX0_asksYear := ⟨q780, q126, rfl, by decide⟩
theorem okY_X0_by : gx_okY mX0_by := ⟨q1160, q126, rfl, by decide⟩
theorem okY_X0_chance : gx_okY mX0_chance := ⟨q1233, q126, rfl, by decide⟩
theorem okY_X0_drawn : gx_okY mX0_drawn := ⟨q1251, q126, rfl, by decide⟩
theorem okY_X0_gets : gx_okY mX0_gets := ⟨q1229, q126, rfl, by decide⟩
theorem okY_X0_heavy : gx_okY mX0_heavy := ⟨q1187, q126, rfl, by decide⟩
theorem okY_X0_isKept : gx_okY mX0_isKept := ⟨q1276, q126, rfl, by decide⟩
theorem okY_X0_kinds : gx_okY mX0_kinds := ⟨q1152, q126, rfl, by decide⟩
theorem okY_X0_law : gx_okY mX0_law := ⟨q1175, q126, rfl, by decide⟩
theorem okY_X0_laws : gx_okY mX0_laws := ⟨q1156, q126, rfl, by decide⟩
theorem okY_X0_laysFits : gx_okY mX0_laysFits := ⟨q1069, q126, rfl, by decide⟩
theorem okY_X0_luck : gx_okY mX0_luck := ⟨q1268, q126, rfl, by decide⟩
theorem okY_X0_mean : gx_okY mX0_mean := ⟨q1246, q126, rfl, by decide⟩
theorem okY_X0_peaks : gx_okY mX0_peaks := ⟨q1015, q126, rfl, by decide⟩
theorem okY_X0_rests : gx_okY mX0_rests := ⟨q1217, q126, rfl, by decide⟩
theorem okY_X0_worth : gx_okY mX0_worth := ⟨q1191, q126, rfl, by decide⟩
theorem okY_X7_lineHere : gx_okY mX7_lineHere := ⟨q1710, q136, rfl, by decide⟩
theorem okY_X8_begins : gx_okY mX8_begins := ⟨q699, q137, rfl, by decide⟩
theorem okY_X8_expects : gx_okY mX8_expects := ⟨q535, q137, rfl, by decide⟩
theorem okY_X8_newPage : gx_okY mX8_newPage := ⟨q711, q137, rfl, by decide⟩
theorem okY_X0_age : gx_okY mX0_age := ⟨q999, q126, rfl, by decide⟩
theorem okY_X0_alike : gx_okY mX0_alike := ⟨q936, q126, rfl, by decide⟩
theorem okY_X0_all : gx_okY mX0_all := ⟨q908, q126, rfl, by decide⟩
theorem okY_X0_ask : gx_okY mX0_ask := ⟨q1136, q126, rfl, by decide⟩
theorem okY_X0_betrayed : gx_okY mX0_betrayed := ⟨q1056, q126, rfl, by decide⟩
theorem okY_X0_blank : gx_okY mX0_blank := ⟨q896, q126, rfl, by decide⟩
theorem okY_X0_bleaches : gx_okY mX0_bleaches := ⟨q1280, q126, rfl, by decide⟩
theorem okY_X0_bold : gx_okY mX0_bold := ⟨q967, q126, rfl, by decide⟩
theorem okY_X0_clear : gx_okY mX0_clear := ⟨q900, q126, rfl, by decide⟩
theorem okY_X0_cross : gx_okY mX0_cross := ⟨q948, q126, rfl, by decide⟩
theorem okY_X0_darkest : gx_okY mX0_darkest := ⟨q916, q126, rfl, by decide⟩
theorem okY_X0_dates : gx_okY mX0_dates := ⟨q1065, q126, rfl, by decide⟩
theorem okY_X0_falls : gx_okY mX0_falls := ⟨q995, q126, rfl, by decide⟩
theorem okY_X0_first : gx_okY mX0_first := ⟨q1128, q126, rfl, by decide⟩
theorem okY_X0_hide : gx_okY mX0_hide := ⟨q1179, q126, rfl, by decide⟩
theorem okY_X0_honest : gx_okY mX0_honest := ⟨q1003, q126, rfl, by decide⟩
theorem okY_X0_last : gx_okY mX0_last := ⟨q1132, q126, rfl, by decide⟩
theorem okY_X0_lasts : gx_okY mX0_lasts := ⟨q1019, q126, rfl, by decide⟩
theorem okY_X0_leaves : gx_okY mX0_leaves := ⟨q1148, q126, rfl, by decide⟩
theorem okY_X0_match : gx_okY mX0_match := ⟨q1027, q126, rfl, by decide⟩
theorem okY_X0_newest : gx_okY mX0_newest := ⟨q983, q126, rfl, by decide⟩
theorem okY_X0_oldest : gx_okY mX0_oldest := ⟨q987, q126, rfl, by decide⟩
theorem okY_X0_palest : gx_okY mX0_palest := ⟨q920, q126, rfl, by decide⟩
theorem okY_X0_paling : gx_okY mX0_paling := ⟨q944, q126, rfl, by decide⟩
theorem okY_X0_passes : gx_okY mX0_passes := ⟨q1048, q126, rfl, by decide⟩
theorem okY_X0_peak : gx_okY mX0_peak := ⟨q880, q126, rfl, by decide⟩
theorem okY_X0_retraces : gx_okY mX0_retraces := ⟨q1272, q126, rfl, by decide⟩
theorem okY_X0_ripe : gx_okY mX0_ripe := ⟨q892, q126, rfl, by decide⟩
theorem okY_X0_rising : gx_okY mX0_rising := ⟨q940, q126, rfl, by decide⟩
theorem okY_X0_save : gx_okY mX0_save := ⟨q1183, q126, rfl, by decide⟩
theorem okY_X0_shade : gx_okY mX0_shade := ⟨q872, q126, rfl, by decide⟩
theorem okY_X0_share : gx_okY mX0_share := ⟨q1195, q126, rfl, by decide⟩
theorem okY_X0_sorts : gx_okY mX0_sorts := ⟨q924, q126, rfl, by decide⟩
theorem okY_X0_spread : gx_okY mX0_spread := ⟨q975, q126, rfl, by decide⟩
theorem okY_X0_steady : gx_okY mX0_steady := ⟨q991, q126, rfl, by decide⟩
theorem okY_X0_sum : gx_okY mX0_sum := ⟨q971, q126, rfl, by decide⟩
theorem okY_X0_suspects : gx_okY mX0_suspects := ⟨q1052, q126, rfl, by decide⟩
theorem okY_X0_swaps : gx_okY mX0_swaps := ⟨q952, q126, rfl, by decide⟩
theorem okY_X0_there : gx_okY mX0_there := ⟨q776, q126, rfl, by decide⟩
theorem okY_X7_book : gx_okY mX7_book := ⟨q1649, q136, rfl, by decide⟩
theorem okY_X8_told : gx_okY mX8_told := ⟨q684, q137, rfl, by decide⟩
theorem okY_X8_head : gx_okY mX8_head := ⟨q530, q137, rfl, by decide⟩
theorem okY_X8_newEntry : gx_okY mX8_newEntry := ⟨q717, q137, rfl, by decide⟩
theorem okY_X8_newInk : gx_okY mX8_newInk := ⟨q703, q137, rfl, by decide⟩
theorem okY_X8_line : gx_okY mX8_line := ⟨q694, q137, rfl, by decide⟩
theorem okY_X8_whole : gx_okY mX8_whole := ⟨q526, q137, rfl, by decide⟩
theorem okY_X0_book : gx_okY mX0_book := ⟨q468, q126, rfl, by decide⟩
theorem okY_X7_times : gx_okY mX7_times := ⟨q2141, q136, rfl, by decide⟩
theorem okY_X7_power : gx_okY mX7_power := ⟨q2178, q136, rfl, by decide⟩
theorem okY_X7_weightOf : gx_okY mX7_weightOf := ⟨q2175, q136, rfl, by decide⟩
theorem okY_X7_common : gx_okY mX7_common := ⟨q2147, q136, rfl, by decide⟩
theorem okY_X7_part : gx_okY mX7_part := ⟨q2144, q136, rfl, by decide⟩
theorem okY_X7_chance : gx_okY mX7_chance := ⟨q2167, q136, rfl, by decide⟩
theorem okY_X7_mean : gx_okY mX7_mean := ⟨q2183, q136, rfl, by decide⟩
theorem okY_X7_share : gx_okY mX7_share := ⟨q2135, q136, rfl, by decide⟩
def gx_sT_0 : List (Nat × Nat × Nat × gx_Y) := [(95, 0, 3, mX0_isIn), (144, 0, 2, mX0_isOneOf), (254, 0, 2, mX0_isOf), (308, 0, 1, mJ10_signum), (335, 0, 1, mX0_isSlot), (370, 0, 1, mX0_isLaw), (380, 0, 2, mX0_divisor), (384, 0, 1, mJ10_bitCount), (387, 0, 1, mX0_factorial), (390, 0, 3, mX0_part), (434, 0, 1, mX0_isSeed)]
def gx_sT_1 : List (Nat × Nat × Nat × gx_Y) := []
def gx_sT_2 : List (Nat × Nat × Nat × gx_Y) := [(32, 1, 2, mX0_isOf)]
def gx_sT_3 : List (Nat × Nat × Nat × gx_Y) := [(33, 1, 2, mX0_isOf)]
def gx_sT_4 : List (Nat × Nat × Nat × gx_Y) := []
def gx_sT_5 : List (Nat × Nat × Nat × gx_Y) := []
def gx_sT_6 : List (Nat × Nat × Nat × gx_Y) := []
def gx_sT_7 : List (Nat × Nat × Nat × gx_Y) := [(79, 0, 3, mX7_in), (83, 0, 1, mX7_isSlot), (87, 0, 2, mX7_cut), (232, 0, 4, mX7_copyRow), (273, 0, 2, mX7_isBit), (277, 0, 2, mX7_lessOf), (280, 0, 2, mX7_moreOf), (286, 0, 5, mX7_fadeBy), (377, 0, 1, mX7_sizeOf), (401, 0, 1, mX7_times), (404, 0, 2, mX7_common), (408, 0, 1, mX7_isHalf), (411, 0, 3, mX7_part), (421, 0, 2, mX7_power), (445, 0, 1, mX7_isSeed)]
def gx_sT_8 : List (Nat × Nat × Nat × gx_Y) := [(48, 1, 3, mX0_isIn)]
def gx_sT_9 : List (Nat × Nat × Nat × gx_Y) := []
def gx_sT_10 : List (Nat × Nat × Nat × gx_Y) := []
def gx_sT_11 : List (Nat × Nat × Nat × gx_Y) := [(118, 0, 2, mJ15_checkIndex)]
def gx_sT_12 : List (Nat × Nat × Nat × gx_Y) := []
def gx_sT_13 : List (Nat × Nat × Nat × gx_Y) := []
def gx_sT_14 : List (Nat × Nat × Nat × gx_Y) := [(495, 0, 2, mJ5_charAt), (1059, 0, 3, mJ6_checkIndex)]
def gx_sT_15 : List (Nat × Nat × Nat × gx_Y) := [(9, 0, 2, mJ4_checkIndex)]
def gx_sT_16 : List (Nat × Nat × Nat × gx_Y) := []
def gx_sT_17 : List (Nat × Nat × Nat × gx_Y) := []
def gx_sT_18 : List (Nat × Nat × Nat × gx_Y) := []
def gx_sT_19 : List (Nat × Nat × Nat × gx_Y) := []
def gx_sT_20 : List (Nat × Nat × Nat × gx_Y) := [(105, 0, 3, mJ6_checkIndex)]
def gx_sT (k : Nat) : List (Nat × Nat × Nat × gx_Y) := match k with
  | 0 => gx_sT_0
  | 2 => gx_sT_2
  | 3 => gx_sT_3
  | 7 => gx_sT_7
  | 8 => gx_sT_8
  | 11 => gx_sT_11
  | 14 => gx_sT_14
  | 15 => gx_sT_15
  | 20 => gx_sT_20
  | _ => []
def gx_okS (oc : Nat) (e : Nat × Nat × Nat × gx_Y) : Prop := gx_okY e.2.2.2 ∧ (parseMethodDescriptor (gx_nm e.2.2.2).desc).map (fun d => d.parameters.length) = some e.2.2.1 ∧ (match e.2.1 with
  | 0 => Cond.methodLink (gx_cname oc) e.1 (gx_nm e.2.2.2) ∈ lw_all
  | _ => ∃ host : String, Cond.methodLinkNest (gx_cname oc) e.1 (gx_nm e.2.2.2) host ∈ gx_nest) ∧ Cond.static (gx_nm e.2.2.2) ∈ lw_all ∧ gx_hh e.2.2.2 = []
theorem gx_sT_ok_0 : ∀ e ∈ gx_sT_0, gx_okS 0 e := List.forall_mem_cons.mpr ⟨⟨okY_X0_isIn, by decide +kernel, q462, q463, rfl⟩, List.forall_mem_cons.mpr ⟨⟨okY_X0_isOneOf, by decide +kernel, q734, q735, rfl⟩, List.forall_mem_cons.mpr ⟨⟨okY_X0_isOf, by decide +kernel, q804, q805, rfl⟩, List.forall_mem_cons.mpr ⟨⟨okY_J10_signum, by decide +kernel, q957, q958, rfl⟩, List.forall_mem_cons.mpr ⟨⟨okY_X0_isSlot, by decide +kernel, q1101, q1102, rfl⟩, List.forall_mem_cons.mpr ⟨⟨okY_X0_isLaw, by decide +kernel, q1161, q1162, rfl⟩, List.forall_mem_cons.mpr ⟨⟨okY_X0_divisor, by decide +kernel, q1208, q1209, rfl⟩, List.forall_mem_cons.mpr ⟨⟨okY_J10_bitCount, by decide +kernel, q1196, q1197, rfl⟩, List.forall_mem_cons.mpr ⟨⟨okY_X0_factorial, by decide +kernel, q1202, q1203, rfl⟩, List.forall_mem_cons.mpr ⟨⟨okY_X0_part, by decide +kernel, q1205, q1206, rfl⟩, List.forall_mem_cons.mpr ⟨⟨okY_X0_isSeed, by decide +kernel, q1252, q1253, rfl⟩, fun _ h => absurd h List.not_mem_nil⟩⟩⟩⟩⟩⟩⟩⟩⟩⟩⟩
theorem gx_sT_ok_2 : ∀ e ∈ gx_sT_2, gx_okS 2 e := List.forall_mem_cons.mpr ⟨⟨okY_X0_isOf, by decide +kernel, ⟨"GallRegister", (List.mem_of_getElem? (i := 58) rfl)⟩, q805, rfl⟩, fun _ h => absurd h List.not_mem_nil⟩
theorem gx_sT_ok_3 : ∀ e ∈ gx_sT_3, gx_okS 3 e := List.forall_mem_cons.mpr ⟨⟨okY_X0_isOf, by decide +kernel, ⟨"GallRegister", (List.mem_of_getElem? (i := 59) rfl)⟩, q805, rfl⟩, fun _ h => absurd h List.not_mem_nil⟩
theorem gx_sT_ok_7 : ∀ e ∈ gx_sT_7, gx_okS 7 e := List.forall_mem_cons.mpr ⟨⟨okY_X7_in, by decide +kernel, q1616, q1617, rfl⟩, List.forall_mem_cons.mpr ⟨⟨okY_X7_isSlot, by decide +kernel, q1612, q1613, rfl⟩, List.forall_mem_cons.mpr ⟨⟨okY_X7_cut, by decide +kernel, q1623, q1624, rfl⟩, List.forall_mem_cons.mpr ⟨⟨okY_X7_copyRow, by decide +kernel, q1754, q1755, rfl⟩, List.forall_mem_cons.mpr ⟨⟨okY_X7_isBit, by decide +kernel, q1831, q1832, rfl⟩, List.forall_mem_cons.mpr ⟨⟨okY_X7_lessOf, by decide +kernel, q1854, q1855, rfl⟩, List.forall_mem_cons.mpr ⟨⟨okY_X7_moreOf, by decide +kernel, q1868, q1869, rfl⟩, List.forall_mem_cons.mpr ⟨⟨okY_X7_fadeBy, by decide +kernel, q1865, q1866, rfl⟩, List.forall_mem_cons.mpr ⟨⟨okY_X7_sizeOf, by decide +kernel, q2004, q2005, rfl⟩, List.forall_mem_cons.mpr ⟨⟨okY_X7_times, by decide +kernel, q2139, q2140, rfl⟩, List.forall_mem_cons.mpr ⟨⟨okY_X7_common, by decide +kernel, q2145, q2146, rfl⟩, List.forall_mem_cons.mpr ⟨⟨okY_X7_isHalf, by decide +kernel, q2136, q2137, rfl⟩, List.forall_mem_cons.mpr ⟨⟨okY_X7_part, by decide +kernel, q2142, q2143, rfl⟩, List.forall_mem_cons.mpr ⟨⟨okY_X7_power, by decide +kernel, q2176, q2177, rfl⟩, List.forall_mem_cons.mpr ⟨⟨okY_X7_isSeed, by decide +kernel, q2189, q2190, rfl⟩, fun _ h => absurd h List.not_mem_nil⟩⟩⟩⟩⟩⟩⟩⟩⟩⟩⟩⟩⟩⟩⟩
theorem gx_sT_ok_8 : ∀ e ∈ gx_sT_8, gx_okS 8 e := List.forall_mem_cons.mpr ⟨⟨okY_X0_isIn, by decide +kernel, ⟨"GallRegister", (List.mem_of_getElem? (i := 57) rfl)⟩, q463, rfl⟩, fun _ h => absurd h List.not_mem_nil⟩
theorem gx_sT_ok_11 : ∀ e ∈ gx_sT_11, gx_okS 11 e := List.forall_mem_cons.mpr ⟨⟨okY_J15_checkIndex, by decide +kernel, q1374, q1375, rfl⟩, fun _ h => absurd h List.not_mem_nil⟩
theorem gx_sT_ok_14 : ∀ e ∈ gx_sT_14, gx_okS 14 e := List.forall_mem_cons.mpr ⟨⟨okY_J5_charAt, by decide +kernel, q562, q563, rfl⟩, List.forall_mem_cons.mpr ⟨⟨okY_J6_checkIndex, by decide +kernel, q570, q571, rfl⟩, fun _ h => absurd h List.not_mem_nil⟩⟩
theorem gx_sT_ok_15 : ∀ e ∈ gx_sT_15, gx_okS 15 e := List.forall_mem_cons.mpr ⟨⟨okY_J4_checkIndex, by decide +kernel, q565, q566, rfl⟩, fun _ h => absurd h List.not_mem_nil⟩
theorem gx_sT_ok_20 : ∀ e ∈ gx_sT_20, gx_okS 20 e := List.forall_mem_cons.mpr ⟨⟨okY_J6_checkIndex, by decide +kernel, q1377, q571, rfl⟩, fun _ h => absurd h List.not_mem_nil⟩
theorem gx_sT_ok (k : Nat) : ∀ e ∈ gx_sT k, gx_okS k e := by
  match k with
  | 0 => exact gx_sT_ok_0
  | 2 => exact gx_sT_ok_2
  | 3 => exact gx_sT_ok_3
  | 7 => exact gx_sT_ok_7
  | 8 => exact gx_sT_ok_8
  | 11 => exact gx_sT_ok_11
  | 14 => exact gx_sT_ok_14
  | 15 => exact gx_sT_ok_15
  | 20 => exact gx_sT_ok_20
  | 1 => exact fun _ h => absurd h List.not_mem_nil
  | 4 => exact fun _ h => absurd h List.not_mem_nil
  | 5 => exact fun _ h => absurd h List.not_mem_nil
  | 6 => exact fun _ h => absurd h List.not_mem_nil
  | 9 => exact fun _ h => absurd h List.not_mem_nil
  | 10 => exact fun _ h => absurd h List.not_mem_nil
  | 12 => exact fun _ h => absurd h List.not_mem_nil
  | 13 => exact fun _ h => absurd h List.not_mem_nil
  | 16 => exact fun _ h => absurd h List.not_mem_nil
  | 17 => exact fun _ h => absurd h List.not_mem_nil
  | 18 => exact fun _ h => absurd h List.not_mem_nil
  | 19 => exact fun _ h => absurd h List.not_mem_nil
  | n + 21 => exact fun _ h => absurd h List.not_mem_nil
def gx_pT_0 : List (Nat × Nat × Nat × gx_Y) := [(9, 1, 0, mX1_init), (42, 1, 1, mX2_init), (51, 1, 1, mX3_init), (54, 1, 1, mX4_init), (57, 1, 1, mX5_init), (76, 1, 0, mX6_init), (83, 0, 0, mJ2_init), (101, 0, 1, mX8_init)]
def gx_pT_1 : List (Nat × Nat × Nat × gx_Y) := [(36, 0, 0, mX1_init)]
def gx_pT_2 : List (Nat × Nat × Nat × gx_Y) := []
def gx_pT_3 : List (Nat × Nat × Nat × gx_Y) := [(7, 1, 1, mX2_init), (13, 2, 2, mX2_less)]
def gx_pT_4 : List (Nat × Nat × Nat × gx_Y) := [(9, 1, 1, mX2_init), (27, 2, 2, mX2_more)]
def gx_pT_5 : List (Nat × Nat × Nat × gx_Y) := [(7, 1, 1, mX2_init), (13, 2, 2, mX2_less)]
def gx_pT_6 : List (Nat × Nat × Nat × gx_Y) := []
def gx_pT_7 : List (Nat × Nat × Nat × gx_Y) := []
def gx_pT_8 : List (Nat × Nat × Nat × gx_Y) := [(24, 1, 0, mX1_init), (83, 0, 2, mX9_init)]
def gx_pT_9 : List (Nat × Nat × Nat × gx_Y) := [(1, 0, 4, mJ9_init)]
def gx_pT_10 : List (Nat × Nat × Nat × gx_Y) := [(9, 0, 0, mX0_init), (12, 0, 0, mX7_init)]
def gx_pT_11 : List (Nat × Nat × Nat × gx_Y) := [(1, 0, 0, mJ1_init)]
def gx_pT_12 : List (Nat × Nat × Nat × gx_Y) := [(1, 0, 0, mJ0_init)]
def gx_pT_13 : List (Nat × Nat × Nat × gx_Y) := []
def gx_pT_14 : List (Nat × Nat × Nat × gx_Y) := []
def gx_pT_15 : List (Nat × Nat × Nat × gx_Y) := []
def gx_pT_16 : List (Nat × Nat × Nat × gx_Y) := []
def gx_pT_17 : List (Nat × Nat × Nat × gx_Y) := []
def gx_pT_18 : List (Nat × Nat × Nat × gx_Y) := [(16, 0, 4, mJ8_init_2)]
def gx_pT_19 : List (Nat × Nat × Nat × gx_Y) := []
def gx_pT_20 : List (Nat × Nat × Nat × gx_Y) := []
def gx_pT (k : Nat) : List (Nat × Nat × Nat × gx_Y) := match k with
  | 0 => gx_pT_0
  | 1 => gx_pT_1
  | 3 => gx_pT_3
  | 4 => gx_pT_4
  | 5 => gx_pT_5
  | 8 => gx_pT_8
  | 9 => gx_pT_9
  | 10 => gx_pT_10
  | 11 => gx_pT_11
  | 12 => gx_pT_12
  | 18 => gx_pT_18
  | _ => []
def gx_okP (oc : Nat) (e : Nat × Nat × Nat × gx_Y) : Prop := gx_okY e.2.2.2 ∧ (parseMethodDescriptor (gx_nm e.2.2.2).desc).map (fun d => d.parameters.length) = some e.2.2.1 ∧ match e.2.1 with
  | 0 => Cond.methodLink (gx_cname oc) e.1 (gx_nm e.2.2.2) ∈ lw_all ∧ Cond.instanceMethod (gx_nm e.2.2.2) ∈ lw_all ∧ (gx_nm e.2.2.2).name = "<init>" ∧ gx_hh e.2.2.2 = []
  | 1 => (∃ host : String, Cond.methodLinkNest (gx_cname oc) e.1 (gx_nm e.2.2.2) host ∈ gx_nest) ∧ Cond.instanceMethod (gx_nm e.2.2.2) ∈ lw_all ∧ (gx_nm e.2.2.2).name = "<init>" ∧ gx_hh e.2.2.2 = []
  | _ => Cond.methodLink (gx_cname oc) e.1 (gx_nm e.2.2.2) ∈ lw_all ∧ Cond.sameMethod (gx_nm e.2.2.2).cls (gx_nm e.2.2.2).cls (gx_nm e.2.2.2).name (gx_nm e.2.2.2).desc ∈ lw_all ∧ Cond.superclass (gx_cname oc) (gx_nm e.2.2.2).cls ∈ lw_all ∧ Cond.instanceMethod (gx_nm e.2.2.2) ∈ lw_all ∧ Cond.initialized (gx_nm e.2.2.2).cls ∈ lw_all ∧ (gx_nm e.2.2.2).name ≠ "<init>" ∧ gx_hh e.2.2.2 = []
theorem gx_pT_ok_0 : ∀ e ∈ gx_pT_0, gx_okP 0 e := List.forall_mem_cons.mpr ⟨⟨okY_X1_init, by decide +kernel, ⟨"GallRegister", (List.mem_of_getElem? (i := 47) rfl)⟩, q170, rfl, rfl⟩, List.forall_mem_cons.mpr ⟨⟨okY_X2_init, by decide +kernel, ⟨"GallRegister", (List.mem_of_getElem? (i := 48) rfl)⟩, q264, rfl, rfl⟩, List.forall_mem_cons.mpr ⟨⟨okY_X3_init, by decide +kernel, ⟨"GallRegister", (List.mem_of_getElem? (i := 49) rfl)⟩, q276, rfl, rfl⟩, List.forall_mem_cons.mpr ⟨⟨okY_X4_init, by decide +kernel, ⟨"GallRegister", (List.mem_of_getElem? (i := 51) rfl)⟩, q287, rfl, rfl⟩, List.forall_mem_cons.mpr ⟨⟨okY_X5_init, by decide +kernel, ⟨"GallRegister", (List.mem_of_getElem? (i := 53) rfl)⟩, q298, rfl, rfl⟩, List.forall_mem_cons.mpr ⟨⟨okY_X6_init, by decide +kernel, ⟨"GallRegister", (List.mem_of_getElem? (i := 55) rfl)⟩, q310, rfl, rfl⟩, List.forall_mem_cons.mpr ⟨⟨okY_J2_init, by decide +kernel, q320, q321, rfl, rfl⟩, List.forall_mem_cons.mpr ⟨⟨okY_X8_init, by decide +kernel, q472, q473, rfl, rfl⟩, fun _ h => absurd h List.not_mem_nil⟩⟩⟩⟩⟩⟩⟩⟩
theorem gx_pT_ok_1 : ∀ e ∈ gx_pT_1, gx_okP 1 e := List.forall_mem_cons.mpr ⟨⟨okY_X1_init, by decide +kernel, q1368, q170, rfl, rfl⟩, fun _ h => absurd h List.not_mem_nil⟩
theorem gx_pT_ok_3 : ∀ e ∈ gx_pT_3, gx_okP 3 e := List.forall_mem_cons.mpr ⟨⟨okY_X2_init, by decide +kernel, ⟨"GallRegister", (List.mem_of_getElem? (i := 50) rfl)⟩, q264, rfl, rfl⟩, List.forall_mem_cons.mpr ⟨⟨okY_X2_less, by decide +kernel, q819, q815, q283, q813, q128, by decide +kernel, rfl⟩, fun _ h => absurd h List.not_mem_nil⟩⟩
theorem gx_pT_ok_4 : ∀ e ∈ gx_pT_4, gx_okP 4 e := List.forall_mem_cons.mpr ⟨⟨okY_X2_init, by decide +kernel, ⟨"GallRegister", (List.mem_of_getElem? (i := 52) rfl)⟩, q264, rfl, rfl⟩, List.forall_mem_cons.mpr ⟨⟨okY_X2_more, by decide +kernel, q842, q834, q294, q832, q128, by decide +kernel, rfl⟩, fun _ h => absurd h List.not_mem_nil⟩⟩
theorem gx_pT_ok_5 : ∀ e ∈ gx_pT_5, gx_okP 5 e := List.forall_mem_cons.mpr ⟨⟨okY_X2_init, by decide +kernel, ⟨"GallRegister", (List.mem_of_getElem? (i := 54) rfl)⟩, q264, rfl, rfl⟩, List.forall_mem_cons.mpr ⟨⟨okY_X2_less, by decide +kernel, q826, q815, q305, q813, q128, by decide +kernel, rfl⟩, fun _ h => absurd h List.not_mem_nil⟩⟩
theorem gx_pT_ok_8 : ∀ e ∈ gx_pT_8, gx_okP 8 e := List.forall_mem_cons.mpr ⟨⟨okY_X1_init, by decide +kernel, ⟨"GallRegister", (List.mem_of_getElem? (i := 56) rfl)⟩, q170, rfl, rfl⟩, List.forall_mem_cons.mpr ⟨⟨okY_X9_init, by decide +kernel, q650, q651, rfl, rfl⟩, fun _ h => absurd h List.not_mem_nil⟩⟩
theorem gx_pT_ok_9 : ∀ e ∈ gx_pT_9, gx_okP 9 e := List.forall_mem_cons.mpr ⟨⟨okY_J9_init, by decide +kernel, q653, q654, rfl, rfl⟩, fun _ h => absurd h List.not_mem_nil⟩
theorem gx_pT_ok_10 : ∀ e ∈ gx_pT_10, gx_okP 10 e := List.forall_mem_cons.mpr ⟨⟨okY_X0_init, by decide +kernel, q161, q162, rfl, rfl⟩, List.forall_mem_cons.mpr ⟨⟨okY_X7_init, by decide +kernel, q1479, q1480, rfl, rfl⟩, fun _ h => absurd h List.not_mem_nil⟩⟩
theorem gx_pT_ok_11 : ∀ e ∈ gx_pT_11, gx_okP 11 e := List.forall_mem_cons.mpr ⟨⟨okY_J1_init, by decide +kernel, q323, q324, rfl, rfl⟩, fun _ h => absurd h List.not_mem_nil⟩
theorem gx_pT_ok_12 : ∀ e ∈ gx_pT_12, gx_okP 12 e := List.forall_mem_cons.mpr ⟨⟨okY_J0_init, by decide +kernel, q326, q327, rfl, rfl⟩, fun _ h => absurd h List.not_mem_nil⟩
theorem gx_pT_ok_18 : ∀ e ∈ gx_pT_18, gx_okP 18 e := List.forall_mem_cons.mpr ⟨⟨okY_J8_init_2, by decide +kernel, q656, q657, rfl, rfl⟩, fun _ h => absurd h List.not_mem_nil⟩
theorem gx_pT_ok (k : Nat) : ∀ e ∈ gx_pT k, gx_okP k e := by
  match k with
  | 0 => exact gx_pT_ok_0
  | 1 => exact gx_pT_ok_1
  | 3 => exact gx_pT_ok_3
  | 4 => exact gx_pT_ok_4
  | 5 => exact gx_pT_ok_5
  | 8 => exact gx_pT_ok_8
  | 9 => exact gx_pT_ok_9
  | 10 => exact gx_pT_ok_10
  | 11 => exact gx_pT_ok_11
  | 12 => exact gx_pT_ok_12
  | 18 => exact gx_pT_ok_18
  | 2 => exact fun _ h => absurd h List.not_mem_nil
  | 6 => exact fun _ h => absurd h List.not_mem_nil
  | 7 => exact fun _ h => absurd h List.not_mem_nil
  | 13 => exact fun _ h => absurd h List.not_mem_nil
  | 14 => exact fun _ h => absurd h List.not_mem_nil
  | 15 => exact fun _ h => absurd h List.not_mem_nil
  | 16 => exact fun _ h => absurd h List.not_mem_nil
  | 17 => exact fun _ h => absurd h List.not_mem_nil
  | n + 19 => exact fun _ h => absurd h List.not_mem_nil
def gx_vT_0 : List (Nat × Nat × Nat × Nat × gx_Y) := [(91, 0, 0, 1, mX0_puts), (102, 8, 0, 0, mX8_whole), (129, 0, 0, 0, mX0_isBook), (140, 0, 0, 1, mX0_isInk), (157, 0, 0, 1, mX0_isPage), (163, 0, 0, 1, mX0_isEntry), (179, 1, 0, 1, mX1_place), (182, 0, 0, 1, mX0_onPage), (185, 0, 0, 1, mX0_facing), (227, 0, 0, 2, mX0_setsRising), (243, 0, 0, 2, mX0_isThere), (247, 0, 0, 2, mX0_begins), (251, 0, 0, 1, mX0_bleach), (257, 2, 0, 2, mX2_less), (257, 3, 3, 2, mX3_less), (257, 4, 2, 2, mX2_less), (257, 5, 3, 2, mX5_less), (260, 2, 0, 2, mX2_more), (260, 3, 2, 2, mX2_more), (260, 4, 3, 2, mX4_more), (260, 5, 2, 2, mX2_more), (263, 0, 0, 2, mX0_goesOn), (266, 0, 0, 1, mX0_acts), (268, 0, 0, 0, mX0_asItIs), (271, 0, 0, 0, mX0_lays), (274, 0, 0, 0, mX0_asksBook), (277, 0, 0, 1, mX0_isYear), (280, 0, 0, 2, mX0_shadeOf), (283, 0, 0, 1, mX0_asksYear), (286, 0, 0, 1, mX0_thereIn), (289, 0, 0, 1, mX0_asksEntry), (292, 0, 0, 1, mX0_ripeOf), (295, 0, 0, 1, mX0_clearIn), (298, 0, 0, 1, mX0_allIn), (301, 0, 0, 0, mX0_everyEntry), (305, 0, 0, 2, mX0_sortsOf), (313, 0, 0, 3, mX0_sign), (317, 0, 0, 2, mX0_passesBy), (322, 0, 0, 1, mX0_lastOf), (325, 0, 0, 4, mX0_pure), (331, 6, 0, 1, mX6_at), (338, 6, 0, 0, mX6_size), (343, 0, 0, 2, mX0_number), (346, 0, 4, 1, mX0_asksSeen), (352, 0, 0, 1, mX0_isSo), (355, 0, 0, 2, mX0_laysFits), (361, 0, 0, 1, mX0_worstIn), (364, 0, 0, 0, mX0_askOf), (367, 0, 0, 0, mX0_allLast), (373, 0, 0, 1, mX0_allByLaw), (394, 0, 0, 2, mX0_areTwo), (397, 0, 0, 4, mX0_getsOf), (415, 0, 0, 1, mX0_isChance), (418, 0, 0, 3, mX0_laysChance), (437, 0, 0, 1, mX0_draws), (441, 0, 0, 1, mX0_isKept), (450, 10, 0, 0, mJ2_size), (451, 10, 0, 1, mJ2_add), (455, 1, 0, 0, mX1_copy), (458, 10, 0, 2, mJ2_set), (462, 10, 0, 0, mJ2_isEmpty), (465, 10, 0, 1, mJ2_get), (469, 6, 0, 2, mX6_make), (474, 6, 0, 2, mX6_put)]
def gx_vT_1 : List (Nat × Nat × Nat × Nat × gx_Y) := []
def gx_vT_2 : List (Nat × Nat × Nat × Nat × gx_Y) := []
def gx_vT_3 : List (Nat × Nat × Nat × Nat × gx_Y) := []
def gx_vT_4 : List (Nat × Nat × Nat × Nat × gx_Y) := [(15, 0, 1, 1, mX0_facing), (19, 0, 1, 2, mX0_isThere)]
def gx_vT_5 : List (Nat × Nat × Nat × Nat × gx_Y) := []
def gx_vT_6 : List (Nat × Nat × Nat × Nat × gx_Y) := []
def gx_vT_7 : List (Nat × Nat × Nat × Nat × gx_Y) := [(94, 7, 0, 1, mX7_four), (101, 7, 0, 3, mX7_isByte), (132, 7, 0, 1, mX7_is), (136, 7, 0, 0, mX7_next), (139, 7, 0, 1, mX7_takesWord), (142, 7, 0, 1, mX7_fails), (145, 7, 0, 1, mX7_asks), (149, 7, 0, 2, mX7_number_2), (156, 7, 0, 1, mX7_hasRead), (162, 7, 0, 3, mX7_number), (169, 7, 0, 2, mX7_tells), (185, 7, 0, 3, mX7_isRoom), (189, 7, 0, 0, mX7_inkLine), (194, 7, 0, 0, mX7_pageLine), (199, 7, 0, 0, mX7_entryLine), (202, 7, 0, 0, mX7_clears), (205, 7, 0, 0, mX7_begins), (208, 7, 0, 0, mX7_isGood), (220, 7, 0, 0, mX7_lineHere), (223, 7, 0, 0, mX7_ends), (226, 7, 0, 0, mX7_isOver), (229, 7, 0, 2, mX7_copyBook), (236, 7, 0, 0, mX7_entries), (240, 7, 0, 0, mX7_isBook), (243, 7, 0, 0, mX7_years), (246, 7, 0, 1, mX7_isEntry), (249, 7, 0, 1, mX7_isYear), (270, 7, 0, 1, mX7_placeOf), (283, 7, 0, 2, mX7_shadeOf), (290, 7, 0, 1, mX7_facing), (293, 7, 0, 2, mX7_isThere), (296, 7, 0, 3, mX7_begin0), (300, 7, 0, 2, mX7_bleach0), (309, 7, 0, 2, mX7_steps), (312, 7, 0, 1, mX7_actsOf), (315, 7, 0, 0, mX7_lays), (318, 7, 0, 0, mX7_runs), (321, 7, 0, 1, mX7_isInk), (326, 7, 0, 1, mX7_isPage), (331, 7, 0, 1, mX7_thereAt), (334, 7, 0, 2, mX7_isThen), (337, 7, 0, 0, mX7_laysNow), (340, 7, 0, 1, mX7_ripeOf), (343, 7, 0, 1, mX7_clearAt), (346, 7, 0, 1, mX7_allAt), (349, 7, 0, 2, mX7_oneBy), (352, 7, 0, 2, mX7_sortsOf), (355, 7, 0, 3, mX7_orderOf), (359, 7, 0, 4, mX7_alone), (363, 7, 0, 2, mX7_passesOf), (371, 7, 0, 1, mX7_isSo), (383, 7, 0, 2, mX7_whyNot), (387, 7, 0, 2, mX7_laysDates), (390, 7, 0, 1, mX7_allBy), (393, 7, 0, 2, mX7_writtenBy), (398, 7, 0, 1, mX7_lastOf), (415, 7, 0, 2, mX7_areTwo), (418, 7, 0, 5, mX7_getsBy), (426, 7, 0, 1, mX7_isSoon), (429, 7, 0, 3, mX7_weightOf), (448, 7, 0, 1, mX7_draws), (451, 7, 0, 4, mX7_does)]
def gx_vT_8 : List (Nat × Nat × Nat × Nat × gx_Y) := [(38, 8, 0, 0, mX8_next), (55, 8, 0, 2, mX8_isNext), (86, 200, 0, 0, mJ4_length), (92, 200, 0, 1, mJ4_charAt), (96, 8, 0, 1, mX8_is), (100, 8, 0, 1, mX8_takes), (103, 8, 0, 1, mX8_wrong), (107, 8, 0, 1, mX8_expects), (111, 8, 0, 2, mX8_number), (117, 8, 0, 3, mX8_told), (176, 8, 0, 2, mX8_begins), (180, 8, 0, 0, mX8_newInk), (184, 8, 0, 0, mX8_newPage), (189, 8, 0, 0, mX8_newEntry), (195, 8, 0, 0, mX8_head), (198, 8, 0, 0, mX8_line)]
def gx_vT_9 : List (Nat × Nat × Nat × Nat × gx_Y) := []
def gx_vT_10 : List (Nat × Nat × Nat × Nat × gx_Y) := [(13, 0, 0, 5, mX0_feed), (17, 7, 0, 5, mX7_feed), (18, 0, 0, 1, mX0_end), (22, 7, 0, 1, mX7_end), (23, 0, 4, 0, mX0_book), (27, 7, 0, 0, mX7_book), (28, 0, 0, 1, mX0_fault), (31, 7, 0, 1, mX7_fault), (32, 0, 0, 2, mX0_ink), (36, 7, 0, 2, mX7_ink), (37, 0, 0, 1, mX0_page), (40, 7, 0, 1, mX7_page), (41, 0, 0, 2, mX0_entry), (44, 7, 0, 2, mX7_entry), (45, 0, 0, 1, mX0_on), (48, 7, 0, 1, mX7_on), (49, 0, 0, 1, mX0_faces), (52, 7, 0, 1, mX7_faces), (53, 0, 0, 1, mX0_there), (56, 7, 0, 1, mX7_there), (57, 0, 0, 2, mX0_shade), (60, 7, 0, 2, mX7_shade), (61, 0, 0, 1, mX0_peak), (64, 7, 0, 1, mX7_peak), (65, 0, 0, 1, mX0_ripe), (68, 7, 0, 1, mX7_ripe), (69, 0, 0, 1, mX0_blank), (72, 7, 0, 1, mX7_blank), (73, 0, 0, 1, mX0_clear), (76, 7, 0, 1, mX7_clear), (77, 0, 0, 1, mX0_all), (80, 7, 0, 1, mX7_all), (81, 0, 0, 1, mX0_darkest), (84, 7, 0, 1, mX7_darkest), (85, 0, 0, 1, mX0_palest), (88, 7, 0, 1, mX7_palest), (89, 0, 0, 1, mX0_sorts), (92, 7, 0, 1, mX7_sorts), (93, 0, 0, 1, mX0_alike), (96, 7, 0, 1, mX7_alike), (97, 0, 0, 1, mX0_rising), (100, 7, 0, 1, mX7_rising), (101, 0, 0, 1, mX0_paling), (104, 7, 0, 1, mX7_paling), (105, 0, 0, 2, mX0_cross), (108, 7, 0, 2, mX7_cross), (109, 0, 0, 2, mX0_swaps), (112, 7, 0, 2, mX7_swaps), (113, 0, 0, 0, mX0_put), (116, 7, 0, 0, mX7_put), (117, 0, 0, 0, mX0_lies), (120, 7, 0, 0, mX7_lies), (121, 0, 0, 2, mX0_passes), (124, 7, 0, 2, mX7_passes), (125, 0, 0, 1, mX0_suspects), (128, 7, 0, 1, mX7_suspects), (129, 0, 0, 1, mX0_betrayed), (132, 7, 0, 1, mX7_betrayed), (133, 0, 0, 4, mX0_ages), (137, 7, 0, 4, mX7_ages), (138, 0, 0, 2, mX0_dates), (141, 7, 0, 2, mX7_dates), (142, 0, 0, 2, mX0_first), (145, 7, 0, 2, mX7_first), (146, 0, 0, 2, mX0_last), (149, 7, 0, 2, mX7_last), (150, 0, 0, 2, mX0_ask), (153, 7, 0, 2, mX7_ask), (154, 0, 0, 2, mX0_leaves), (157, 7, 0, 2, mX7_leaves), (158, 0, 0, 2, mX0_kinds), (161, 7, 0, 2, mX7_kinds), (162, 0, 0, 1, mX0_laws), (165, 7, 0, 1, mX7_laws), (166, 0, 0, 1, mX0_by), (169, 7, 0, 1, mX7_by), (170, 0, 0, 0, mX0_law), (173, 7, 0, 0, mX7_law), (174, 0, 0, 2, mX0_bold), (177, 7, 0, 2, mX7_bold), (178, 0, 0, 2, mX0_sum), (181, 7, 0, 2, mX7_sum), (182, 0, 0, 1, mX0_spread), (185, 7, 0, 1, mX7_spread), (186, 0, 0, 1, mX0_uses), (189, 7, 0, 1, mX7_uses), (190, 0, 0, 1, mX0_newest), (193, 7, 0, 1, mX7_newest), (194, 0, 0, 1, mX0_oldest), (197, 7, 0, 1, mX7_oldest), (198, 0, 0, 1, mX0_steady), (201, 7, 0, 1, mX7_steady), (202, 0, 0, 1, mX0_falls), (205, 7, 0, 1, mX7_falls), (206, 0, 0, 2, mX0_age), (209, 7, 0, 2, mX7_age), (210, 0, 0, 1, mX0_honest), (213, 7, 0, 1, mX7_honest), (214, 0, 0, 0, mX0_peaks), (217, 7, 0, 0, mX7_peaks), (218, 0, 0, 1, mX0_lasts), (221, 7, 0, 1, mX7_lasts), (222, 0, 0, 1, mX0_order), (225, 7, 0, 1, mX7_order), (226, 0, 0, 2, mX0_match), (229, 7, 0, 2, mX7_match), (230, 0, 0, 2, mX0_later), (233, 7, 0, 2, mX7_later), (234, 0, 0, 2, mX0_other), (237, 7, 0, 2, mX7_other), (238, 0, 0, 2, mX0_hide), (241, 7, 0, 2, mX7_hide), (242, 0, 0, 1, mX0_save), (245, 7, 0, 1, mX7_save), (246, 0, 0, 0, mX0_heavy), (249, 7, 0, 0, mX7_heavy), (250, 0, 0, 1, mX0_worth), (253, 7, 0, 1, mX7_worth), (254, 0, 0, 2, mX0_share), (257, 7, 0, 2, mX7_share), (258, 0, 0, 2, mX0_rests), (261, 7, 0, 2, mX7_rests), (262, 0, 0, 4, mX0_gets), (265, 7, 0, 4, mX7_gets), (266, 0, 0, 4, mX0_chance), (269, 7, 0, 4, mX7_chance), (270, 0, 0, 2, mX0_mean), (274, 7, 0, 2, mX7_mean), (275, 0, 0, 3, mX0_retraces), (279, 7, 0, 3, mX7_retraces), (280, 0, 0, 2, mX0_bleaches), (283, 7, 0, 2, mX7_bleaches), (284, 0, 0, 0, mX0_undo), (287, 7, 0, 0, mX7_undo), (288, 0, 0, 0, mX0_anew), (291, 7, 0, 0, mX7_anew), (292, 0, 0, 2, mX0_drawn), (295, 7, 0, 2, mX7_drawn), (296, 0, 0, 3, mX0_luck), (299, 7, 0, 3, mX7_luck), (300, 0, 0, 2, mX0_rate), (303, 7, 0, 2, mX7_rate), (304, 0, 0, 1, mX0_count), (307, 7, 0, 1, mX7_count), (308, 0, 0, 1, mX0_image), (311, 7, 0, 1, mX7_image), (312, 0, 0, 1, mX0_back), (315, 7, 0, 1, mX7_back), (316, 0, 4, 3, mX0_row), (319, 7, 0, 3, mX7_row), (322, 0, 4, 3, mX0_write), (326, 7, 0, 3, mX7_write), (327, 0, 4, 5, mX0_paste), (330, 7, 0, 5, mX7_paste)]
def gx_vT_11 : List (Nat × Nat × Nat × Nat × gx_Y) := [(69, 10, 0, 1, mJ2_grow_2), (123, 10, 0, 1, mJ2_elementData), (129, 10, 0, 0, mJ2_grow), (131, 10, 0, 3, mJ2_add_2)]
def gx_vT_12 : List (Nat × Nat × Nat × Nat × gx_Y) := []
def gx_vT_13 : List (Nat × Nat × Nat × Nat × gx_Y) := []
def gx_vT_14 : List (Nat × Nat × Nat × Nat × gx_Y) := [(335, 200, 0, 0, mJ4_coder), (492, 200, 0, 0, mJ4_isLatin1)]
def gx_vT_15 : List (Nat × Nat × Nat × Nat × gx_Y) := []
def gx_vT_16 : List (Nat × Nat × Nat × Nat × gx_Y) := []
def gx_vT_17 : List (Nat × Nat × Nat × Nat × gx_Y) := []
def gx_vT_18 : List (Nat × Nat × Nat × Nat × gx_Y) := []
def gx_vT_19 : List (Nat × Nat × Nat × Nat × gx_Y) := []
def gx_vT_20 : List (Nat × Nat × Nat × Nat × gx_Y) := []
def gx_vT (k : Nat) : List (Nat × Nat × Nat × Nat × gx_Y) := match k with
  | 0 => gx_vT_0
  | 4 => gx_vT_4
  | 7 => gx_vT_7
  | 8 => gx_vT_8
  | 10 => gx_vT_10
  | 11 => gx_vT_11
  | 14 => gx_vT_14
  | _ => []
def gx_okV (oc : Nat) (e : Nat × Nat × Nat × Nat × gx_Y) : Prop := gx_okY e.2.2.2.2 ∧ (parseMethodDescriptor (gx_nm e.2.2.2.2).desc).map (fun d => d.parameters.length) = some e.2.2.2.1 ∧ match e.2.2.1 with
  | 0 => Cond.methodLink (gx_cname oc) e.1 (gx_nm e.2.2.2.2) ∈ lw_all ∧ Cond.instanceMethod (gx_nm e.2.2.2.2) ∈ lw_all ∧ Cond.selects (gx_rname e.2.1) (gx_nm e.2.2.2.2) (gx_nm e.2.2.2.2) ∈ lw_all ∧ Cond.initialized (gx_rname e.2.1) ∈ lw_all ∧ (gx_nm e.2.2.2.2).cls = gx_rname e.2.1 ∧ gx_hh e.2.2.2.2 = []
  | 1 => (∃ host : String, Cond.methodLinkNest (gx_cname oc) e.1 (gx_nm e.2.2.2.2) host ∈ gx_nest) ∧ Cond.instanceMethod (gx_nm e.2.2.2.2) ∈ lw_all ∧ Cond.selects (gx_rname e.2.1) (gx_nm e.2.2.2.2) (gx_nm e.2.2.2.2) ∈ lw_all ∧ gx_hh e.2.2.2.2 = []
  | 2 => ∃ (x : MethodName) (owner : String), Cond.methodLink (gx_cname oc) e.1 x ∈ lw_all ∧ Cond.sameMethod x.cls owner x.name x.desc ∈ lw_all ∧ Cond.selects (gx_rname e.2.1) x (gx_nm e.2.2.2.2) ∈ lw_all ∧ Cond.instanceMethod (gx_nm e.2.2.2.2) ∈ lw_all ∧ Cond.initialized (gx_nm e.2.2.2.2).cls ∈ lw_all ∧ gx_nm e.2.2.2.2 = ⟨owner, x.name, x.desc⟩ ∧ (owner ≠ "java/lang/invoke/MethodHandle" ∧ owner ≠ "java/lang/invoke/VarHandle" ∧ (parseMethodDescriptor x.desc).map (fun d => d.parameters.length) = some e.2.2.2.1) ∧ gx_hh e.2.2.2.2 = []
  | 3 => ∃ (x : MethodName) (owner : String), Cond.methodLink (gx_cname oc) e.1 x ∈ lw_all ∧ Cond.sameMethod x.cls owner x.name x.desc ∈ lw_all ∧ Cond.instanceMethod ⟨owner, x.name, x.desc⟩ ∈ lw_all ∧ Cond.selects (gx_rname e.2.1) x (gx_nm e.2.2.2.2) ∈ lw_all ∧ Cond.instanceMethod (gx_nm e.2.2.2.2) ∈ lw_all ∧ Cond.initialized (gx_nm e.2.2.2.2).cls ∈ lw_all ∧ x.desc = (gx_nm e.2.2.2.2).desc ∧ (owner ≠ "java/lang/invoke/MethodHandle" ∧ owner ≠ "java/lang/invoke/VarHandle" ∧ (parseMethodDescriptor x.desc).map (fun d => d.parameters.length) = some e.2.2.2.1) ∧ (∃ (b0 : ByteArray) (m0 : Nat) (r0 : Option FieldType), Cond.code ⟨owner, x.name, x.desc⟩ b0 m0 r0 ∈ lw_all) ∧ x.name = (gx_nm e.2.2.2.2).name ∧ gx_hh e.2.2.2.2 = []
  | _ => Cond.methodLink (gx_cname oc) e.1 (gx_nm e.2.2.2.2) ∈ lw_all ∧ Cond.instanceMethod (gx_nm e.2.2.2.2) ∈ lw_all ∧ Cond.selects (gx_rname e.2.1) (gx_nm e.2.2.2.2) (gx_nm e.2.2.2.2) ∈ lw_all ∧ Cond.initialized (gx_rname e.2.1) ∈ lw_all ∧ (gx_nm e.2.2.2.2).cls = gx_rname e.2.1 ∧ ∃ (h : Nat × Nat × Nat × Nat) (t : List (Nat × Nat × Nat × Nat)), gx_hh e.2.2.2.2 = h :: t
theorem gx_vT_ok_0 : ∀ e ∈ gx_vT_0, gx_okV 0 e := List.forall_mem_cons.mpr ⟨⟨okY_X0_puts, by decide +kernel, q454, q456, qs0, q126, rfl, rfl⟩, List.forall_mem_cons.mpr ⟨⟨okY_X8_whole, by decide +kernel, q523, q524, q525, q137, rfl, rfl⟩, List.forall_mem_cons.mpr ⟨⟨okY_X0_isBook, by decide +kernel, q857, q859, qs32, q126, rfl, rfl⟩, List.forall_mem_cons.mpr ⟨⟨okY_X0_isInk, by decide +kernel, q730, q732, qs17, q126, rfl, rfl⟩, List.forall_mem_cons.mpr ⟨⟨okY_X0_isPage, by decide +kernel, q741, q743, qs18, q126, rfl, rfl⟩, List.forall_mem_cons.mpr ⟨⟨okY_X0_isEntry, by decide +kernel, q749, q751, qs19, q126, rfl, rfl⟩, List.forall_mem_cons.mpr ⟨⟨okY_X1_place, by decide +kernel, q753, q754, q755, q127, rfl, rfl⟩, List.forall_mem_cons.mpr ⟨⟨okY_X0_onPage, by decide +kernel, q761, q763, qs20, q126, rfl, rfl⟩, List.forall_mem_cons.mpr ⟨⟨okY_X0_facing, by decide +kernel, q769, q771, qs21, q126, rfl, rfl⟩, List.forall_mem_cons.mpr ⟨⟨okY_X0_setsRising, by decide +kernel, q808, q810, qs28, q126, rfl, rfl⟩, List.forall_mem_cons.mpr ⟨⟨okY_X0_isThere, by decide +kernel, q800, q802, qs27, q126, rfl, rfl⟩, List.forall_mem_cons.mpr ⟨⟨okY_X0_begins, by decide +kernel, q844, q846, qs29, q126, rfl, rfl⟩, List.forall_mem_cons.mpr ⟨⟨okY_X0_bleach, by decide +kernel, q853, q855, qs31, q126, rfl, rfl⟩, List.forall_mem_cons.mpr ⟨⟨okY_X2_less, by decide +kernel, q812, q813, q814, q128, rfl, rfl⟩, List.forall_mem_cons.mpr ⟨⟨okY_X3_less, by decide +kernel, yX2_less, "GallRegister$Fading", q812, q815, q813, q816, q817, q129, rfl, by decide +kernel, ⟨_, _, _, q820⟩, rfl, rfl⟩, List.forall_mem_cons.mpr ⟨⟨okY_X2_less, by decide +kernel, yX2_less, "GallRegister$Fading", q812, q815, q827, q813, q128, rfl, by decide +kernel, rfl⟩, List.forall_mem_cons.mpr ⟨⟨okY_X5_less, by decide +kernel, yX2_less, "GallRegister$Fading", q812, q815, q813, q823, q824, q131, rfl, by decide +kernel, ⟨_, _, _, q820⟩, rfl, rfl⟩, List.forall_mem_cons.mpr ⟨⟨okY_X2_more, by decide +kernel, q831, q832, q833, q128, rfl, rfl⟩, List.forall_mem_cons.mpr ⟨⟨okY_X2_more, by decide +kernel, yX2_more, "GallRegister$Fading", q831, q834, q835, q832, q128, rfl, by decide +kernel, rfl⟩, List.forall_mem_cons.mpr ⟨⟨okY_X4_more, by decide +kernel, yX2_more, "GallRegister$Fading", q831, q834, q832, q837, q838, q130, rfl, by decide +kernel, ⟨_, _, _, q843⟩, rfl, rfl⟩, List.forall_mem_cons.mpr ⟨⟨okY_X2_more, by decide +kernel, yX2_more, "GallRegister$Fading", q831, q834, q836, q832, q128, rfl, by decide +kernel, rfl⟩, List.forall_mem_cons.mpr ⟨⟨okY_X0_goesOn, by decide +kernel, q796, q798, qs26, q126, rfl, rfl⟩, List.forall_mem_cons.mpr ⟨⟨okY_X0_acts, by decide +kernel, q848, q850, qs30, q126, rfl, rfl⟩, List.forall_mem_cons.mpr ⟨⟨okY_X0_asItIs, by decide +kernel, q785, q787, qs24, q126, rfl, rfl⟩, List.forall_mem_cons.mpr ⟨⟨okY_X0_lays, by decide +kernel, q792, q794, qs25, q126, rfl, rfl⟩, List.forall_mem_cons.mpr ⟨⟨okY_X0_asksBook, by decide +kernel, q781, q783, qs23, q126, rfl, rfl⟩, List.forall_mem_cons.mpr ⟨⟨okY_X0_isYear, by decide +kernel, q861, q863, qs33, q126, rfl, rfl⟩, List.forall_mem_cons.mpr ⟨⟨okY_X0_shadeOf, by decide +kernel, q873, q875, qs35, q126, rfl, rfl⟩, List.forall_mem_cons.mpr ⟨⟨okY_X0_asksYear, by decide +kernel, q777, q779, qs22, q126, rfl, rfl⟩, List.forall_mem_cons.mpr ⟨⟨okY_X0_thereIn, by decide +kernel, q865, q867, qs34, q126, rfl, rfl⟩, List.forall_mem_cons.mpr ⟨⟨okY_X0_asksEntry, by decide +kernel, q881, q883, qs36, q126, rfl, rfl⟩, List.forall_mem_cons.mpr ⟨⟨okY_X0_ripeOf, by decide +kernel, q885, q887, qs37, q126, rfl, rfl⟩, List.forall_mem_cons.mpr ⟨⟨okY_X0_clearIn, by decide +kernel, q901, q903, qs38, q126, rfl, rfl⟩, List.forall_mem_cons.mpr ⟨⟨okY_X0_allIn, by decide +kernel, q909, q911, qs39, q126, rfl, rfl⟩, List.forall_mem_cons.mpr ⟨⟨okY_X0_everyEntry, by decide +kernel, q925, q927, qs40, q126, rfl, rfl⟩, List.forall_mem_cons.mpr ⟨⟨okY_X0_sortsOf, by decide +kernel, q929, q931, qs41, q126, rfl, rfl⟩, List.forall_mem_cons.mpr ⟨⟨okY_X0_sign, by decide +kernel, q953, q955, qs42, q126, rfl, rfl⟩, List.forall_mem_cons.mpr ⟨⟨okY_X0_passesBy, by decide +kernel, q1004, q1006, qs43, q126, rfl, rfl⟩, List.forall_mem_cons.mpr ⟨⟨okY_X0_lastOf, by decide +kernel, q1033, q1035, qs45, q126, rfl, rfl⟩, List.forall_mem_cons.mpr ⟨⟨okY_X0_pure, by decide +kernel, q1008, q1010, qs44, q126, rfl, rfl⟩, List.forall_mem_cons.mpr ⟨⟨okY_X6_at, by decide +kernel, q1113, q1114, q1115, q132, rfl, rfl⟩, List.forall_mem_cons.mpr ⟨⟨okY_X6_size, by decide +kernel, q1105, q1106, q1107, q132, rfl, rfl⟩, List.forall_mem_cons.mpr ⟨⟨okY_X0_number, by decide +kernel, q1121, q1123, qs49, q126, rfl, rfl⟩, List.forall_mem_cons.mpr ⟨⟨okY_X0_asksSeen, by decide +kernel, q1070, q1072, qs47, q126, rfl, ⟨_, _, rfl⟩⟩, List.forall_mem_cons.mpr ⟨⟨okY_X0_isSo, by decide +kernel, q1117, q1119, qs48, q126, rfl, rfl⟩, List.forall_mem_cons.mpr ⟨⟨okY_X0_laysFits, by decide +kernel, q1066, q1068, qs46, q126, rfl, rfl⟩, List.forall_mem_cons.mpr ⟨⟨okY_X0_worstIn, by decide +kernel, q1141, q1143, qs51, q126, rfl, rfl⟩, List.forall_mem_cons.mpr ⟨⟨okY_X0_askOf, by decide +kernel, q1137, q1139, qs50, q126, rfl, rfl⟩, List.forall_mem_cons.mpr ⟨⟨okY_X0_allLast, by decide +kernel, q1168, q1170, qs53, q126, rfl, rfl⟩, List.forall_mem_cons.mpr ⟨⟨okY_X0_allByLaw, by decide +kernel, q1164, q1166, qs52, q126, rfl, rfl⟩, List.forall_mem_cons.mpr ⟨⟨okY_X0_areTwo, by decide +kernel, q1218, q1220, qs54, q126, rfl, rfl⟩, List.forall_mem_cons.mpr ⟨⟨okY_X0_getsOf, by decide +kernel, q1222, q1224, qs55, q126, rfl, rfl⟩, List.forall_mem_cons.mpr ⟨⟨okY_X0_isChance, by decide +kernel, q1234, q1236, qs56, q126, rfl, rfl⟩, List.forall_mem_cons.mpr ⟨⟨okY_X0_laysChance, by decide +kernel, q1239, q1241, qs57, q126, rfl, rfl⟩, List.forall_mem_cons.mpr ⟨⟨okY_X0_draws, by decide +kernel, q1256, q1258, qs58, q126, rfl, rfl⟩, List.forall_mem_cons.mpr ⟨⟨okY_X0_isKept, by decide +kernel, q1273, q1275, qs59, q126, rfl, rfl⟩, List.forall_mem_cons.mpr ⟨⟨okY_J2_size, by decide +kernel, q1302, q1303, q1304, q135, rfl, rfl⟩, List.forall_mem_cons.mpr ⟨⟨okY_J2_add, by decide +kernel, q1306, q1307, q1308, q135, rfl, rfl⟩, List.forall_mem_cons.mpr ⟨⟨okY_X1_copy, by decide +kernel, q1363, q1364, q1365, q127, rfl, rfl⟩, List.forall_mem_cons.mpr ⟨⟨okY_J2_set, by decide +kernel, q1370, q1371, q1372, q135, rfl, rfl⟩, List.forall_mem_cons.mpr ⟨⟨okY_J2_isEmpty, by decide +kernel, q1386, q1387, q1388, q135, rfl, rfl⟩, List.forall_mem_cons.mpr ⟨⟨okY_J2_get, by decide +kernel, q1390, q1391, q1392, q135, rfl, rfl⟩, List.forall_mem_cons.mpr ⟨⟨okY_X6_make, by decide +kernel, q1425, q1426, q1427, q132, rfl, rfl⟩, List.forall_mem_cons.mpr ⟨⟨okY_X6_put, by decide +kernel, q1454, q1455, q1456, q132, rfl, rfl⟩, fun _ h => absurd h List.not_mem_nil⟩⟩⟩⟩⟩⟩⟩⟩⟩⟩⟩⟩⟩⟩⟩⟩⟩⟩⟩⟩⟩⟩⟩⟩⟩⟩⟩⟩⟩⟩⟩⟩⟩⟩⟩⟩⟩⟩⟩⟩⟩⟩⟩⟩⟩⟩⟩⟩⟩⟩⟩⟩⟩⟩⟩⟩⟩⟩⟩⟩⟩⟩⟩⟩
theorem gx_vT_ok_4 : ∀ e ∈ gx_vT_4, gx_okV 4 e := List.forall_mem_cons.mpr ⟨⟨okY_X0_facing, by decide +kernel, ⟨"GallRegister", (List.mem_of_getElem? (i := 60) rfl)⟩, q771, qs21, rfl⟩, List.forall_mem_cons.mpr ⟨⟨okY_X0_isThere, by decide +kernel, ⟨"GallRegister", (List.mem_of_getElem? (i := 61) rfl)⟩, q802, qs27, rfl⟩, fun _ h => absurd h List.not_mem_nil⟩⟩
theorem gx_vT_ok_7 : ∀ e ∈ gx_vT_7, gx_okV 7 e := List.forall_mem_cons.mpr ⟨⟨okY_X7_four, by decide +kernel, q1634, q1636, qs63, q136, rfl, rfl⟩, List.forall_mem_cons.mpr ⟨⟨okY_X7_isByte, by decide +kernel, q1666, q1668, qs68, q136, rfl, rfl⟩, List.forall_mem_cons.mpr ⟨⟨okY_X7_is, by decide +kernel, q1688, q1690, qs72, q136, rfl, rfl⟩, List.forall_mem_cons.mpr ⟨⟨okY_X7_next, by decide +kernel, q1662, q1664, qs67, q136, rfl, rfl⟩, List.forall_mem_cons.mpr ⟨⟨okY_X7_takesWord, by decide +kernel, q1684, q1686, qs71, q136, rfl, rfl⟩, List.forall_mem_cons.mpr ⟨⟨okY_X7_fails, by decide +kernel, q1692, q1694, qs73, q136, rfl, rfl⟩, List.forall_mem_cons.mpr ⟨⟨okY_X7_asks, by decide +kernel, q1680, q1682, qs70, q136, rfl, rfl⟩, List.forall_mem_cons.mpr ⟨⟨okY_X7_number_2, by decide +kernel, q1701, q1703, qs75, q136, rfl, rfl⟩, List.forall_mem_cons.mpr ⟨⟨okY_X7_hasRead, by decide +kernel, q1716, q1718, qs78, q136, rfl, rfl⟩, List.forall_mem_cons.mpr ⟨⟨okY_X7_number, by decide +kernel, q1697, q1699, qs74, q136, rfl, rfl⟩, List.forall_mem_cons.mpr ⟨⟨okY_X7_tells, by decide +kernel, q1654, q1656, qs65, q136, rfl, rfl⟩, List.forall_mem_cons.mpr ⟨⟨okY_X7_isRoom, by decide +kernel, q1712, q1714, qs77, q136, rfl, rfl⟩, List.forall_mem_cons.mpr ⟨⟨okY_X7_inkLine, by decide +kernel, q1720, q1722, qs79, q136, rfl, rfl⟩, List.forall_mem_cons.mpr ⟨⟨okY_X7_pageLine, by decide +kernel, q1728, q1730, qs80, q136, rfl, rfl⟩, List.forall_mem_cons.mpr ⟨⟨okY_X7_entryLine, by decide +kernel, q1734, q1736, qs81, q136, rfl, rfl⟩, List.forall_mem_cons.mpr ⟨⟨okY_X7_clears, by decide +kernel, q1650, q1652, qs64, q136, rfl, rfl⟩, List.forall_mem_cons.mpr ⟨⟨okY_X7_begins, by decide +kernel, q1658, q1660, qs66, q136, rfl, rfl⟩, List.forall_mem_cons.mpr ⟨⟨okY_X7_isGood, by decide +kernel, q1675, q1677, qs69, q136, rfl, rfl⟩, List.forall_mem_cons.mpr ⟨⟨okY_X7_lineHere, by decide +kernel, q1707, q1709, qs76, q136, rfl, rfl⟩, List.forall_mem_cons.mpr ⟨⟨okY_X7_ends, by decide +kernel, q1742, q1744, qs82, q136, rfl, rfl⟩, List.forall_mem_cons.mpr ⟨⟨okY_X7_isOver, by decide +kernel, q1746, q1748, qs83, q136, rfl, rfl⟩, List.forall_mem_cons.mpr ⟨⟨okY_X7_copyBook, by decide +kernel, q1750, q1752, qs84, q136, rfl, rfl⟩, List.forall_mem_cons.mpr ⟨⟨okY_X7_entries, by decide +kernel, q1782, q1784, qs88, q136, rfl, rfl⟩, List.forall_mem_cons.mpr ⟨⟨okY_X7_isBook, by decide +kernel, q1811, q1813, qs92, q136, rfl, rfl⟩, List.forall_mem_cons.mpr ⟨⟨okY_X7_years, by decide +kernel, q1815, q1817, qs93, q136, rfl, rfl⟩, List.forall_mem_cons.mpr ⟨⟨okY_X7_isEntry, by decide +kernel, q1778, q1780, qs87, q136, rfl, rfl⟩, List.forall_mem_cons.mpr ⟨⟨okY_X7_isYear, by decide +kernel, q1807, q1809, qs91, q136, rfl, rfl⟩, List.forall_mem_cons.mpr ⟨⟨okY_X7_placeOf, by decide +kernel, q1787, q1789, qs89, q136, rfl, rfl⟩, List.forall_mem_cons.mpr ⟨⟨okY_X7_shadeOf, by decide +kernel, q1861, q1863, qs102, q136, rfl, rfl⟩, List.forall_mem_cons.mpr ⟨⟨okY_X7_facing, by decide +kernel, q1799, q1801, qs90, q136, rfl, rfl⟩, List.forall_mem_cons.mpr ⟨⟨okY_X7_isThere, by decide +kernel, q1827, q1829, qs96, q136, rfl, rfl⟩, List.forall_mem_cons.mpr ⟨⟨okY_X7_begin0, by decide +kernel, q1850, q1852, qs100, q136, rfl, rfl⟩, List.forall_mem_cons.mpr ⟨⟨okY_X7_bleach0, by decide +kernel, q1875, q1877, qs104, q136, rfl, rfl⟩, List.forall_mem_cons.mpr ⟨⟨okY_X7_steps, by decide +kernel, q1857, q1859, qs101, q136, rfl, rfl⟩, List.forall_mem_cons.mpr ⟨⟨okY_X7_actsOf, by decide +kernel, q1871, q1873, qs103, q136, rfl, rfl⟩, List.forall_mem_cons.mpr ⟨⟨okY_X7_lays, by decide +kernel, q1819, q1821, qs94, q136, rfl, rfl⟩, List.forall_mem_cons.mpr ⟨⟨okY_X7_runs, by decide +kernel, q1846, q1848, qs99, q136, rfl, rfl⟩, List.forall_mem_cons.mpr ⟨⟨okY_X7_isInk, by decide +kernel, q1761, q1763, qs85, q136, rfl, rfl⟩, List.forall_mem_cons.mpr ⟨⟨okY_X7_isPage, by decide +kernel, q1770, q1772, qs86, q136, rfl, rfl⟩, List.forall_mem_cons.mpr ⟨⟨okY_X7_thereAt, by decide +kernel, q1823, q1825, qs95, q136, rfl, rfl⟩, List.forall_mem_cons.mpr ⟨⟨okY_X7_isThen, by decide +kernel, q1838, q1840, qs97, q136, rfl, rfl⟩, List.forall_mem_cons.mpr ⟨⟨okY_X7_laysNow, by decide +kernel, q1842, q1844, qs98, q136, rfl, rfl⟩, List.forall_mem_cons.mpr ⟨⟨okY_X7_ripeOf, by decide +kernel, q1883, q1885, qs105, q136, rfl, rfl⟩, List.forall_mem_cons.mpr ⟨⟨okY_X7_clearAt, by decide +kernel, q1899, q1901, qs106, q136, rfl, rfl⟩, List.forall_mem_cons.mpr ⟨⟨okY_X7_allAt, by decide +kernel, q1907, q1909, qs107, q136, rfl, rfl⟩, List.forall_mem_cons.mpr ⟨⟨okY_X7_oneBy, by decide +kernel, q1915, q1917, qs108, q136, rfl, rfl⟩, List.forall_mem_cons.mpr ⟨⟨okY_X7_sortsOf, by decide +kernel, q1927, q1929, qs109, q136, rfl, rfl⟩, List.forall_mem_cons.mpr ⟨⟨okY_X7_orderOf, by decide +kernel, q1951, q1953, qs110, q136, rfl, rfl⟩, List.forall_mem_cons.mpr ⟨⟨okY_X7_alone, by decide +kernel, q1971, q1973, qs112, q136, rfl, rfl⟩, List.forall_mem_cons.mpr ⟨⟨okY_X7_passesOf, by decide +kernel, q1967, q1969, qs111, q136, rfl, rfl⟩, List.forall_mem_cons.mpr ⟨⟨okY_X7_isSo, by decide +kernel, q2000, q2002, qs115, q136, rfl, rfl⟩, List.forall_mem_cons.mpr ⟨⟨okY_X7_whyNot, by decide +kernel, q1992, q1994, qs113, q136, rfl, rfl⟩, List.forall_mem_cons.mpr ⟨⟨okY_X7_laysDates, by decide +kernel, q1996, q1998, qs114, q136, rfl, rfl⟩, List.forall_mem_cons.mpr ⟨⟨okY_X7_allBy, by decide +kernel, q2031, q2033, qs116, q136, rfl, rfl⟩, List.forall_mem_cons.mpr ⟨⟨okY_X7_writtenBy, by decide +kernel, q2063, q2065, qs117, q136, rfl, rfl⟩, List.forall_mem_cons.mpr ⟨⟨okY_X7_lastOf, by decide +kernel, q2108, q2110, qs118, q136, rfl, rfl⟩, List.forall_mem_cons.mpr ⟨⟨okY_X7_areTwo, by decide +kernel, q2152, q2154, qs119, q136, rfl, rfl⟩, List.forall_mem_cons.mpr ⟨⟨okY_X7_getsBy, by decide +kernel, q2156, q2158, qs120, q136, rfl, rfl⟩, List.forall_mem_cons.mpr ⟨⟨okY_X7_isSoon, by decide +kernel, q2168, q2170, qs121, q136, rfl, rfl⟩, List.forall_mem_cons.mpr ⟨⟨okY_X7_weightOf, by decide +kernel, q2172, q2174, qs122, q136, rfl, rfl⟩, List.forall_mem_cons.mpr ⟨⟨okY_X7_draws, by decide +kernel, q2193, q2195, qs123, q136, rfl, rfl⟩, List.forall_mem_cons.mpr ⟨⟨okY_X7_does, by decide +kernel, q2209, q2211, qs124, q136, rfl, rfl⟩, fun _ h => absurd h List.not_mem_nil⟩⟩⟩⟩⟩⟩⟩⟩⟩⟩⟩⟩⟩⟩⟩⟩⟩⟩⟩⟩⟩⟩⟩⟩⟩⟩⟩⟩⟩⟩⟩⟩⟩⟩⟩⟩⟩⟩⟩⟩⟩⟩⟩⟩⟩⟩⟩⟩⟩⟩⟩⟩⟩⟩⟩⟩⟩⟩⟩⟩⟩⟩
theorem gx_vT_ok_8 : ∀ e ∈ gx_vT_8, gx_okV 8 e := List.forall_mem_cons.mpr ⟨⟨okY_X8_next, by decide +kernel, q480, q482, qs1, q137, rfl, rfl⟩, List.forall_mem_cons.mpr ⟨⟨okY_X8_isNext, by decide +kernel, q484, q486, qs2, q137, rfl, rfl⟩, List.forall_mem_cons.mpr ⟨⟨okY_J4_length, by decide +kernel, q544, q545, q546, q141, rfl, rfl⟩, List.forall_mem_cons.mpr ⟨⟨okY_J4_charAt, by decide +kernel, q554, q555, q556, q141, rfl, rfl⟩, List.forall_mem_cons.mpr ⟨⟨okY_X8_is, by decide +kernel, q540, q542, qs6, q137, rfl, rfl⟩, List.forall_mem_cons.mpr ⟨⟨okY_X8_takes, by decide +kernel, q536, q538, qs5, q137, rfl, rfl⟩, List.forall_mem_cons.mpr ⟨⟨okY_X8_wrong, by decide +kernel, q592, q594, qs7, q137, rfl, rfl⟩, List.forall_mem_cons.mpr ⟨⟨okY_X8_expects, by decide +kernel, q532, q534, qs4, q137, rfl, rfl⟩, List.forall_mem_cons.mpr ⟨⟨okY_X8_number, by decide +kernel, q685, q687, qs11, q137, rfl, rfl⟩, List.forall_mem_cons.mpr ⟨⟨okY_X8_told, by decide +kernel, q681, q683, qs10, q137, rfl, rfl⟩, List.forall_mem_cons.mpr ⟨⟨okY_X8_begins, by decide +kernel, q696, q698, qs13, q137, rfl, rfl⟩, List.forall_mem_cons.mpr ⟨⟨okY_X8_newInk, by decide +kernel, q700, q702, qs14, q137, rfl, rfl⟩, List.forall_mem_cons.mpr ⟨⟨okY_X8_newPage, by decide +kernel, q708, q710, qs15, q137, rfl, rfl⟩, List.forall_mem_cons.mpr ⟨⟨okY_X8_newEntry, by decide +kernel, q714, q716, qs16, q137, rfl, rfl⟩, List.forall_mem_cons.mpr ⟨⟨okY_X8_head, by decide +kernel, q527, q529, qs3, q137, rfl, rfl⟩, List.forall_mem_cons.mpr ⟨⟨okY_X8_line, by decide +kernel, q691, q693, qs12, q137, rfl, rfl⟩, fun _ h => absurd h List.not_mem_nil⟩⟩⟩⟩⟩⟩⟩⟩⟩⟩⟩⟩⟩⟩⟩⟩
theorem gx_vT_ok_10 : ∀ e ∈ gx_vT_10, gx_okV 10 e := List.forall_mem_cons.mpr ⟨⟨okY_X0_feed, by decide +kernel, q450, q451, q452, q126, rfl, rfl⟩, List.forall_mem_cons.mpr ⟨⟨okY_X7_feed, by decide +kernel, q1630, q1631, q1632, q136, rfl, rfl⟩, List.forall_mem_cons.mpr ⟨⟨okY_X0_end, by decide +kernel, q458, q459, q460, q126, rfl, rfl⟩, List.forall_mem_cons.mpr ⟨⟨okY_X7_end, by decide +kernel, q1638, q1639, q1640, q136, rfl, rfl⟩, List.forall_mem_cons.mpr ⟨⟨okY_X0_book, by decide +kernel, q465, q466, q467, q126, rfl, ⟨_, _, rfl⟩⟩, List.forall_mem_cons.mpr ⟨⟨okY_X7_book, by decide +kernel, q1646, q1647, q1648, q136, rfl, rfl⟩, List.forall_mem_cons.mpr ⟨⟨okY_X0_fault, by decide +kernel, q722, q723, q724, q126, rfl, rfl⟩, List.forall_mem_cons.mpr ⟨⟨okY_X7_fault, by decide +kernel, q1642, q1643, q1644, q136, rfl, rfl⟩, List.forall_mem_cons.mpr ⟨⟨okY_X0_ink, by decide +kernel, q726, q727, q728, q126, rfl, rfl⟩, List.forall_mem_cons.mpr ⟨⟨okY_X7_ink, by decide +kernel, q1757, q1758, q1759, q136, rfl, rfl⟩, List.forall_mem_cons.mpr ⟨⟨okY_X0_page, by decide +kernel, q737, q738, q739, q126, rfl, rfl⟩, List.forall_mem_cons.mpr ⟨⟨okY_X7_page, by decide +kernel, q1766, q1767, q1768, q136, rfl, rfl⟩, List.forall_mem_cons.mpr ⟨⟨okY_X0_entry, by decide +kernel, q745, q746, q747, q126, rfl, rfl⟩, List.forall_mem_cons.mpr ⟨⟨okY_X7_entry, by decide +kernel, q1774, q1775, q1776, q136, rfl, rfl⟩, List.forall_mem_cons.mpr ⟨⟨okY_X0_on, by decide +kernel, q757, q758, q759, q126, rfl, rfl⟩, List.forall_mem_cons.mpr ⟨⟨okY_X7_on, by decide +kernel, q1791, q1792, q1793, q136, rfl, rfl⟩, List.forall_mem_cons.mpr ⟨⟨okY_X0_faces, by decide +kernel, q765, q766, q767, q126, rfl, rfl⟩, List.forall_mem_cons.mpr ⟨⟨okY_X7_faces, by decide +kernel, q1795, q1796, q1797, q136, rfl, rfl⟩, List.forall_mem_cons.mpr ⟨⟨okY_X0_there, by decide +kernel, q773, q774, q775, q126, rfl, rfl⟩, List.forall_mem_cons.mpr ⟨⟨okY_X7_there, by decide +kernel, q1803, q1804, q1805, q136, rfl, rfl⟩, List.forall_mem_cons.mpr ⟨⟨okY_X0_shade, by decide +kernel, q869, q870, q871, q126, rfl, rfl⟩, List.forall_mem_cons.mpr ⟨⟨okY_X7_shade, by decide +kernel, q1834, q1835, q1836, q136, rfl, rfl⟩, List.forall_mem_cons.mpr ⟨⟨okY_X0_peak, by decide +kernel, q877, q878, q879, q126, rfl, rfl⟩, List.forall_mem_cons.mpr ⟨⟨okY_X7_peak, by decide +kernel, q1879, q1880, q1881, q136, rfl, rfl⟩, List.forall_mem_cons.mpr ⟨⟨okY_X0_ripe, by decide +kernel, q889, q890, q891, q126, rfl, rfl⟩, List.forall_mem_cons.mpr ⟨⟨okY_X7_ripe, by decide +kernel, q1887, q1888, q1889, q136, rfl, rfl⟩, List.forall_mem_cons.mpr ⟨⟨okY_X0_blank, by decide +kernel, q893, q894, q895, q126, rfl, rfl⟩, List.forall_mem_cons.mpr ⟨⟨okY_X7_blank, by decide +kernel, q1891, q1892, q1893, q136, rfl, rfl⟩, List.forall_mem_cons.mpr ⟨⟨okY_X0_clear, by decide +kernel, q897, q898, q899, q126, rfl, rfl⟩, List.forall_mem_cons.mpr ⟨⟨okY_X7_clear, by decide +kernel, q1895, q1896, q1897, q136, rfl, rfl⟩, List.forall_mem_cons.mpr ⟨⟨okY_X0_all, by decide +kernel, q905, q906, q907, q126, rfl, rfl⟩, List.forall_mem_cons.mpr ⟨⟨okY_X7_all, by decide +kernel, q1903, q1904, q1905, q136, rfl, rfl⟩, List.forall_mem_cons.mpr ⟨⟨okY_X0_darkest, by decide +kernel, q913, q914, q915, q126, rfl, rfl⟩, List.forall_mem_cons.mpr ⟨⟨okY_X7_darkest, by decide +kernel, q1911, q1912, q1913, q136, rfl, rfl⟩, List.forall_mem_cons.mpr ⟨⟨okY_X0_palest, by decide +kernel, q917, q918, q919, q126, rfl, rfl⟩, List.forall_mem_cons.mpr ⟨⟨okY_X7_palest, by decide +kernel, q1919, q1920, q1921, q136, rfl, rfl⟩, List.forall_mem_cons.mpr ⟨⟨okY_X0_sorts, by decide +kernel, q921, q922, q923, q126, rfl, rfl⟩, List.forall_mem_cons.mpr ⟨⟨okY_X7_sorts, by decide +kernel, q1923, q1924, q1925, q136, rfl, rfl⟩, List.forall_mem_cons.mpr ⟨⟨okY_X0_alike, by decide +kernel, q933, q934, q935, q126, rfl, rfl⟩, List.forall_mem_cons.mpr ⟨⟨okY_X7_alike, by decide +kernel, q1931, q1932, q1933, q136, rfl, rfl⟩, List.forall_mem_cons.mpr ⟨⟨okY_X0_rising, by decide +kernel, q937, q938, q939, q126, rfl, rfl⟩, List.forall_mem_cons.mpr ⟨⟨okY_X7_rising, by decide +kernel, q1935, q1936, q1937, q136, rfl, rfl⟩, List.forall_mem_cons.mpr ⟨⟨okY_X0_paling, by decide +kernel, q941, q942, q943, q126, rfl, rfl⟩, List.forall_mem_cons.mpr ⟨⟨okY_X7_paling, by decide +kernel, q1939, q1940, q1941, q136, rfl, rfl⟩, List.forall_mem_cons.mpr ⟨⟨okY_X0_cross, by decide +kernel, q945, q946, q947, q126, rfl, rfl⟩, List.forall_mem_cons.mpr ⟨⟨okY_X7_cross, by decide +kernel, q1943, q1944, q1945, q136, rfl, rfl⟩, List.forall_mem_cons.mpr ⟨⟨okY_X0_swaps, by decide +kernel, q949, q950, q951, q126, rfl, rfl⟩, List.forall_mem_cons.mpr ⟨⟨okY_X7_swaps, by decide +kernel, q1947, q1948, q1949, q136, rfl, rfl⟩, List.forall_mem_cons.mpr ⟨⟨okY_X0_put, by decide +kernel, q960, q961, q962, q126, rfl, rfl⟩, List.forall_mem_cons.mpr ⟨⟨okY_X7_put, by decide +kernel, q1955, q1956, q1957, q136, rfl, rfl⟩, List.forall_mem_cons.mpr ⟨⟨okY_X0_lies, by decide +kernel, q1041, q1042, q1043, q126, rfl, rfl⟩, List.forall_mem_cons.mpr ⟨⟨okY_X7_lies, by decide +kernel, q1959, q1960, q1961, q136, rfl, rfl⟩, List.forall_mem_cons.mpr ⟨⟨okY_X0_passes, by decide +kernel, q1045, q1046, q1047, q126, rfl, rfl⟩, List.forall_mem_cons.mpr ⟨⟨okY_X7_passes, by decide +kernel, q1963, q1964, q1965, q136, rfl, rfl⟩, List.forall_mem_cons.mpr ⟨⟨okY_X0_suspects, by decide +kernel, q1049, q1050, q1051, q126, rfl, rfl⟩, List.forall_mem_cons.mpr ⟨⟨okY_X7_suspects, by decide +kernel, q1975, q1976, q1977, q136, rfl, rfl⟩, List.forall_mem_cons.mpr ⟨⟨okY_X0_betrayed, by decide +kernel, q1053, q1054, q1055, q126, rfl, rfl⟩, List.forall_mem_cons.mpr ⟨⟨okY_X7_betrayed, by decide +kernel, q1979, q1980, q1981, q136, rfl, rfl⟩, List.forall_mem_cons.mpr ⟨⟨okY_X0_ages, by decide +kernel, q1057, q1058, q1059, q126, rfl, rfl⟩, List.forall_mem_cons.mpr ⟨⟨okY_X7_ages, by decide +kernel, q1983, q1984, q1985, q136, rfl, rfl⟩, List.forall_mem_cons.mpr ⟨⟨okY_X0_dates, by decide +kernel, q1062, q1063, q1064, q126, rfl, rfl⟩, List.forall_mem_cons.mpr ⟨⟨okY_X7_dates, by decide +kernel, q1988, q1989, q1990, q136, rfl, rfl⟩, List.forall_mem_cons.mpr ⟨⟨okY_X0_first, by decide +kernel, q1125, q1126, q1127, q126, rfl, rfl⟩, List.forall_mem_cons.mpr ⟨⟨okY_X7_first, by decide +kernel, q2007, q2008, q2009, q136, rfl, rfl⟩, List.forall_mem_cons.mpr ⟨⟨okY_X0_last, by decide +kernel, q1129, q1130, q1131, q126, rfl, rfl⟩, List.forall_mem_cons.mpr ⟨⟨okY_X7_last, by decide +kernel, q2011, q2012, q2013, q136, rfl, rfl⟩, List.forall_mem_cons.mpr ⟨⟨okY_X0_ask, by decide +kernel, q1133, q1134, q1135, q126, rfl, rfl⟩, List.forall_mem_cons.mpr ⟨⟨okY_X7_ask, by decide +kernel, q2015, q2016, q2017, q136, rfl, rfl⟩, List.forall_mem_cons.mpr ⟨⟨okY_X0_leaves, by decide +kernel, q1145, q1146, q1147, q126, rfl, rfl⟩, List.forall_mem_cons.mpr ⟨⟨okY_X7_leaves, by decide +kernel, q2019, q2020, q2021, q136, rfl, rfl⟩, List.forall_mem_cons.mpr ⟨⟨okY_X0_kinds, by decide +kernel, q1149, q1150, q1151, q126, rfl, rfl⟩, List.forall_mem_cons.mpr ⟨⟨okY_X7_kinds, by decide +kernel, q2023, q2024, q2025, q136, rfl, rfl⟩, List.forall_mem_cons.mpr ⟨⟨okY_X0_laws, by decide +kernel, q1153, q1154, q1155, q126, rfl, rfl⟩, List.forall_mem_cons.mpr ⟨⟨okY_X7_laws, by decide +kernel, q2027, q2028, q2029, q136, rfl, rfl⟩, List.forall_mem_cons.mpr ⟨⟨okY_X0_by, by decide +kernel, q1157, q1158, q1159, q126, rfl, rfl⟩, List.forall_mem_cons.mpr ⟨⟨okY_X7_by, by decide +kernel, q2035, q2036, q2037, q136, rfl, rfl⟩, List.forall_mem_cons.mpr ⟨⟨okY_X0_law, by decide +kernel, q1172, q1173, q1174, q126, rfl, rfl⟩, List.forall_mem_cons.mpr ⟨⟨okY_X7_law, by decide +kernel, q2039, q2040, q2041, q136, rfl, rfl⟩, List.forall_mem_cons.mpr ⟨⟨okY_X0_bold, by decide +kernel, q964, q965, q966, q126, rfl, rfl⟩, List.forall_mem_cons.mpr ⟨⟨okY_X7_bold, by decide +kernel, q2043, q2044, q2045, q136, rfl, rfl⟩, List.forall_mem_cons.mpr ⟨⟨okY_X0_sum, by decide +kernel, q968, q969, q970, q126, rfl, rfl⟩, List.forall_mem_cons.mpr ⟨⟨okY_X7_sum, by decide +kernel, q2047, q2048, q2049, q136, rfl, rfl⟩, List.forall_mem_cons.mpr ⟨⟨okY_X0_spread, by decide +kernel, q972, q973, q974, q126, rfl, rfl⟩, List.forall_mem_cons.mpr ⟨⟨okY_X7_spread, by decide +kernel, q2051, q2052, q2053, q136, rfl, rfl⟩, List.forall_mem_cons.mpr ⟨⟨okY_X0_uses, by decide +kernel, q976, q977, q978, q126, rfl, rfl⟩, List.forall_mem_cons.mpr ⟨⟨okY_X7_uses, by decide +kernel, q2055, q2056, q2057, q136, rfl, rfl⟩, List.forall_mem_cons.mpr ⟨⟨okY_X0_newest, by decide +kernel, q980, q981, q982, q126, rfl, rfl⟩, List.forall_mem_cons.mpr ⟨⟨okY_X7_newest, by decide +kernel, q2059, q2060, q2061, q136, rfl, rfl⟩, List.forall_mem_cons.mpr ⟨⟨okY_X0_oldest, by decide +kernel, q984, q985, q986, q126, rfl, rfl⟩, List.forall_mem_cons.mpr ⟨⟨okY_X7_oldest, by decide +kernel, q2067, q2068, q2069, q136, rfl, rfl⟩, List.forall_mem_cons.mpr ⟨⟨okY_X0_steady, by decide +kernel, q988, q989, q990, q126, rfl, rfl⟩, List.forall_mem_cons.mpr ⟨⟨okY_X7_steady, by decide +kernel, q2071, q2072, q2073, q136, rfl, rfl⟩, List.forall_mem_cons.mpr ⟨⟨okY_X0_falls, by decide +kernel, q992, q993, q994, q126, rfl, rfl⟩, List.forall_mem_cons.mpr ⟨⟨okY_X7_falls, by decide +kernel, q2075, q2076, q2077, q136, rfl, rfl⟩, List.forall_mem_cons.mpr ⟨⟨okY_X0_age, by decide +kernel, q996, q997, q998, q126, rfl, rfl⟩, List.forall_mem_cons.mpr ⟨⟨okY_X7_age, by decide +kernel, q2079, q2080, q2081, q136, rfl, rfl⟩, List.forall_mem_cons.mpr ⟨⟨okY_X0_honest, by decide +kernel, q1000, q1001, q1002, q126, rfl, rfl⟩, List.forall_mem_cons.mpr ⟨⟨okY_X7_honest, by decide +kernel, q2083, q2084, q2085, q136, rfl, rfl⟩, List.forall_mem_cons.mpr ⟨⟨okY_X0_peaks, by decide +kernel, q1012, q1013, q1014, q126, rfl, rfl⟩, List.forall_mem_cons.mpr ⟨⟨okY_X7_peaks, by decide +kernel, q2087, q2088, q2089, q136, rfl, rfl⟩, List.forall_mem_cons.mpr ⟨⟨okY_X0_lasts, by decide +kernel, q1016, q1017, q1018, q126, rfl, rfl⟩, List.forall_mem_cons.mpr ⟨⟨okY_X7_lasts, by decide +kernel, q2091, q2092, q2093, q136, rfl, rfl⟩, List.forall_mem_cons.mpr ⟨⟨okY_X0_order, by decide +kernel, q1020, q1021, q1022, q126, rfl, rfl⟩, List.forall_mem_cons.mpr ⟨⟨okY_X7_order, by decide +kernel, q2095, q2096, q2097, q136, rfl, rfl⟩, List.forall_mem_cons.mpr ⟨⟨okY_X0_match, by decide +kernel, q1024, q1025, q1026, q126, rfl, rfl⟩, List.forall_mem_cons.mpr ⟨⟨okY_X7_match, by decide +kernel, q2099, q2100, q2101, q136, rfl, rfl⟩, List.forall_mem_cons.mpr ⟨⟨okY_X0_later, by decide +kernel, q1028, q1029, q1030, q126, rfl, rfl⟩, List.forall_mem_cons.mpr ⟨⟨okY_X7_later, by decide +kernel, q2103, q2104, q2105, q136, rfl, rfl⟩, List.forall_mem_cons.mpr ⟨⟨okY_X0_other, by decide +kernel, q1037, q1038, q1039, q126, rfl, rfl⟩, List.forall_mem_cons.mpr ⟨⟨okY_X7_other, by decide +kernel, q2112, q2113, q2114, q136, rfl, rfl⟩, List.forall_mem_cons.mpr ⟨⟨okY_X0_hide, by decide +kernel, q1176, q1177, q1178, q126, rfl, rfl⟩, List.forall_mem_cons.mpr ⟨⟨okY_X7_hide, by decide +kernel, q2116, q2117, q2118, q136, rfl, rfl⟩, List.forall_mem_cons.mpr ⟨⟨okY_X0_save, by decide +kernel, q1180, q1181, q1182, q126, rfl, rfl⟩, List.forall_mem_cons.mpr ⟨⟨okY_X7_save, by decide +kernel, q2120, q2121, q2122, q136, rfl, rfl⟩, List.forall_mem_cons.mpr ⟨⟨okY_X0_heavy, by decide +kernel, q1184, q1185, q1186, q126, rfl, rfl⟩, List.forall_mem_cons.mpr ⟨⟨okY_X7_heavy, by decide +kernel, q2124, q2125, q2126, q136, rfl, rfl⟩, List.forall_mem_cons.mpr ⟨⟨okY_X0_worth, by decide +kernel, q1188, q1189, q1190, q126, rfl, rfl⟩, List.forall_mem_cons.mpr ⟨⟨okY_X7_worth, by decide +kernel, q2128, q2129, q2130, q136, rfl, rfl⟩, List.forall_mem_cons.mpr ⟨⟨okY_X0_share, by decide +kernel, q1192, q1193, q1194, q126, rfl, rfl⟩, List.forall_mem_cons.mpr ⟨⟨okY_X7_share, by decide +kernel, q2132, q2133, q2134, q136, rfl, rfl⟩, List.forall_mem_cons.mpr ⟨⟨okY_X0_rests, by decide +kernel, q1214, q1215, q1216, q126, rfl, rfl⟩, List.forall_mem_cons.mpr ⟨⟨okY_X7_rests, by decide +kernel, q2148, q2149, q2150, q136, rfl, rfl⟩, List.forall_mem_cons.mpr ⟨⟨okY_X0_gets, by decide +kernel, q1226, q1227, q1228, q126, rfl, rfl⟩, List.forall_mem_cons.mpr ⟨⟨okY_X7_gets, by decide +kernel, q2160, q2161, q2162, q136, rfl, rfl⟩, List.forall_mem_cons.mpr ⟨⟨okY_X0_chance, by decide +kernel, q1230, q1231, q1232, q126, rfl, rfl⟩, List.forall_mem_cons.mpr ⟨⟨okY_X7_chance, by decide +kernel, q2164, q2165, q2166, q136, rfl, rfl⟩, List.forall_mem_cons.mpr ⟨⟨okY_X0_mean, by decide +kernel, q1243, q1244, q1245, q126, rfl, rfl⟩, List.forall_mem_cons.mpr ⟨⟨okY_X7_mean, by decide +kernel, q2180, q2181, q2182, q136, rfl, rfl⟩, List.forall_mem_cons.mpr ⟨⟨okY_X0_retraces, by decide +kernel, q1269, q1270, q1271, q126, rfl, rfl⟩, List.forall_mem_cons.mpr ⟨⟨okY_X7_retraces, by decide +kernel, q2205, q2206, q2207, q136, rfl, rfl⟩, List.forall_mem_cons.mpr ⟨⟨okY_X0_bleaches, by decide +kernel, q1277, q1278, q1279, q126, rfl, rfl⟩, List.forall_mem_cons.mpr ⟨⟨okY_X7_bleaches, by decide +kernel, q2213, q2214, q2215, q136, rfl, rfl⟩, List.forall_mem_cons.mpr ⟨⟨okY_X0_undo, by decide +kernel, q1281, q1282, q1283, q126, rfl, rfl⟩, List.forall_mem_cons.mpr ⟨⟨okY_X7_undo, by decide +kernel, q2217, q2218, q2219, q136, rfl, rfl⟩, List.forall_mem_cons.mpr ⟨⟨okY_X0_anew, by decide +kernel, q1285, q1286, q1287, q126, rfl, rfl⟩, List.forall_mem_cons.mpr ⟨⟨okY_X7_anew, by decide +kernel, q2221, q2222, q2223, q136, rfl, rfl⟩, List.forall_mem_cons.mpr ⟨⟨okY_X0_drawn, by decide +kernel, q1248, q1249, q1250, q126, rfl, rfl⟩, List.forall_mem_cons.mpr ⟨⟨okY_X7_drawn, by decide +kernel, q2185, q2186, q2187, q136, rfl, rfl⟩, List.forall_mem_cons.mpr ⟨⟨okY_X0_luck, by decide +kernel, q1265, q1266, q1267, q126, rfl, rfl⟩, List.forall_mem_cons.mpr ⟨⟨okY_X7_luck, by decide +kernel, q2201, q2202, q2203, q136, rfl, rfl⟩, List.forall_mem_cons.mpr ⟨⟨okY_X0_rate, by decide +kernel, q1289, q1290, q1291, q126, rfl, rfl⟩, List.forall_mem_cons.mpr ⟨⟨okY_X7_rate, by decide +kernel, q2225, q2226, q2227, q136, rfl, rfl⟩, List.forall_mem_cons.mpr ⟨⟨okY_X0_count, by decide +kernel, q1293, q1294, q1295, q126, rfl, rfl⟩, List.forall_mem_cons.mpr ⟨⟨okY_X7_count, by decide +kernel, q2229, q2230, q2231, q136, rfl, rfl⟩, List.forall_mem_cons.mpr ⟨⟨okY_X0_image, by decide +kernel, q1297, q1298, q1299, q126, rfl, rfl⟩, List.forall_mem_cons.mpr ⟨⟨okY_X7_image, by decide +kernel, q2234, q2235, q2236, q136, rfl, rfl⟩, List.forall_mem_cons.mpr ⟨⟨okY_X0_back, by decide +kernel, q1382, q1383, q1384, q126, rfl, rfl⟩, List.forall_mem_cons.mpr ⟨⟨okY_X7_back, by decide +kernel, q2238, q2239, q2240, q136, rfl, rfl⟩, List.forall_mem_cons.mpr ⟨⟨okY_X0_row, by decide +kernel, q1394, q1395, q1396, q126, rfl, ⟨_, _, rfl⟩⟩, List.forall_mem_cons.mpr ⟨⟨okY_X7_row, by decide +kernel, q1608, q1609, q1610, q136, rfl, rfl⟩, List.forall_mem_cons.mpr ⟨⟨okY_X0_write, by decide +kernel, q1431, q1432, q1433, q126, rfl, ⟨_, _, rfl⟩⟩, List.forall_mem_cons.mpr ⟨⟨okY_X7_write, by decide +kernel, q1619, q1620, q1621, q136, rfl, rfl⟩, List.forall_mem_cons.mpr ⟨⟨okY_X0_paste, by decide +kernel, q1458, q1459, q1460, q126, rfl, ⟨_, _, rfl⟩⟩, List.forall_mem_cons.mpr ⟨⟨okY_X7_paste, by decide +kernel, q1626, q1627, q1628, q136, rfl, rfl⟩, fun _ h => absurd h List.not_mem_nil⟩⟩⟩⟩⟩⟩⟩⟩⟩⟩⟩⟩⟩⟩⟩⟩⟩⟩⟩⟩⟩⟩⟩⟩⟩⟩⟩⟩⟩⟩⟩⟩⟩⟩⟩⟩⟩⟩⟩⟩⟩⟩⟩⟩⟩⟩⟩⟩⟩⟩⟩⟩⟩⟩⟩⟩⟩⟩⟩⟩⟩⟩⟩⟩⟩⟩⟩⟩⟩⟩⟩⟩⟩⟩⟩⟩⟩⟩⟩⟩⟩⟩⟩⟩⟩⟩⟩⟩⟩⟩⟩⟩⟩⟩⟩⟩⟩⟩⟩⟩⟩⟩⟩⟩⟩⟩⟩⟩⟩⟩⟩⟩⟩⟩⟩⟩⟩⟩⟩⟩⟩⟩⟩⟩⟩⟩⟩⟩⟩⟩⟩⟩⟩⟩⟩⟩⟩⟩⟩⟩⟩⟩⟩⟩⟩⟩⟩⟩⟩⟩⟩⟩⟩⟩
theorem gx_vT_ok_11 : ∀ e ∈ gx_vT_11, gx_okV 11 e := List.forall_mem_cons.mpr ⟨⟨okY_J2_grow_2, by decide +kernel, q1318, q1320, qs62, q135, rfl, rfl⟩, List.forall_mem_cons.mpr ⟨⟨okY_J2_elementData, by decide +kernel, q1378, q1379, q1380, q135, rfl, rfl⟩, List.forall_mem_cons.mpr ⟨⟨okY_J2_grow, by decide +kernel, q1314, q1316, qs61, q135, rfl, rfl⟩, List.forall_mem_cons.mpr ⟨⟨okY_J2_add_2, by decide +kernel, q1310, q1312, qs60, q135, rfl, rfl⟩, fun _ h => absurd h List.not_mem_nil⟩⟩⟩⟩
theorem gx_vT_ok_14 : ∀ e ∈ gx_vT_14, gx_okV 14 e := List.forall_mem_cons.mpr ⟨⟨okY_J4_coder, by decide +kernel, q548, q549, q550, q141, rfl, rfl⟩, List.forall_mem_cons.mpr ⟨⟨okY_J4_isLatin1, by decide +kernel, q558, q559, q560, q141, rfl, rfl⟩, fun _ h => absurd h List.not_mem_nil⟩⟩
theorem gx_vT_ok (k : Nat) : ∀ e ∈ gx_vT k, gx_okV k e := by
  match k with
  | 0 => exact gx_vT_ok_0
  | 4 => exact gx_vT_ok_4
  | 7 => exact gx_vT_ok_7
  | 8 => exact gx_vT_ok_8
  | 10 => exact gx_vT_ok_10
  | 11 => exact gx_vT_ok_11
  | 14 => exact gx_vT_ok_14
  | 1 => exact fun _ h => absurd h List.not_mem_nil
  | 2 => exact fun _ h => absurd h List.not_mem_nil
  | 3 => exact fun _ h => absurd h List.not_mem_nil
  | 5 => exact fun _ h => absurd h List.not_mem_nil
  | 6 => exact fun _ h => absurd h List.not_mem_nil
  | 9 => exact fun _ h => absurd h List.not_mem_nil
  | 12 => exact fun _ h => absurd h List.not_mem_nil
  | 13 => exact fun _ h => absurd h List.not_mem_nil
  | n + 15 => exact fun _ h => absurd h List.not_mem_nil
def gx_bT_0 : List (Nat × Nat) := [(1, 5), (193, 4), (221, 1), (234, 2), (376, 3)]
def gx_bT_1 : List (Nat × Nat) := [(3, 5), (65, 4)]
def gx_bT_2 : List (Nat × Nat) := [(9, 5)]
def gx_bT_3 : List (Nat × Nat) := []
def gx_bT_4 : List (Nat × Nat) := []
def gx_bT_5 : List (Nat × Nat) := []
def gx_bT_6 : List (Nat × Nat) := [(1, 5)]
def gx_bT_7 : List (Nat × Nat) := [(1, 5)]
def gx_bT_8 : List (Nat × Nat) := [(9, 5), (66, 1)]
def gx_bT_9 : List (Nat × Nat) := []
def gx_bT_10 : List (Nat × Nat) := []
def gx_bT_11 : List (Nat × Nat) := [(79, 2)]
def gx_bT_12 : List (Nat × Nat) := []
def gx_bT_13 : List (Nat × Nat) := [(1, 5)]
def gx_bT_14 : List (Nat × Nat) := []
def gx_bT_15 : List (Nat × Nat) := []
def gx_bT_16 : List (Nat × Nat) := []
def gx_bT_17 : List (Nat × Nat) := [(1, 5)]
def gx_bT_18 : List (Nat × Nat) := []
def gx_bT_19 : List (Nat × Nat) := []
def gx_bT_20 : List (Nat × Nat) := []
def gx_bT (k : Nat) : List (Nat × Nat) := match k with
  | 0 => gx_bT_0
  | 1 => gx_bT_1
  | 2 => gx_bT_2
  | 6 => gx_bT_6
  | 7 => gx_bT_7
  | 8 => gx_bT_8
  | 11 => gx_bT_11
  | 13 => gx_bT_13
  | 17 => gx_bT_17
  | _ => []
def gx_bname (b : Nat) : MethodName := match b with
  | 1 => Lib.Math.min.name
  | 2 => Lib.Math.max.name
  | 3 => Lib.MathLoose.abs_long.x
  | 4 => arraycopyName
  | _ => Lib.objectInit
def gx_okB (oc : Nat) (e : Nat × Nat) : Prop := Cond.methodLink (gx_cname oc) e.1 (gx_bname e.2) ∈ lw_all
theorem gx_bT_ok_0 : ∀ e ∈ gx_bT_0, gx_okB 0 e := List.forall_mem_cons.mpr ⟨q164, List.forall_mem_cons.mpr ⟨q789, List.forall_mem_cons.mpr ⟨q807, List.forall_mem_cons.mpr ⟨q828, List.forall_mem_cons.mpr ⟨q1211, fun _ h => absurd h List.not_mem_nil⟩⟩⟩⟩⟩
theorem gx_bT_ok_1 : ∀ e ∈ gx_bT_1, gx_okB 1 e := List.forall_mem_cons.mpr ⟨q172, List.forall_mem_cons.mpr ⟨q1369, fun _ h => absurd h List.not_mem_nil⟩⟩
theorem gx_bT_ok_2 : ∀ e ∈ gx_bT_2, gx_okB 2 e := List.forall_mem_cons.mpr ⟨q266, fun _ h => absurd h List.not_mem_nil⟩
theorem gx_bT_ok_6 : ∀ e ∈ gx_bT_6, gx_okB 6 e := List.forall_mem_cons.mpr ⟨q312, fun _ h => absurd h List.not_mem_nil⟩
theorem gx_bT_ok_7 : ∀ e ∈ gx_bT_7, gx_okB 7 e := List.forall_mem_cons.mpr ⟨q1482, fun _ h => absurd h List.not_mem_nil⟩
theorem gx_bT_ok_8 : ∀ e ∈ gx_bT_8, gx_okB 8 e := List.forall_mem_cons.mpr ⟨q475, List.forall_mem_cons.mpr ⟨q492, fun _ h => absurd h List.not_mem_nil⟩⟩
theorem gx_bT_ok_11 : ∀ e ∈ gx_bT_11, gx_okB 11 e := List.forall_mem_cons.mpr ⟨q1361, fun _ h => absurd h List.not_mem_nil⟩
theorem gx_bT_ok_13 : ∀ e ∈ gx_bT_13, gx_okB 13 e := List.forall_mem_cons.mpr ⟨q329, fun _ h => absurd h List.not_mem_nil⟩
theorem gx_bT_ok_17 : ∀ e ∈ gx_bT_17, gx_okB 17 e := List.forall_mem_cons.mpr ⟨q619, fun _ h => absurd h List.not_mem_nil⟩
theorem gx_bT_ok (k : Nat) : ∀ e ∈ gx_bT k, gx_okB k e := by
  match k with
  | 0 => exact gx_bT_ok_0
  | 1 => exact gx_bT_ok_1
  | 2 => exact gx_bT_ok_2
  | 6 => exact gx_bT_ok_6
  | 7 => exact gx_bT_ok_7
  | 8 => exact gx_bT_ok_8
  | 11 => exact gx_bT_ok_11
  | 13 => exact gx_bT_ok_13
  | 17 => exact gx_bT_ok_17
  | 3 => exact fun _ h => absurd h List.not_mem_nil
  | 4 => exact fun _ h => absurd h List.not_mem_nil
  | 5 => exact fun _ h => absurd h List.not_mem_nil
  | 9 => exact fun _ h => absurd h List.not_mem_nil
  | 10 => exact fun _ h => absurd h List.not_mem_nil
  | 12 => exact fun _ h => absurd h List.not_mem_nil
  | 14 => exact fun _ h => absurd h List.not_mem_nil
  | 15 => exact fun _ h => absurd h List.not_mem_nil
  | 16 => exact fun _ h => absurd h List.not_mem_nil
  | n + 18 => exact fun _ h => absurd h List.not_mem_nil
/-- a class's name by its tag, arrays too -/
def gx_tname (t : Nat) : String := match t with
  | 32 => "[I"
  | 33 => "[B"
  | 34 => "[Z"
  | 35 => "[S"
  | 36 => "[J"
  | 37 => "[LGallRegister$Fading;"
  | 38 => "[LGallRegister$Slot;"
  | 39 => "[Ljava/lang/Object;"
  | t => gx_rname t
def gx_aty (t : Nat) : FieldType := match t with
  | 32 => .int
  | 33 => .byte
  | 34 => .boolean
  | 35 => .short
  | 36 => .long
  | 37 => .object "GallRegister$Fading"
  | 38 => .object "GallRegister$Slot"
  | _ => .object "java/lang/Object"
def gx_nT_0 : List (Nat × Nat) := [(7, 1), (40, 2), (49, 3), (52, 4), (55, 5), (74, 6), (81, 10), (99, 8)]
def gx_nT_1 : List (Nat × Nat) := [(10, 1)]
def gx_nT_2 : List (Nat × Nat) := []
def gx_nT_3 : List (Nat × Nat) := []
def gx_nT_4 : List (Nat × Nat) := []
def gx_nT_5 : List (Nat × Nat) := []
def gx_nT_6 : List (Nat × Nat) := []
def gx_nT_7 : List (Nat × Nat) := []
def gx_nT_8 : List (Nat × Nat) := [(22, 1), (81, 9)]
def gx_nT_9 : List (Nat × Nat) := []
def gx_nT_10 : List (Nat × Nat) := [(7, 0), (10, 7)]
def gx_nT_11 : List (Nat × Nat) := []
def gx_nT_12 : List (Nat × Nat) := []
def gx_nT_13 : List (Nat × Nat) := []
def gx_nT_14 : List (Nat × Nat) := []
def gx_nT_15 : List (Nat × Nat) := []
def gx_nT_16 : List (Nat × Nat) := []
def gx_nT_17 : List (Nat × Nat) := []
def gx_nT_18 : List (Nat × Nat) := []
def gx_nT_19 : List (Nat × Nat) := []
def gx_nT_20 : List (Nat × Nat) := []
def gx_nT (k : Nat) : List (Nat × Nat) := match k with
  | 0 => gx_nT_0
  | 1 => gx_nT_1
  | 8 => gx_nT_8
  | 10 => gx_nT_10
  | _ => []
def gx_okN (oc : Nat) (e : Nat × Nat) : Prop := Cond.classLink (gx_cname oc) e.1 (gx_rname e.2) ∈ lw_all ∧ Cond.instantiable (gx_rname e.2) (gx_N e.2) ∈ lw_all ∧ Cond.initialized (gx_rname e.2) ∈ lw_all ∧ e.2 < 11
theorem gx_nT_ok_0 : ∀ e ∈ gx_nT_0, gx_okN 0 e := List.forall_mem_cons.mpr ⟨⟨q167, q168, q127, by decide⟩, List.forall_mem_cons.mpr ⟨⟨q261, q262, q128, by decide⟩, List.forall_mem_cons.mpr ⟨⟨q273, q274, q129, by decide⟩, List.forall_mem_cons.mpr ⟨⟨q284, q285, q130, by decide⟩, List.forall_mem_cons.mpr ⟨⟨q295, q296, q131, by decide⟩, List.forall_mem_cons.mpr ⟨⟨q306, q308, q132, by decide⟩, List.forall_mem_cons.mpr ⟨⟨q318, q319, q135, by decide⟩, List.forall_mem_cons.mpr ⟨⟨q470, q471, q137, by decide⟩, fun _ h => absurd h List.not_mem_nil⟩⟩⟩⟩⟩⟩⟩⟩
theorem gx_nT_ok_1 : ∀ e ∈ gx_nT_1, gx_okN 1 e := List.forall_mem_cons.mpr ⟨⟨q1367, q168, q127, by decide⟩, fun _ h => absurd h List.not_mem_nil⟩
theorem gx_nT_ok_8 : ∀ e ∈ gx_nT_8, gx_okN 8 e := List.forall_mem_cons.mpr ⟨⟨q476, q168, q127, by decide⟩, List.forall_mem_cons.mpr ⟨⟨q596, q597, q147, by decide⟩, fun _ h => absurd h List.not_mem_nil⟩⟩
theorem gx_nT_ok_10 : ∀ e ∈ gx_nT_10, gx_okN 10 e := List.forall_mem_cons.mpr ⟨⟨q159, q160, q126, by decide⟩, List.forall_mem_cons.mpr ⟨⟨q1477, q1478, q136, by decide⟩, fun _ h => absurd h List.not_mem_nil⟩⟩
theorem gx_nT_ok (k : Nat) : ∀ e ∈ gx_nT k, gx_okN k e := by
  match k with
  | 0 => exact gx_nT_ok_0
  | 1 => exact gx_nT_ok_1
  | 8 => exact gx_nT_ok_8
  | 10 => exact gx_nT_ok_10
  | 2 => exact fun _ h => absurd h List.not_mem_nil
  | 3 => exact fun _ h => absurd h List.not_mem_nil
  | 4 => exact fun _ h => absurd h List.not_mem_nil
  | 5 => exact fun _ h => absurd h List.not_mem_nil
  | 6 => exact fun _ h => absurd h List.not_mem_nil
  | 7 => exact fun _ h => absurd h List.not_mem_nil
  | 9 => exact fun _ h => absurd h List.not_mem_nil
  | n + 11 => exact fun _ h => absurd h List.not_mem_nil
def gx_aT_0 : List (Nat × Nat) := [(40, 37), (74, 38)]
def gx_aT_1 : List (Nat × Nat) := []
def gx_aT_2 : List (Nat × Nat) := []
def gx_aT_3 : List (Nat × Nat) := []
def gx_aT_4 : List (Nat × Nat) := []
def gx_aT_5 : List (Nat × Nat) := []
def gx_aT_6 : List (Nat × Nat) := []
def gx_aT_7 : List (Nat × Nat) := []
def gx_aT_8 : List (Nat × Nat) := []
def gx_aT_9 : List (Nat × Nat) := []
def gx_aT_10 : List (Nat × Nat) := []
def gx_aT_11 : List (Nat × Nat) := [(7, 39)]
def gx_aT_12 : List (Nat × Nat) := []
def gx_aT_13 : List (Nat × Nat) := []
def gx_aT_14 : List (Nat × Nat) := []
def gx_aT_15 : List (Nat × Nat) := []
def gx_aT_16 : List (Nat × Nat) := []
def gx_aT_17 : List (Nat × Nat) := []
def gx_aT_18 : List (Nat × Nat) := []
def gx_aT_19 : List (Nat × Nat) := []
def gx_aT_20 : List (Nat × Nat) := []
def gx_aT (k : Nat) : List (Nat × Nat) := match k with
  | 0 => gx_aT_0
  | 11 => gx_aT_11
  | _ => []
def gx_okA (oc : Nat) (e : Nat × Nat) : Prop := ∃ C : String, Cond.classLink (gx_cname oc) e.1 C ∈ lw_all ∧ gx_aty e.2 = .object C ∧ (37 ≤ e.2 ∧ e.2 ≤ 39)
theorem gx_aT_ok_0 : ∀ e ∈ gx_aT_0, gx_okA 0 e := List.forall_mem_cons.mpr ⟨⟨"GallRegister$Fading", q261, rfl, by decide⟩, List.forall_mem_cons.mpr ⟨⟨"GallRegister$Slot", q306, rfl, by decide⟩, fun _ h => absurd h List.not_mem_nil⟩⟩
theorem gx_aT_ok_11 : ∀ e ∈ gx_aT_11, gx_okA 11 e := List.forall_mem_cons.mpr ⟨⟨"java/lang/Object", q1362, rfl, by decide⟩, fun _ h => absurd h List.not_mem_nil⟩
theorem gx_aT_ok (k : Nat) : ∀ e ∈ gx_aT k, gx_okA k e := by
  match k with
  | 0 => exact gx_aT_ok_0
  | 11 => exact gx_aT_ok_11
  | 1 => exact fun _ h => absurd h List.not_mem_nil
  | 2 => exact fun _ h => absurd h List.not_mem_nil
  | 3 => exact fun _ h => absurd h List.not_mem_nil
  | 4 => exact fun _ h => absurd h List.not_mem_nil
  | 5 => exact fun _ h => absurd h List.not_mem_nil
  | 6 => exact fun _ h => absurd h List.not_mem_nil
  | 7 => exact fun _ h => absurd h List.not_mem_nil
  | 8 => exact fun _ h => absurd h List.not_mem_nil
  | 9 => exact fun _ h => absurd h List.not_mem_nil
  | 10 => exact fun _ h => absurd h List.not_mem_nil
  | n + 12 => exact fun _ h => absurd h List.not_mem_nil
def gx_cT_0 : List (Nat × Nat) := [(7, 1)]
def gx_cT_1 : List (Nat × Nat) := []
def gx_cT_2 : List (Nat × Nat) := []
def gx_cT_3 : List (Nat × Nat) := []
def gx_cT_4 : List (Nat × Nat) := []
def gx_cT_5 : List (Nat × Nat) := []
def gx_cT_6 : List (Nat × Nat) := [(13, 33), (15, 35), (17, 32), (19, 36)]
def gx_cT_7 : List (Nat × Nat) := []
def gx_cT_8 : List (Nat × Nat) := []
def gx_cT_9 : List (Nat × Nat) := []
def gx_cT_10 : List (Nat × Nat) := []
def gx_cT_11 : List (Nat × Nat) := []
def gx_cT_12 : List (Nat × Nat) := []
def gx_cT_13 : List (Nat × Nat) := []
def gx_cT_14 : List (Nat × Nat) := []
def gx_cT_15 : List (Nat × Nat) := []
def gx_cT_16 : List (Nat × Nat) := []
def gx_cT_17 : List (Nat × Nat) := []
def gx_cT_18 : List (Nat × Nat) := []
def gx_cT_19 : List (Nat × Nat) := []
def gx_cT_20 : List (Nat × Nat) := []
def gx_cT (k : Nat) : List (Nat × Nat) := match k with
  | 0 => gx_cT_0
  | 6 => gx_cT_6
  | _ => []
def gx_okC (oc : Nat) (e : Nat × Nat) : Prop := Cond.classLink (gx_cname oc) e.1 (gx_tname e.2) ∈ lw_all
theorem gx_cT_ok_0 : ∀ e ∈ gx_cT_0, gx_okC 0 e := List.forall_mem_cons.mpr ⟨q167, fun _ h => absurd h List.not_mem_nil⟩
theorem gx_cT_ok_6 : ∀ e ∈ gx_cT_6, gx_okC 6 e := List.forall_mem_cons.mpr ⟨q1109, List.forall_mem_cons.mpr ⟨q1110, List.forall_mem_cons.mpr ⟨q1111, List.forall_mem_cons.mpr ⟨q1112, fun _ h => absurd h List.not_mem_nil⟩⟩⟩⟩
theorem gx_cT_ok (k : Nat) : ∀ e ∈ gx_cT k, gx_okC k e := by
  match k with
  | 0 => exact gx_cT_ok_0
  | 6 => exact gx_cT_ok_6
  | 1 => exact fun _ h => absurd h List.not_mem_nil
  | 2 => exact fun _ h => absurd h List.not_mem_nil
  | 3 => exact fun _ h => absurd h List.not_mem_nil
  | 4 => exact fun _ h => absurd h List.not_mem_nil
  | 5 => exact fun _ h => absurd h List.not_mem_nil
  | n + 7 => exact fun _ h => absurd h List.not_mem_nil
/-- pairs of classes, the first not castable to the second -/
def gx_ncs : List (String × String) := [("[I", "[B"), ("[S", "[B"), ("[J", "[B"), ("[I", "[S"), ("[B", "[S"), ("[J", "[S"), ("[B", "[I"), ("[S", "[I"), ("[J", "[I"), ("java/lang/NullPointerException", "GallRegister$Fault"), ("java/lang/NegativeArraySizeException", "GallRegister$Fault"), ("java/lang/ArrayIndexOutOfBoundsException", "GallRegister$Fault"), ("java/lang/ArrayStoreException", "GallRegister$Fault"), ("GallRegister$Fault", "java/lang/NullPointerException"), ("java/lang/NegativeArraySizeException", "java/lang/NullPointerException"), ("java/lang/ArrayIndexOutOfBoundsException", "java/lang/NullPointerException"), ("java/lang/ArrayStoreException", "java/lang/NullPointerException"), ("GallRegister$Fault", "java/lang/NegativeArraySizeException"), ("java/lang/NullPointerException", "java/lang/NegativeArraySizeException"), ("java/lang/ArrayIndexOutOfBoundsException", "java/lang/NegativeArraySizeException"), ("java/lang/ArrayStoreException", "java/lang/NegativeArraySizeException"), ("GallRegister$Fault", "java/lang/ArrayIndexOutOfBoundsException"), ("java/lang/NullPointerException", "java/lang/ArrayIndexOutOfBoundsException"), ("java/lang/NegativeArraySizeException", "java/lang/ArrayIndexOutOfBoundsException"), ("java/lang/ArrayStoreException", "java/lang/ArrayIndexOutOfBoundsException"), ("GallRegister$Fault", "java/lang/ArrayStoreException"), ("java/lang/NullPointerException", "java/lang/ArrayStoreException"), ("java/lang/NegativeArraySizeException", "java/lang/ArrayStoreException"), ("java/lang/ArrayIndexOutOfBoundsException", "java/lang/ArrayStoreException"), ("GallRegister$Fault", "java/lang/IndexOutOfBoundsException"), ("java/lang/NullPointerException", "java/lang/IndexOutOfBoundsException"), ("java/lang/NegativeArraySizeException", "java/lang/IndexOutOfBoundsException"), ("java/lang/ArrayStoreException", "java/lang/IndexOutOfBoundsException")]
def gx_iT_0 : List (Nat × Nat × Nat) := []
def gx_iT_1 : List (Nat × Nat × Nat) := []
def gx_iT_2 : List (Nat × Nat × Nat) := []
def gx_iT_3 : List (Nat × Nat × Nat) := []
def gx_iT_4 : List (Nat × Nat × Nat) := []
def gx_iT_5 : List (Nat × Nat × Nat) := []
def gx_iT_6 : List (Nat × Nat × Nat) := [(13, 32, 0), (13, 33, 1), (13, 35, 0), (13, 36, 0), (15, 32, 0), (15, 33, 0), (15, 35, 1), (15, 36, 0), (17, 32, 1), (17, 33, 0), (17, 35, 0), (17, 36, 0)]
def gx_iT_7 : List (Nat × Nat × Nat) := []
def gx_iT_8 : List (Nat × Nat × Nat) := []
def gx_iT_9 : List (Nat × Nat × Nat) := []
def gx_iT_10 : List (Nat × Nat × Nat) := []
def gx_iT_11 : List (Nat × Nat × Nat) := []
def gx_iT_12 : List (Nat × Nat × Nat) := []
def gx_iT_13 : List (Nat × Nat × Nat) := []
def gx_iT_14 : List (Nat × Nat × Nat) := []
def gx_iT_15 : List (Nat × Nat × Nat) := []
def gx_iT_16 : List (Nat × Nat × Nat) := []
def gx_iT_17 : List (Nat × Nat × Nat) := []
def gx_iT_18 : List (Nat × Nat × Nat) := []
def gx_iT_19 : List (Nat × Nat × Nat) := []
def gx_iT_20 : List (Nat × Nat × Nat) := []
def gx_iT (k : Nat) : List (Nat × Nat × Nat) := match k with
  | 6 => gx_iT_6
  | _ => []
def gx_okI (oc : Nat) (e : Nat × Nat × Nat) : Prop := match e.2.2 with
  | 0 => ∃ C : String, Cond.classLink (gx_cname oc) e.1 C ∈ lw_all ∧ (gx_tname e.2.1, C) ∈ gx_ncs
  | _ => Cond.classLink (gx_cname oc) e.1 (gx_tname e.2.1) ∈ lw_all ∧ decide (32 ≤ e.2.1 ∧ e.2.1 ≤ 36) = true
theorem gx_iT_ok_6 : ∀ e ∈ gx_iT_6, gx_okI 6 e := List.forall_mem_cons.mpr ⟨⟨"[B", q1109, List.mem_of_getElem? (i := 0) rfl⟩, List.forall_mem_cons.mpr ⟨⟨q1109, rfl⟩, List.forall_mem_cons.mpr ⟨⟨"[B", q1109, List.mem_of_getElem? (i := 1) rfl⟩, List.forall_mem_cons.mpr ⟨⟨"[B", q1109, List.mem_of_getElem? (i := 2) rfl⟩, List.forall_mem_cons.mpr ⟨⟨"[S", q1110, List.mem_of_getElem? (i := 3) rfl⟩, List.forall_mem_cons.mpr ⟨⟨"[S", q1110, List.mem_of_getElem? (i := 4) rfl⟩, List.forall_mem_cons.mpr ⟨⟨q1110, rfl⟩, List.forall_mem_cons.mpr ⟨⟨"[S", q1110, List.mem_of_getElem? (i := 5) rfl⟩, List.forall_mem_cons.mpr ⟨⟨q1111, rfl⟩, List.forall_mem_cons.mpr ⟨⟨"[I", q1111, List.mem_of_getElem? (i := 6) rfl⟩, List.forall_mem_cons.mpr ⟨⟨"[I", q1111, List.mem_of_getElem? (i := 7) rfl⟩, List.forall_mem_cons.mpr ⟨⟨"[I", q1111, List.mem_of_getElem? (i := 8) rfl⟩, fun _ h => absurd h List.not_mem_nil⟩⟩⟩⟩⟩⟩⟩⟩⟩⟩⟩⟩
theorem gx_iT_ok (k : Nat) : ∀ e ∈ gx_iT k, gx_okI k e := by
  match k with
  | 6 => exact gx_iT_ok_6
  | 0 => exact fun _ h => absurd h List.not_mem_nil
  | 1 => exact fun _ h => absurd h List.not_mem_nil
  | 2 => exact fun _ h => absurd h List.not_mem_nil
  | 3 => exact fun _ h => absurd h List.not_mem_nil
  | 4 => exact fun _ h => absurd h List.not_mem_nil
  | 5 => exact fun _ h => absurd h List.not_mem_nil
  | n + 7 => exact fun _ h => absurd h List.not_mem_nil
def gx_hT_0 : List (Nat × Nat × Nat) := [(112, 9, 1), (112, 11, 0), (112, 12, 0), (112, 13, 0), (112, 14, 0), (341, 9, 0), (341, 11, 1), (341, 12, 0), (341, 13, 0), (341, 14, 0), (472, 9, 0), (472, 11, 0), (472, 12, 1), (472, 13, 0), (472, 14, 0), (478, 9, 0), (478, 11, 0), (478, 12, 0), (478, 13, 1), (478, 14, 0), (480, 9, 0), (480, 11, 0), (480, 12, 0), (480, 13, 0), (480, 14, 1), (482, 9, 0), (482, 11, 0), (482, 12, 0), (482, 13, 1), (482, 14, 0)]
def gx_hT_1 : List (Nat × Nat × Nat) := []
def gx_hT_2 : List (Nat × Nat × Nat) := []
def gx_hT_3 : List (Nat × Nat × Nat) := []
def gx_hT_4 : List (Nat × Nat × Nat) := []
def gx_hT_5 : List (Nat × Nat × Nat) := []
def gx_hT_6 : List (Nat × Nat × Nat) := []
def gx_hT_7 : List (Nat × Nat × Nat) := []
def gx_hT_8 : List (Nat × Nat × Nat) := []
def gx_hT_9 : List (Nat × Nat × Nat) := []
def gx_hT_10 : List (Nat × Nat × Nat) := []
def gx_hT_11 : List (Nat × Nat × Nat) := []
def gx_hT_12 : List (Nat × Nat × Nat) := []
def gx_hT_13 : List (Nat × Nat × Nat) := []
def gx_hT_14 : List (Nat × Nat × Nat) := []
def gx_hT_15 : List (Nat × Nat × Nat) := []
def gx_hT_16 : List (Nat × Nat × Nat) := []
def gx_hT_17 : List (Nat × Nat × Nat) := []
def gx_hT_18 : List (Nat × Nat × Nat) := []
def gx_hT_19 : List (Nat × Nat × Nat) := []
def gx_hT_20 : List (Nat × Nat × Nat) := []
def gx_hT (k : Nat) : List (Nat × Nat × Nat) := match k with
  | 0 => gx_hT_0
  | _ => []
def gx_okH (oc : Nat) (e : Nat × Nat × Nat) : Prop := match e.2.2 with
  | 0 => ∃ C : String, Cond.classLink (gx_cname oc) e.1 C ∈ lw_all ∧ (gx_rname e.2.1, C) ∈ gx_ncs
  | _ => ∃ C : String, Cond.classLink (gx_cname oc) e.1 C ∈ lw_all ∧ Cond.castable (gx_rname e.2.1) C ∈ gx_nest
theorem gx_hT_ok_0 : ∀ e ∈ gx_hT_0, gx_okH 0 e := List.forall_mem_cons.mpr ⟨⟨"GallRegister$Fault", q469, (List.mem_of_getElem? (i := 62) rfl)⟩, List.forall_mem_cons.mpr ⟨⟨"GallRegister$Fault", q469, List.mem_of_getElem? (i := 9) rfl⟩, List.forall_mem_cons.mpr ⟨⟨"GallRegister$Fault", q469, List.mem_of_getElem? (i := 10) rfl⟩, List.forall_mem_cons.mpr ⟨⟨"GallRegister$Fault", q469, List.mem_of_getElem? (i := 11) rfl⟩, List.forall_mem_cons.mpr ⟨⟨"GallRegister$Fault", q469, List.mem_of_getElem? (i := 12) rfl⟩, List.forall_mem_cons.mpr ⟨⟨"java/lang/NullPointerException", q1074, List.mem_of_getElem? (i := 13) rfl⟩, List.forall_mem_cons.mpr ⟨⟨"java/lang/NullPointerException", q1074, (List.mem_of_getElem? (i := 63) rfl)⟩, List.forall_mem_cons.mpr ⟨⟨"java/lang/NullPointerException", q1074, List.mem_of_getElem? (i := 14) rfl⟩, List.forall_mem_cons.mpr ⟨⟨"java/lang/NullPointerException", q1074, List.mem_of_getElem? (i := 15) rfl⟩, List.forall_mem_cons.mpr ⟨⟨"java/lang/NullPointerException", q1074, List.mem_of_getElem? (i := 16) rfl⟩, List.forall_mem_cons.mpr ⟨⟨"java/lang/NegativeArraySizeException", q1398, List.mem_of_getElem? (i := 17) rfl⟩, List.forall_mem_cons.mpr ⟨⟨"java/lang/NegativeArraySizeException", q1398, List.mem_of_getElem? (i := 18) rfl⟩, List.forall_mem_cons.mpr ⟨⟨"java/lang/NegativeArraySizeException", q1398, (List.mem_of_getElem? (i := 65) rfl)⟩, List.forall_mem_cons.mpr ⟨⟨"java/lang/NegativeArraySizeException", q1398, List.mem_of_getElem? (i := 19) rfl⟩, List.forall_mem_cons.mpr ⟨⟨"java/lang/NegativeArraySizeException", q1398, List.mem_of_getElem? (i := 20) rfl⟩, List.forall_mem_cons.mpr ⟨⟨"java/lang/ArrayIndexOutOfBoundsException", q1435, List.mem_of_getElem? (i := 21) rfl⟩, List.forall_mem_cons.mpr ⟨⟨"java/lang/ArrayIndexOutOfBoundsException", q1435, List.mem_of_getElem? (i := 22) rfl⟩, List.forall_mem_cons.mpr ⟨⟨"java/lang/ArrayIndexOutOfBoundsException", q1435, List.mem_of_getElem? (i := 23) rfl⟩, List.forall_mem_cons.mpr ⟨⟨"java/lang/ArrayIndexOutOfBoundsException", q1435, (List.mem_of_getElem? (i := 66) rfl)⟩, List.forall_mem_cons.mpr ⟨⟨"java/lang/ArrayIndexOutOfBoundsException", q1435, List.mem_of_getElem? (i := 24) rfl⟩, List.forall_mem_cons.mpr ⟨⟨"java/lang/ArrayStoreException", q1462, List.mem_of_getElem? (i := 25) rfl⟩, List.forall_mem_cons.mpr ⟨⟨"java/lang/ArrayStoreException", q1462, List.mem_of_getElem? (i := 26) rfl⟩, List.forall_mem_cons.mpr ⟨⟨"java/lang/ArrayStoreException", q1462, List.mem_of_getElem? (i := 27) rfl⟩, List.forall_mem_cons.mpr ⟨⟨"java/lang/ArrayStoreException", q1462, List.mem_of_getElem? (i := 28) rfl⟩, List.forall_mem_cons.mpr ⟨⟨"java/lang/ArrayStoreException", q1462, (List.mem_of_getElem? (i := 67) rfl)⟩, List.forall_mem_cons.mpr ⟨⟨"java/lang/IndexOutOfBoundsException", q1476, List.mem_of_getElem? (i := 29) rfl⟩, List.forall_mem_cons.mpr ⟨⟨"java/lang/IndexOutOfBoundsException", q1476, List.mem_of_getElem? (i := 30) rfl⟩, List.forall_mem_cons.mpr ⟨⟨"java/lang/IndexOutOfBoundsException", q1476, List.mem_of_getElem? (i := 31) rfl⟩, List.forall_mem_cons.mpr ⟨⟨"java/lang/IndexOutOfBoundsException", q1476, (List.mem_of_getElem? (i := 68) rfl)⟩, List.forall_mem_cons.mpr ⟨⟨"java/lang/IndexOutOfBoundsException", q1476, List.mem_of_getElem? (i := 32) rfl⟩, fun _ h => absurd h List.not_mem_nil⟩⟩⟩⟩⟩⟩⟩⟩⟩⟩⟩⟩⟩⟩⟩⟩⟩⟩⟩⟩⟩⟩⟩⟩⟩⟩⟩⟩⟩⟩
theorem gx_hT_ok (k : Nat) : ∀ e ∈ gx_hT k, gx_okH k e := by
  match k with
  | 0 => exact gx_hT_ok_0
  | n + 1 => exact fun _ h => absurd h List.not_mem_nil
def gx_strs : List (Nat × String) := [(114, "book"), (115, "years"), (123, "law"), (127, "odds"), (175, "ink"), (138, "rise"), (142, "top"), (146, "fade"), (183, "page"), (147, "damp"), (187, "entry"), (160, "on"), (165, "in"), (170, "wrote"), (174, "says")]
def gx_slen : List Nat := [4, 5, 3, 4, 3, 4, 3, 4, 4, 4, 5, 2, 2, 5, 4]
def gx_sbyt : List (List Int32) := [[98, 111, 111, 107], [121, 101, 97, 114, 115], [108, 97, 119], [111, 100, 100, 115], [105, 110, 107], [114, 105, 115, 101], [116, 111, 112], [102, 97, 100, 101], [112, 97, 103, 101], [100, 97, 109, 112], [101, 110, 116, 114, 121], [111, 110], [105, 110], [119, 114, 111, 116, 101], [115, 97, 121, 115]]
def gx_lT_0 : List (Nat × Value) := [(246, .int 100000)]
def gx_lT_1 : List (Nat × Value) := []
def gx_lT_2 : List (Nat × Value) := []
def gx_lT_3 : List (Nat × Value) := []
def gx_lT_4 : List (Nat × Value) := []
def gx_lT_5 : List (Nat × Value) := []
def gx_lT_6 : List (Nat × Value) := []
def gx_lT_7 : List (Nat × Value) := [(124, .int 100000), (125, .int 1000000)]
def gx_lT_8 : List (Nat × Value) := [(65, .int 99999), (147, .retAddr 25), (114, .retAddr 16), (115, .retAddr 17), (123, .retAddr 18), (127, .retAddr 19), (160, .retAddr 27), (165, .retAddr 28), (170, .retAddr 29), (174, .retAddr 30), (138, .retAddr 21), (142, .retAddr 22), (146, .retAddr 23), (175, .retAddr 20), (183, .retAddr 24), (187, .retAddr 26)]
def gx_lT_9 : List (Nat × Value) := []
def gx_lT_10 : List (Nat × Value) := []
def gx_lT_11 : List (Nat × Value) := []
def gx_lT_12 : List (Nat × Value) := []
def gx_lT_13 : List (Nat × Value) := []
def gx_lT_14 : List (Nat × Value) := []
def gx_lT_15 : List (Nat × Value) := []
def gx_lT_16 : List (Nat × Value) := []
def gx_lT_17 : List (Nat × Value) := []
def gx_lT_18 : List (Nat × Value) := []
def gx_lT_19 : List (Nat × Value) := [(265, .int 1431655765), (266, .int 858993459), (267, .int 252645135)]
def gx_lT_20 : List (Nat × Value) := []
def gx_lT (k : Nat) : List (Nat × Value) := match k with
  | 0 => gx_lT_0
  | 7 => gx_lT_7
  | 8 => gx_lT_8
  | 19 => gx_lT_19
  | _ => []
def gx_okL (oc : Nat) (e : Nat × Value) : Prop := match e.2 with
  | .int v => Cond.constant (gx_cname oc) e.1 v ∈ lw_all
  | .retAddr j => gx_cname oc = "GallRegister$Reader" ∧ (16 ≤ j ∧ j - 16 < 15) ∧ (gx_strs.getD (j - 16) (0, "")).1 = e.1
  | _ => False
theorem gx_lT_ok_0 : ∀ e ∈ gx_lT_0, gx_okL 0 e := List.forall_mem_cons.mpr ⟨q852, fun _ h => absurd h List.not_mem_nil⟩
theorem gx_lT_ok_7 : ∀ e ∈ gx_lT_7, gx_okL 7 e := List.forall_mem_cons.mpr ⟨q1673, List.forall_mem_cons.mpr ⟨q1674, fun _ h => absurd h List.not_mem_nil⟩⟩
theorem gx_lT_ok_8 : ∀ e ∈ gx_lT_8, gx_okL 8 e := List.forall_mem_cons.mpr ⟨q491, List.forall_mem_cons.mpr ⟨⟨rfl, by decide, rfl⟩, List.forall_mem_cons.mpr ⟨⟨rfl, by decide, rfl⟩, List.forall_mem_cons.mpr ⟨⟨rfl, by decide, rfl⟩, List.forall_mem_cons.mpr ⟨⟨rfl, by decide, rfl⟩, List.forall_mem_cons.mpr ⟨⟨rfl, by decide, rfl⟩, List.forall_mem_cons.mpr ⟨⟨rfl, by decide, rfl⟩, List.forall_mem_cons.mpr ⟨⟨rfl, by decide, rfl⟩, List.forall_mem_cons.mpr ⟨⟨rfl, by decide, rfl⟩, List.forall_mem_cons.mpr ⟨⟨rfl, by decide, rfl⟩, List.forall_mem_cons.mpr ⟨⟨rfl, by decide, rfl⟩, List.forall_mem_cons.mpr ⟨⟨rfl, by decide, rfl⟩, List.forall_mem_cons.mpr ⟨⟨rfl, by decide, rfl⟩, List.forall_mem_cons.mpr ⟨⟨rfl, by decide, rfl⟩, List.forall_mem_cons.mpr ⟨⟨rfl, by decide, rfl⟩, List.forall_mem_cons.mpr ⟨⟨rfl, by decide, rfl⟩, fun _ h => absurd h List.not_mem_nil⟩⟩⟩⟩⟩⟩⟩⟩⟩⟩⟩⟩⟩⟩⟩⟩
theorem gx_lT_ok_19 : ∀ e ∈ gx_lT_19, gx_okL 19 e := List.forall_mem_cons.mpr ⟨q1199, List.forall_mem_cons.mpr ⟨q1200, List.forall_mem_cons.mpr ⟨q1201, fun _ h => absurd h List.not_mem_nil⟩⟩⟩
theorem gx_lT_ok (k : Nat) : ∀ e ∈ gx_lT k, gx_okL k e := by
  match k with
  | 0 => exact gx_lT_ok_0
  | 7 => exact gx_lT_ok_7
  | 8 => exact gx_lT_ok_8
  | 19 => exact gx_lT_ok_19
  | 1 => exact fun _ h => absurd h List.not_mem_nil
  | 2 => exact fun _ h => absurd h List.not_mem_nil
  | 3 => exact fun _ h => absurd h List.not_mem_nil
  | 4 => exact fun _ h => absurd h List.not_mem_nil
  | 5 => exact fun _ h => absurd h List.not_mem_nil
  | 6 => exact fun _ h => absurd h List.not_mem_nil
  | 9 => exact fun _ h => absurd h List.not_mem_nil
  | 10 => exact fun _ h => absurd h List.not_mem_nil
  | 11 => exact fun _ h => absurd h List.not_mem_nil
  | 12 => exact fun _ h => absurd h List.not_mem_nil
  | 13 => exact fun _ h => absurd h List.not_mem_nil
  | 14 => exact fun _ h => absurd h List.not_mem_nil
  | 15 => exact fun _ h => absurd h List.not_mem_nil
  | 16 => exact fun _ h => absurd h List.not_mem_nil
  | 17 => exact fun _ h => absurd h List.not_mem_nil
  | 18 => exact fun _ h => absurd h List.not_mem_nil
  | n + 20 => exact fun _ h => absurd h List.not_mem_nil
def gx_jT_0 : List (Nat × Int64) := [(136, 3), (138, 2000000000), (329, 60), (413, 8), (320, 20), (448, 2), (424, 1103515245), (426, 12345), (428, 2147483648), (430, 65536), (432, 10), (422, -2)]
def gx_jT_1 : List (Nat × Int64) := []
def gx_jT_2 : List (Nat × Int64) := []
def gx_jT_3 : List (Nat × Int64) := []
def gx_jT_4 : List (Nat × Int64) := []
def gx_jT_5 : List (Nat × Int64) := []
def gx_jT_6 : List (Nat × Int64) := []
def gx_jT_7 : List (Nat × Int64) := [(455, 6), (443, 2000000000), (77, 3), (118, -1), (120, 27), (122, 96), (366, 60), (324, 2), (329, 4), (173, 79828), (396, 20), (435, 1103515245), (437, 12345), (439, 2147483648), (441, 65536), (424, 10), (175, 419), (177, 257), (179, 12588917), (181, 375400), (160, 361373), (165, 15001), (167, 118940), (183, 6950), (192, 315851), (197, 2947858), (212, 50717), (214, 13385674), (216, 8798), (218, 298288), (433, -2)]
def gx_jT_8 : List (Nat × Int64) := []
def gx_jT_9 : List (Nat × Int64) := []
def gx_jT_10 : List (Nat × Int64) := [(320, 4294967295)]
def gx_jT_11 : List (Nat × Int64) := []
def gx_jT_12 : List (Nat × Int64) := []
def gx_jT_13 : List (Nat × Int64) := []
def gx_jT_14 : List (Nat × Int64) := []
def gx_jT_15 : List (Nat × Int64) := []
def gx_jT_16 : List (Nat × Int64) := []
def gx_jT_17 : List (Nat × Int64) := []
def gx_jT_18 : List (Nat × Int64) := []
def gx_jT_19 : List (Nat × Int64) := []
def gx_jT_20 : List (Nat × Int64) := []
def gx_jT (k : Nat) : List (Nat × Int64) := match k with
  | 0 => gx_jT_0
  | 7 => gx_jT_7
  | 10 => gx_jT_10
  | _ => []
def gx_okJ (oc : Nat) (e : Nat × Int64) : Prop := Cond.constantLong (gx_cname oc) e.1 e.2 ∈ lw_all
theorem gx_jT_ok_0 : ∀ e ∈ gx_jT_0, gx_okJ 0 e := List.forall_mem_cons.mpr ⟨q1104, List.forall_mem_cons.mpr ⟨q1255, List.forall_mem_cons.mpr ⟨q1061, List.forall_mem_cons.mpr ⟨q1238, List.forall_mem_cons.mpr ⟨q1032, List.forall_mem_cons.mpr ⟨q1301, List.forall_mem_cons.mpr ⟨q1260, List.forall_mem_cons.mpr ⟨q1261, List.forall_mem_cons.mpr ⟨q1262, List.forall_mem_cons.mpr ⟨q1263, List.forall_mem_cons.mpr ⟨q1264, List.forall_mem_cons.mpr ⟨q1247, fun _ h => absurd h List.not_mem_nil⟩⟩⟩⟩⟩⟩⟩⟩⟩⟩⟩⟩
theorem gx_jT_ok_7 : ∀ e ∈ gx_jT_7, gx_okJ 7 e := List.forall_mem_cons.mpr ⟨q2233, List.forall_mem_cons.mpr ⟨q2192, List.forall_mem_cons.mpr ⟨q1615, List.forall_mem_cons.mpr ⟨q1670, List.forall_mem_cons.mpr ⟨q1671, List.forall_mem_cons.mpr ⟨q1672, List.forall_mem_cons.mpr ⟨q1987, List.forall_mem_cons.mpr ⟨q1765, List.forall_mem_cons.mpr ⟨q1786, List.forall_mem_cons.mpr ⟨q1732, List.forall_mem_cons.mpr ⟨q2107, List.forall_mem_cons.mpr ⟨q2197, List.forall_mem_cons.mpr ⟨q2198, List.forall_mem_cons.mpr ⟨q2199, List.forall_mem_cons.mpr ⟨q2200, List.forall_mem_cons.mpr ⟨q2179, List.forall_mem_cons.mpr ⟨q1738, List.forall_mem_cons.mpr ⟨q1739, List.forall_mem_cons.mpr ⟨q1740, List.forall_mem_cons.mpr ⟨q1741, List.forall_mem_cons.mpr ⟨q1724, List.forall_mem_cons.mpr ⟨q1725, List.forall_mem_cons.mpr ⟨q1726, List.forall_mem_cons.mpr ⟨q1711, List.forall_mem_cons.mpr ⟨q1727, List.forall_mem_cons.mpr ⟨q1733, List.forall_mem_cons.mpr ⟨q1679, List.forall_mem_cons.mpr ⟨q1696, List.forall_mem_cons.mpr ⟨q1705, List.forall_mem_cons.mpr ⟨q1706, List.forall_mem_cons.mpr ⟨q2184, fun _ h => absurd h List.not_mem_nil⟩⟩⟩⟩⟩⟩⟩⟩⟩⟩⟩⟩⟩⟩⟩⟩⟩⟩⟩⟩⟩⟩⟩⟩⟩⟩⟩⟩⟩⟩⟩
theorem gx_jT_ok_10 : ∀ e ∈ gx_jT_10, gx_okJ 10 e := List.forall_mem_cons.mpr ⟨q2242, fun _ h => absurd h List.not_mem_nil⟩
theorem gx_jT_ok (k : Nat) : ∀ e ∈ gx_jT k, gx_okJ k e := by
  match k with
  | 0 => exact gx_jT_ok_0
  | 7 => exact gx_jT_ok_7
  | 10 => exact gx_jT_ok_10
  | 1 => exact fun _ h => absurd h List.not_mem_nil
  | 2 => exact fun _ h => absurd h List.not_mem_nil
  | 3 => exact fun _ h => absurd h List.not_mem_nil
  | 4 => exact fun _ h => absurd h List.not_mem_nil
  | 5 => exact fun _ h => absurd h List.not_mem_nil
  | 6 => exact fun _ h => absurd h List.not_mem_nil
  | 8 => exact fun _ h => absurd h List.not_mem_nil
  | 9 => exact fun _ h => absurd h List.not_mem_nil
  | n + 11 => exact fun _ h => absurd h List.not_mem_nil
def gx_sts : List (String × String × String × Value) := [("GallRegister$Token", "END", "LGallRegister$Token;", .retAddr 0), ("GallRegister$Token", "WORD", "LGallRegister$Token;", .retAddr 1), ("GallRegister$Token", "NUMBER", "LGallRegister$Token;", .retAddr 2), ("GallRegister$Token", "STOP", "LGallRegister$Token;", .retAddr 3), ("GallRegister$Token", "NONE", "LGallRegister$Token;", .retAddr 4), ("java/util/ArrayList", "DEFAULTCAPACITY_EMPTY_ELEMENTDATA", "[Ljava/lang/Object;", .retAddr 5), ("java/lang/Throwable", "UNASSIGNED_STACK", "[Ljava/lang/StackTraceElement;", .retAddr 6), ("java/lang/Throwable", "SUPPRESSED_SENTINEL", "Ljava/util/List;", .retAddr 7), ("jdk/internal/util/Preconditions", "SIOOBE_FORMATTER", "Ljava/util/function/BiFunction;", .retAddr 8), ("java/lang/String", "COMPACT_STRINGS", "Z", .int 1)]
def gx_gT_0 : List (Nat × Nat) := []
def gx_gT_1 : List (Nat × Nat) := []
def gx_gT_2 : List (Nat × Nat) := []
def gx_gT_3 : List (Nat × Nat) := []
def gx_gT_4 : List (Nat × Nat) := []
def gx_gT_5 : List (Nat × Nat) := []
def gx_gT_6 : List (Nat × Nat) := []
def gx_gT_7 : List (Nat × Nat) := []
def gx_gT_8 : List (Nat × Nat) := [(29, 0), (59, 1), (72, 2), (75, 3), (78, 4)]
def gx_gT_9 : List (Nat × Nat) := []
def gx_gT_10 : List (Nat × Nat) := []
def gx_gT_11 : List (Nat × Nat) := [(39, 5)]
def gx_gT_12 : List (Nat × Nat) := []
def gx_gT_13 : List (Nat × Nat) := []
def gx_gT_14 : List (Nat × Nat) := [(38, 9), (1053, 8)]
def gx_gT_15 : List (Nat × Nat) := []
def gx_gT_16 : List (Nat × Nat) := []
def gx_gT_17 : List (Nat × Nat) := [(13, 6), (20, 7)]
def gx_gT_18 : List (Nat × Nat) := []
def gx_gT_19 : List (Nat × Nat) := []
def gx_gT_20 : List (Nat × Nat) := []
def gx_gT (k : Nat) : List (Nat × Nat) := match k with
  | 8 => gx_gT_8
  | 11 => gx_gT_11
  | 14 => gx_gT_14
  | 17 => gx_gT_17
  | _ => []
def gx_st (j : Nat) : String × String × String × Value := gx_sts.getD j ("", "", "", .null)
def gx_okG (oc : Nat) (e : Nat × Nat) : Prop := Cond.fieldLink (gx_cname oc) e.1 (gx_st e.2).1 (gx_st e.2).2.1 (gx_st e.2).2.2.1 ∈ lw_all ∧ e.2 < 10
theorem gx_gT_ok_8 : ∀ e ∈ gx_gT_8, gx_okG 8 e := List.forall_mem_cons.mpr ⟨⟨q478, by decide⟩, List.forall_mem_cons.mpr ⟨⟨q489, by decide⟩, List.forall_mem_cons.mpr ⟨⟨q495, by decide⟩, List.forall_mem_cons.mpr ⟨⟨q497, by decide⟩, List.forall_mem_cons.mpr ⟨⟨q499, by decide⟩, fun _ h => absurd h List.not_mem_nil⟩⟩⟩⟩⟩
theorem gx_gT_ok_11 : ∀ e ∈ gx_gT_11, gx_okG 11 e := List.forall_mem_cons.mpr ⟨⟨q330, by decide⟩, fun _ h => absurd h List.not_mem_nil⟩
theorem gx_gT_ok_14 : ∀ e ∈ gx_gT_14, gx_okG 14 e := List.forall_mem_cons.mpr ⟨⟨q552, by decide⟩, List.forall_mem_cons.mpr ⟨⟨q568, by decide⟩, fun _ h => absurd h List.not_mem_nil⟩⟩
theorem gx_gT_ok_17 : ∀ e ∈ gx_gT_17, gx_okG 17 e := List.forall_mem_cons.mpr ⟨⟨q620, by decide⟩, List.forall_mem_cons.mpr ⟨⟨q622, by decide⟩, fun _ h => absurd h List.not_mem_nil⟩⟩
theorem gx_gT_ok (k : Nat) : ∀ e ∈ gx_gT k, gx_okG k e := by
  match k with
  | 8 => exact gx_gT_ok_8
  | 11 => exact gx_gT_ok_11
  | 14 => exact gx_gT_ok_14
  | 17 => exact gx_gT_ok_17
  | 0 => exact fun _ h => absurd h List.not_mem_nil
  | 1 => exact fun _ h => absurd h List.not_mem_nil
  | 2 => exact fun _ h => absurd h List.not_mem_nil
  | 3 => exact fun _ h => absurd h List.not_mem_nil
  | 4 => exact fun _ h => absurd h List.not_mem_nil
  | 5 => exact fun _ h => absurd h List.not_mem_nil
  | 6 => exact fun _ h => absurd h List.not_mem_nil
  | 7 => exact fun _ h => absurd h List.not_mem_nil
  | 9 => exact fun _ h => absurd h List.not_mem_nil
  | 10 => exact fun _ h => absurd h List.not_mem_nil
  | 12 => exact fun _ h => absurd h List.not_mem_nil
  | 13 => exact fun _ h => absurd h List.not_mem_nil
  | 15 => exact fun _ h => absurd h List.not_mem_nil
  | 16 => exact fun _ h => absurd h List.not_mem_nil
  | n + 18 => exact fun _ h => absurd h List.not_mem_nil
def gx_xT_0 : List (Nat × Nat) := []
def gx_xT_1 : List (Nat × Nat) := []
def gx_xT_2 : List (Nat × Nat) := []
def gx_xT_3 : List (Nat × Nat) := []
def gx_xT_4 : List (Nat × Nat) := []
def gx_xT_5 : List (Nat × Nat) := []
def gx_xT_6 : List (Nat × Nat) := []
def gx_xT_7 : List (Nat × Nat) := []
def gx_xT_8 : List (Nat × Nat) := []
def gx_xT_9 : List (Nat × Nat) := []
def gx_xT_10 : List (Nat × Nat) := []
def gx_xT_11 : List (Nat × Nat) := []
def gx_xT_12 : List (Nat × Nat) := []
def gx_xT_13 : List (Nat × Nat) := []
def gx_xT_14 : List (Nat × Nat) := [(9, 0), (15, 1)]
def gx_xT_15 : List (Nat × Nat) := []
def gx_xT_16 : List (Nat × Nat) := []
def gx_xT_17 : List (Nat × Nat) := []
def gx_xT_18 : List (Nat × Nat) := []
def gx_xT_19 : List (Nat × Nat) := []
def gx_xT_20 : List (Nat × Nat) := []
def gx_xT (k : Nat) : List (Nat × Nat) := match k with
  | 14 => gx_xT_14
  | _ => []
def gx_okX (oc : Nat) (e : Nat × Nat) : Prop := match e.2 with
  | 0 => Cond.fieldLink (gx_cname oc) e.1 "java/lang/String" "value" "[B" ∈ lw_all
  | _ => Cond.fieldLink (gx_cname oc) e.1 "java/lang/String" "coder" "B" ∈ lw_all
theorem gx_xT_ok_14 : ∀ e ∈ gx_xT_14, gx_okX 14 e := List.forall_mem_cons.mpr ⟨q2278, List.forall_mem_cons.mpr ⟨q2279, fun _ h => absurd h List.not_mem_nil⟩⟩
theorem gx_xT_ok (k : Nat) : ∀ e ∈ gx_xT k, gx_okX k e := by
  match k with
  | 14 => exact gx_xT_ok_14
  | 0 => exact fun _ h => absurd h List.not_mem_nil
  | 1 => exact fun _ h => absurd h List.not_mem_nil
  | 2 => exact fun _ h => absurd h List.not_mem_nil
  | 3 => exact fun _ h => absurd h List.not_mem_nil
  | 4 => exact fun _ h => absurd h List.not_mem_nil
  | 5 => exact fun _ h => absurd h List.not_mem_nil
  | 6 => exact fun _ h => absurd h List.not_mem_nil
  | 7 => exact fun _ h => absurd h List.not_mem_nil
  | 8 => exact fun _ h => absurd h List.not_mem_nil
  | 9 => exact fun _ h => absurd h List.not_mem_nil
  | 10 => exact fun _ h => absurd h List.not_mem_nil
  | 11 => exact fun _ h => absurd h List.not_mem_nil
  | 12 => exact fun _ h => absurd h List.not_mem_nil
  | 13 => exact fun _ h => absurd h List.not_mem_nil
  | n + 15 => exact fun _ h => absurd h List.not_mem_nil
