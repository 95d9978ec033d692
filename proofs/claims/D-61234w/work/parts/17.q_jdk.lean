set_option maxRecDepth 100000
theorem db_m128 : (Int8.ofInt (-128)).toInt32 = (-128) := by decide
theorem db_10 : (Int8.ofInt 10).toInt32 = 10 := by decide
theorem db_16 : (Int8.ofInt 16).toInt32 = 16 := by decide
theorem di_m1 : Int32.ofInt (-1) = (-1) := by decide
theorem di_0 : Int32.ofInt 0 = 0 := by decide
theorem di_1 : Int32.ofInt 1 = 1 := by decide
theorem di_2 : Int32.ofInt 2 = 2 := by decide
theorem ds_128 : (Int16.ofInt 128).toInt32 = 128 := by decide
theorem ds_255 : (Int16.ofInt 255).toInt32 = 255 := by decide
theorem fl_J0_79_J1 : FL RJ0 79 nJ1 3 RJ1 TJ1 4 := ⟨rfl, by decide, _, q135, Or.inl rfl⟩
theorem fl_J0_22_J1 : FL RJ0 22 nJ1 1 RJ1 TJ1 4 := ⟨rfl, by decide, _, q132, Or.inl rfl⟩
theorem fl_J0_15_J1 : FL RJ0 15 nJ1 0 RJ1 TJ1 4 := ⟨rfl, by decide, _, q131, Or.inl rfl⟩
theorem fl_J2_15_J2 : FL RJ2 15 nJ2 1 RJ2 TJ2 4 := ⟨rfl, by decide, _, q578, Or.inl rfl⟩
theorem fl_J2_9_J2 : FL RJ2 9 nJ2 0 RJ2 TJ2 4 := ⟨rfl, by decide, _, q577, Or.inl rfl⟩
theorem fl_J6_48_J6 : FL RJ6 48 nJ6 2 RJ6 TJ6 3 := ⟨rfl, by decide, _, q163, Or.inl rfl⟩
theorem fl_J8_7_J8 : FL RJ8 7 nJ8 4 RJ8 TJ8 9 := ⟨rfl, by decide, _, q186, Or.inl rfl⟩
theorem fl_J20_205_J20 : FL RJ20 205 nJ20 0 RJ20 TJ20 1 := ⟨rfl, by decide, _, q951, Or.inl rfl⟩
theorem fl_J24_7_X6 : FL RJ24 7 nX6 0 RX6 TX6 1 := ⟨rfl, by decide, _, q2312, Or.inl rfl⟩
theorem fl_J29_15_J29 : FL RJ29 15 nJ29 0 RJ29 TJ29 6 := ⟨rfl, by decide, _, q1333, Or.inl rfl⟩
theorem fl_J29_19_J29 : FL RJ29 19 nJ29 1 RJ29 TJ29 6 := ⟨rfl, by decide, _, q1335, Or.inl rfl⟩
theorem fl_J5_7_J6 : FL RJ5 7 nJ6 0 RJ6 TJ6 3 := ⟨rfl, by decide, _, q164, Or.inl rfl⟩
theorem fl_J6_9_J6 : FL RJ6 9 nJ6 1 RJ6 TJ6 3 := ⟨rfl, by decide, _, q160, Or.inl rfl⟩
theorem fl_J22_1_J22 : FL RJ22 1 nJ22 3 RJ22 TJ22 4 := ⟨rfl, by decide, _, q670, Or.inl rfl⟩
theorem fl_J22_13_J22 : FL RJ22 13 nJ22 1 RJ22 TJ22 4 := ⟨rfl, by decide, _, q668, Or.inl rfl⟩
theorem fl_J22_17_J6 : FL RJ22 17 nJ6 0 RJ6 TJ6 3 := ⟨rfl, by decide, _, q165, Or.inr q166⟩
theorem fl_J22_22_J22 : FL RJ22 22 nJ22 2 RJ22 TJ22 4 := ⟨rfl, by decide, _, q669, Or.inl rfl⟩
theorem fl_J22_25_J22 : FL RJ22 25 nJ22 0 RJ22 TJ22 4 := ⟨rfl, by decide, _, q667, Or.inl rfl⟩
theorem fl_J22_37_J6 : FL RJ22 37 nJ6 1 RJ6 TJ6 3 := ⟨rfl, by decide, _, q161, Or.inl rfl⟩
theorem fl_J0_73_J1 : FL RJ0 73 nJ1 2 RJ1 TJ1 4 := ⟨rfl, by decide, _, q133, Or.inl rfl⟩
theorem lkP_J1_343 : LkP RJ1 343 mJ0_length 0 := ⟨okJ0_length, q256, q2258, q144, q257, by decide, by decide +kernel⟩
theorem lkV_J2_335_J2 : LkV RJ2 335 RJ2 mJ2_coder 0 := ⟨okJ2_coder, q507, q508, q509, ⟨by decide, by decide⟩, by decide +kernel⟩
theorem lkS_J2_1059 : LkS RJ2 1059 mJ18_checkIndex 3 := ⟨okJ18_checkIndex, q274, q275, ⟨by decide, by decide⟩, by decide +kernel⟩
theorem lkS_J25_105 : LkS RJ25 105 mJ18_checkIndex 3 := ⟨okJ18_checkIndex, q1289, q275, ⟨by decide, by decide⟩, by decide +kernel⟩
theorem lkS_J0_138 : LkS RJ0 138 mJ15_min 2 := ⟨okJ15_min, q266, q267, ⟨by decide, by decide⟩, by decide +kernel⟩
theorem lkS_J0_144 : LkS RJ0 144 mJ2_checkIndex 2 := ⟨okJ2_checkIndex, q269, q270, ⟨by decide, by decide⟩, by decide +kernel⟩
theorem lkP_J1_329 : LkP RJ1 329 mJ0_charAt 1 := ⟨okJ0_charAt, q263, q2259, q144, q264, by decide, by decide +kernel⟩
theorem lkI_J1_1 : LkI RJ1 1 mJ0_init 1 := ⟨okJ0_init, q118, q119, rfl, rfl, rfl, ⟨by decide, by decide⟩, by decide +kernel⟩
theorem lkS_J14_194 : LkS RJ14 194 mJ15_max 2 := ⟨okJ15_max, q441, q442, ⟨by decide, by decide⟩, by decide +kernel⟩
theorem lkS_J0_114 : LkS RJ0 114 mJ14_newLength 3 := ⟨okJ14_newLength, q438, q439, ⟨by decide, by decide⟩, by decide +kernel⟩
theorem lkS_J16_304 : LkS RJ16 304 mJ15_min 2 := ⟨okJ15_min, q459, q267, ⟨by decide, by decide⟩, by decide +kernel⟩
theorem lkR_J0_104 : LkR RJ0 104 mJ0_newCapacity 1 := ⟨okJ0_newCapacity, q434, q436, q435, ⟨_, _, _, q390, rfl⟩, ⟨by decide, by decide⟩, by decide +kernel⟩
theorem lkS_J0_108 : LkS RJ0 108 mJ16_copyOf 2 := ⟨okJ16_copyOf, q449, q450, ⟨by decide, by decide⟩, by decide +kernel⟩
theorem lkS_J16_343 : LkS RJ16 343 mJ16_checkLength 2 := ⟨okJ16_checkLength, q404, q405, ⟨by decide, by decide⟩, by decide +kernel⟩
theorem lkS_J16_339 : LkS RJ16 339 mJ16_copyOfRangeByte 3 := ⟨okJ16_copyOfRangeByte, q401, q402, ⟨by decide, by decide⟩, by decide +kernel⟩
theorem lkS_J17_232 : LkS RJ17 232 mJ16_copyOfRange 3 := ⟨okJ16_copyOfRange, q398, q399, ⟨by decide, by decide⟩, by decide +kernel⟩
theorem lkI_J17_112 : LkI RJ17 112 mJ2_init_3 2 := ⟨okJ2_init_3, q597, q598, rfl, rfl, rfl, ⟨by decide, by decide⟩, by decide +kernel⟩
theorem lkS_J0_161 : LkS RJ0 161 mJ18_checkFromToIndex 4 := ⟨okJ18_checkFromToIndex, q384, q385, ⟨by decide, by decide⟩, by decide +kernel⟩
theorem lkV_J0_83_J1 : LkV RJ0 83 RJ1 mJ0_isLatin1 0 := ⟨okJ0_isLatin1, q387, q388, q390, ⟨by decide, by decide⟩, by decide +kernel⟩
theorem lkS_J0_304 : LkS RJ0 304 mJ17_newString 3 := ⟨okJ17_newString, q392, q393, ⟨by decide, by decide⟩, by decide +kernel⟩
theorem lkP_J1_252 : LkP RJ1 252 mJ0_substring 2 := ⟨okJ0_substring, q380, q2261, q144, q381, by decide, by decide +kernel⟩
theorem lkV_J2_552_J1 : LkV RJ2 552 RJ1 mJ0_getValue 0 := ⟨okJ0_getValue, q558, q559, q561, ⟨by decide, by decide⟩, by decide +kernel⟩
theorem lkU_J2_549_J1 : LkU RJ2 549 RJ1 "java/lang/AbstractStringBuilder" ⟨"java/lang/AbstractStringBuilder", "length", "()I"⟩ mJ1_length 0 := ⟨okJ1_length, q563, q2258, q2270, q253, Or.inl ⟨_, _, _, q257, q258⟩, ⟨by decide, by decide⟩, by decide +kernel⟩
theorem lkV_J2_1047_J1 : LkV RJ2 1047 RJ1 mJ0_isLatin1 0 := ⟨okJ0_isLatin1, q564, q388, q390, ⟨by decide, by decide⟩, by decide +kernel⟩
theorem lkS_J2_54 : LkS RJ2 54 mJ16_copyOfRange 3 := ⟨okJ16_copyOfRange, q565, q399, ⟨by decide, by decide⟩, by decide +kernel⟩
theorem lkI_J2_489 : LkI RJ2 489 mJ2_init_2 2 := ⟨okJ2_init_2, q554, q555, rfl, rfl, rfl, ⟨by decide, by decide⟩, by decide +kernel⟩
theorem lkI_J1_137 : LkI RJ1 137 mJ2_init 1 := ⟨okJ2_init, q551, q552, rfl, rfl, rfl, ⟨by decide, by decide⟩, by decide +kernel⟩
theorem lkS_J17_9 : LkS RJ17 9 mJ2_checkIndex 2 := ⟨okJ2_checkIndex, q1513, q270, ⟨by decide, by decide⟩, by decide +kernel⟩
theorem lkV_J2_492_J2 : LkV RJ2 492 RJ2 mJ2_isLatin1 0 := ⟨okJ2_isLatin1, q753, q754, q755, ⟨by decide, by decide⟩, by decide +kernel⟩
theorem lkS_J2_495 : LkS RJ2 495 mJ17_charAt 2 := ⟨okJ17_charAt, q1510, q1511, ⟨by decide, by decide⟩, by decide +kernel⟩
theorem lkV_J0_40_J2 : LkV RJ0 40 RJ2 mJ2_coder 0 := ⟨okJ2_coder, q520, q508, q509, ⟨by decide, by decide⟩, by decide +kernel⟩
theorem lkR_J0_397 : LkR RJ0 397 mJ0_inflateIfNeededFor 1 := ⟨okJ0_inflateIfNeededFor, q516, q518, q517, ⟨_, _, _, q390, rfl⟩, ⟨by decide, by decide⟩, by decide +kernel⟩
theorem lkV_J0_399_J2 : LkV RJ0 399 RJ2 mJ2_getBytes 3 := ⟨okJ2_getBytes, q540, q541, q542, ⟨by decide, by decide⟩, by decide +kernel⟩
theorem lkV_J0_70_J1 : LkV RJ0 70 RJ1 mJ0_getCoder 0 := ⟨okJ0_getCoder, q1550, q1551, q1553, ⟨by decide, by decide⟩, by decide +kernel⟩
theorem lkI_J5_1 : LkI RJ5 1 mJ4_init 0 := ⟨okJ4_init, q154, q155, rfl, rfl, rfl, ⟨by decide, by decide⟩, by decide +kernel⟩
theorem lkI_J6_1 : LkI RJ6 1 mJ5_init 0 := ⟨okJ5_init, q151, q152, rfl, rfl, rfl, ⟨by decide, by decide⟩, by decide +kernel⟩
theorem lkS_J6_118 : LkS RJ6 118 mJ25_checkIndex 2 := ⟨okJ25_checkIndex, q1286, q1287, ⟨by decide, by decide⟩, by decide +kernel⟩
theorem lkV_J6_123_J6 : LkV RJ6 123 RJ6 mJ6_elementData 1 := ⟨okJ6_elementData, q1290, q1291, q1292, ⟨by decide, by decide⟩, by decide +kernel⟩
theorem lkI_J6_269 : LkI RJ6 269 mJ22_init 1 := ⟨okJ22_init, q663, q664, rfl, rfl, rfl, ⟨by decide, by decide⟩, by decide +kernel⟩
theorem lkV_J22_31_J22 : LkV RJ22 31 RJ22 mJ22_checkForComodification 0 := ⟨okJ22_checkForComodification, q705, q706, q707, ⟨by decide, by decide⟩, by decide +kernel⟩
theorem lkS_J16_300 : LkS RJ16 300 mJ16_copyOf_4 3 := ⟨okJ16_copyOf_4, q883, q884, ⟨by decide, by decide⟩, by decide +kernel⟩
theorem lkS_J6_73 : LkS RJ6 73 mJ14_newLength 3 := ⟨okJ14_newLength, q854, q439, ⟨by decide, by decide⟩, by decide +kernel⟩
theorem lkS_J6_66 : LkS RJ6 66 mJ16_copyOf_3 2 := ⟨okJ16_copyOf_3, q855, q856, ⟨by decide, by decide⟩, by decide +kernel⟩
theorem lkS_J6_79 : LkS RJ6 79 mJ15_max 2 := ⟨okJ15_max, q889, q442, ⟨by decide, by decide⟩, by decide +kernel⟩
theorem lkV_J6_69_J6 : LkV RJ6 69 RJ6 mJ6_grow_2 1 := ⟨okJ6_grow_2, q850, q852, qs9, ⟨by decide, by decide⟩, by decide +kernel⟩
theorem lkI_J20_202 : LkI RJ20 202 mJ19_init 0 := ⟨okJ19_init, q947, q948, rfl, rfl, rfl, ⟨by decide, by decide⟩, by decide +kernel⟩
theorem lkI_J20_199 : LkI RJ20 199 mJ20_init 1 := ⟨okJ20_init, q944, q945, rfl, rfl, rfl, ⟨by decide, by decide⟩, by decide +kernel⟩
theorem lkR_J0_100 : LkR RJ0 100 mJ0_ensureCapacityInternal 1 := ⟨okJ0_ensureCapacityInternal, q430, q432, q431, ⟨_, _, _, q390, rfl⟩, ⟨by decide, by decide⟩, by decide +kernel⟩
theorem lkS_J0_191 : LkS RJ0 191 mJ17_canEncode_2 1 := ⟨okJ17_canEncode_2, q1225, q1226, ⟨by decide, by decide⟩, by decide +kernel⟩
theorem lkV_J0_32_J2 : LkV RJ0 32 RJ2 mJ2_length 0 := ⟨okJ2_length, q503, q504, q505, ⟨by decide, by decide⟩, by decide +kernel⟩
theorem lkR_J0_208 : LkR RJ0 208 mJ0_putStringAt 2 := ⟨okJ0_putStringAt, q512, q514, q513, ⟨_, _, _, q390, rfl⟩, ⟨by decide, by decide⟩, by decide +kernel⟩
theorem lkU_J0_160_J1 : LkU RJ0 160 RJ1 "java/lang/AbstractStringBuilder" ⟨"java/lang/AbstractStringBuilder", "length", "()I"⟩ mJ1_length 0 := ⟨okJ1_length, q1545, q2258, q2270, q253, Or.inl ⟨_, _, _, q257, q258⟩, ⟨by decide, by decide⟩, by decide +kernel⟩
theorem lkR_J0_215 : LkR RJ0 215 mJ0_inflateIfNeededFor_2 1 := ⟨okJ0_inflateIfNeededFor_2, q1546, q1548, q1547, ⟨_, _, _, q390, rfl⟩, ⟨by decide, by decide⟩, by decide +kernel⟩
theorem lkV_J0_219_J1 : LkV RJ0 219 RJ1 mJ0_getBytes 3 := ⟨okJ0_getBytes, q1555, q1556, q1558, ⟨by decide, by decide⟩, by decide +kernel⟩
/-- what is fixed of the constants: their places are κ i, φ i -/
def GSf (G : Gm) (κ : Nat → Nat) (φ : Nat → Option Nat) (i : Nat) : Prop := match i with
  | 0 => SF G "java/lang/Integer$IntegerCache" "cache" "[Ljava/lang/Integer;" (.ref (κ 0)) ∧ ∀ w : Wd, Lk G w (κ 0) (arR "java/lang/Integer" 256 (fun j => some (κ (1000 + j))))
  | 1 => SF G "java/util/ArrayList" "DEFAULTCAPACITY_EMPTY_ELEMENTDATA" "[Ljava/lang/Object;" (.ref (κ 1)) ∧ ∀ w : Wd, Lk G w (κ 1) (arR "java/lang/Object" 0 (fun _ => none))
  | 2 => va_Mi "[Ljava/lang/Object;" (κ 2) (Gs G)
  | 3 => SF G "java/lang/Integer" "DigitOnes" "[B" (.ref (κ 3)) ∧ ∀ w : Wd, Lk G w (κ 3) (arB 100 (fun j => 48 + j % 10))
  | 4 => SF G "java/lang/Integer" "DigitTens" "[B" (.ref (κ 4)) ∧ ∀ w : Wd, Lk G w (κ 4) (arB 100 (fun j => 48 + j / 10))
  | 5 => SF G "ExchangeText$Sort" "$VALUES" "[LExchangeText$Sort;" (.ref (κ 5)) ∧ ∀ w : Wd, Lk G w (κ 5) (arR "ExchangeText$Sort" 7 (fun j => some (κ (10 + j))))
  | 10 => SF G "ExchangeText$Sort" "NUMBER" "LExchangeText$Sort;" (.ref (κ 10)) ∧ ∀ w : Wd, Lk G w (κ 10) (.inl (nX6, [.int 0]))
  | 11 => SF G "ExchangeText$Sort" "TEXT" "LExchangeText$Sort;" (.ref (κ 11)) ∧ ∀ w : Wd, Lk G w (κ 11) (.inl (nX6, [.int 1]))
  | 12 => SF G "ExchangeText$Sort" "REFERENCE" "LExchangeText$Sort;" (.ref (κ 12)) ∧ ∀ w : Wd, Lk G w (κ 12) (.inl (nX6, [.int 2]))
  | 13 => SF G "ExchangeText$Sort" "NUMBERS" "LExchangeText$Sort;" (.ref (κ 13)) ∧ ∀ w : Wd, Lk G w (κ 13) (.inl (nX6, [.int 3]))
  | 14 => SF G "ExchangeText$Sort" "REFERENCES" "LExchangeText$Sort;" (.ref (κ 14)) ∧ ∀ w : Wd, Lk G w (κ 14) (.inl (nX6, [.int 4]))
  | 15 => SF G "ExchangeText$Sort" "WORD" "LExchangeText$Sort;" (.ref (κ 15)) ∧ ∀ w : Wd, Lk G w (κ 15) (.inl (nX6, [.int 5]))
  | 16 => SF G "ExchangeText$Sort" "NOTHING" "LExchangeText$Sort;" (.ref (κ 16)) ∧ ∀ w : Wd, Lk G w (κ 16) (.inl (nX6, [.int 6]))
  | 20 => SK G "ExchangeText$Argument" 21 "" (κ 20) ∧ ∀ w : Wd, ∃ (v : Nat) (h z : Int32), Lk G w (κ 20) (.inl (nJ2, [.ref v, .int 0, .int h, .int z])) ∧ Lk G w v (arB 0 (fun j => ([] : List Nat).getD j 0))
  | 21 => SK G "ExchangeText$Argument" 79 "(" (κ 21) ∧ ∀ w : Wd, ∃ (v : Nat) (h z : Int32), Lk G w (κ 21) (.inl (nJ2, [.ref v, .int 0, .int h, .int z])) ∧ Lk G w v (arB 1 (fun j => ([40] : List Nat).getD j 0))
  | 22 => SK G "ExchangeText$Argument" 81 "," (κ 22) ∧ ∀ w : Wd, ∃ (v : Nat) (h z : Int32), Lk G w (κ 22) (.inl (nJ2, [.ref v, .int 0, .int h, .int z])) ∧ Lk G w v (arB 1 (fun j => ([44] : List Nat).getD j 0))
  | 23 => SK G "ExchangeText$Argument" 83 "#" (κ 23) ∧ ∀ w : Wd, ∃ (v : Nat) (h z : Int32), Lk G w (κ 23) (.inl (nJ2, [.ref v, .int 0, .int h, .int z])) ∧ Lk G w v (arB 1 (fun j => ([35] : List Nat).getD j 0))
  | 24 => SK G "ExchangeText$Argument" 88 ")" (κ 24) ∧ ∀ w : Wd, ∃ (v : Nat) (h z : Int32), Lk G w (κ 24) (.inl (nJ2, [.ref v, .int 0, .int h, .int z])) ∧ Lk G w v (arB 1 (fun j => ([41] : List Nat).getD j 0))
  | 25 => SK G "ExchangeText$Line" 101 "," (κ 25) ∧ ∀ w : Wd, ∃ (v : Nat) (h z : Int32), Lk G w (κ 25) (.inl (nJ2, [.ref v, .int 0, .int h, .int z])) ∧ Lk G w v (arB 1 (fun j => ([44] : List Nat).getD j 0))
  | 26 => SK G "ExchangeText$Line" 103 "" (κ 26) ∧ ∀ w : Wd, ∃ (v : Nat) (h z : Int32), Lk G w (κ 26) (.inl (nJ2, [.ref v, .int 0, .int h, .int z])) ∧ Lk G w v (arB 0 (fun j => ([] : List Nat).getD j 0))
  | 27 => SK G "ExchangeText$Line" 109 ");" (κ 27) ∧ ∀ w : Wd, ∃ (v : Nat) (h z : Int32), Lk G w (κ 27) (.inl (nJ2, [.ref v, .int 0, .int h, .int z])) ∧ Lk G w v (arB 2 (fun j => ([41, 59] : List Nat).getD j 0))
  | 28 => SK G "ExchangeText$Reader" 122 "" (κ 28) ∧ ∀ w : Wd, ∃ (v : Nat) (h z : Int32), Lk G w (κ 28) (.inl (nJ2, [.ref v, .int 0, .int h, .int z])) ∧ Lk G w v (arB 0 (fun j => ([] : List Nat).getD j 0))
  | 29 => SK G "ExchangeText$Reader" 197 "ITRLME" (κ 29) ∧ ∀ w : Wd, ∃ (v : Nat) (h z : Int32), Lk G w (κ 29) (.inl (nJ2, [.ref v, .int 0, .int h, .int z])) ∧ Lk G w v (arB 6 (fun j => ([73, 84, 82, 76, 77, 69] : List Nat).getD j 0))
  | 30 => SK G "ExchangeText$WrongPlace" 1 "wrong place" (κ 30) ∧ ∀ w : Wd, ∃ (v : Nat) (h z : Int32), Lk G w (κ 30) (.inl (nJ2, [.ref v, .int 0, .int h, .int z])) ∧ Lk G w v (arB 11 (fun j => ([119, 114, 111, 110, 103, 32, 112, 108, 97, 99, 101] : List Nat).getD j 0))
  | 31 => SK G "java/lang/AbstractStringBuilder" 230 "null" (κ 31) ∧ ∀ w : Wd, ∃ (v : Nat) (h z : Int32), Lk G w (κ 31) (.inl (nJ2, [.ref v, .int 0, .int h, .int z])) ∧ Lk G w v (arB 4 (fun j => ([110, 117, 108, 108] : List Nat).getD j 0))
  | 32 => SK G "java/lang/StringLatin1" 151 "" (κ 32) ∧ ∀ w : Wd, ∃ (v : Nat) (h z : Int32), Lk G w (κ 32) (.inl (nJ2, [.ref v, .int 0, .int h, .int z])) ∧ Lk G w v (arB 0 (fun j => ([] : List Nat).getD j 0))
  | 33 => SK G "java/lang/StringUTF16" 295 "" (κ 33) ∧ ∀ w : Wd, ∃ (v : Nat) (h z : Int32), Lk G w (κ 33) (.inl (nJ2, [.ref v, .int 0, .int h, .int z])) ∧ Lk G w v (arB 0 (fun j => ([] : List Nat).getD j 0))
  | 34 => SK G "java/util/Arrays" 48 "fromIndex(" (κ 34) ∧ ∀ w : Wd, ∃ (v : Nat) (h z : Int32), Lk G w (κ 34) (.inl (nJ2, [.ref v, .int 0, .int h, .int z])) ∧ Lk G w v (arB 10 (fun j => ([102, 114, 111, 109, 73, 110, 100, 101, 120, 40] : List Nat).getD j 0))
  | 35 => SK G "java/util/Arrays" 57 ") > toIndex(" (κ 35) ∧ ∀ w : Wd, ∃ (v : Nat) (h z : Int32), Lk G w (κ 35) (.inl (nJ2, [.ref v, .int 0, .int h, .int z])) ∧ Lk G w v (arB 12 (fun j => ([41, 32, 62, 32, 116, 111, 73, 110, 100, 101, 120, 40] : List Nat).getD j 0))
  | 36 => SK G "java/util/Arrays" 59 ")" (κ 36) ∧ ∀ w : Wd, ∃ (v : Nat) (h z : Int32), Lk G w (κ 36) (.inl (nJ2, [.ref v, .int 0, .int h, .int z])) ∧ Lk G w v (arB 1 (fun j => ([41] : List Nat).getD j 0))
  | 37 => SK G "java/util/Arrays" 337 " > " (κ 37) ∧ ∀ w : Wd, ∃ (v : Nat) (h z : Int32), Lk G w (κ 37) (.inl (nJ2, [.ref v, .int 0, .int h, .int z])) ∧ Lk G w v (arB 3 (fun j => ([32, 62, 32] : List Nat).getD j 0))
  | 50 => SF G "java/lang/String" "COMPACT_STRINGS" "Z" (.int 1)
  | 51 => SF G "java/util/BitSet" "$assertionsDisabled" "Z" (.int 1)
  | 52 => SF G "java/lang/Integer$IntegerCache" "high" "I" (.int 127)
  | 53 => SF G "jdk/internal/util/Preconditions" "SIOOBE_FORMATTER" "Ljava/util/function/BiFunction;" (va_rf (φ 0))
  | 54 => SF G "jdk/internal/util/Preconditions" "IOOBE_FORMATTER" "Ljava/util/function/BiFunction;" (va_rf (φ 1))
  | 55 => XS G
  | 56 => ∀ j, j < 256 → ∀ w : Wd, Lk G w (κ (1000 + j)) (.inl (nJ20, [.int (Int32.ofInt ((j : Int) - 128))]))
  | 57 => va_Nc "java/lang/StringBuilder" "java/lang/String" (Gs G) ∧ va_Nc "java/lang/IllegalStateException" "java/lang/IllegalArgumentException" (Gs G)
  | 58 => ∀ i j, i < 7 → j < 7 → κ (10 + i) = κ (10 + j) → i = j
  | 59 => ∀ cell, (Gs G).heap[κ 5]? = some cell → cell.slots.size = 7 ∧ cell.cls = GA G (.object "ExchangeText$Sort")
  | _ => True
def GS (G : Gm) (κ : Nat → Nat) (φ : Nat → Option Nat) : Prop := ∀ i, GSf G κ φ i
theorem e_J0_length {G : Gm} {κ : Nat → Nat} {φ : Nat → Option Nat} (hS : GS G κ φ) {w : Wd} {Q : Rs → Wd → Prop} {a1 : Nat} {a2 : Nat} {x3 : Int32} {m4 : Nat} (o1 : Lk G w a1 (.inl (nJ1, [.ref a2, .int 0, .int x3, .int (nI m4)]))) (k2 : Q (.inl (some (.int (nI m4)))) w) : Ev G mJ0_length [.ref a1] w Q := by
  show Rn G mJ0_length 0 [(0, .ref a1)] [] w Q
  refine r_aload_n 0 1 0 rfl rfl rfl ?_
  refine r_get (v := .int (nI m4)) fl_J0_79_J1 1 4 rfl rfl o1 rfl ?_
  exact r_iret 2 rfl rfl rfl k2
theorem e_J1_length {G : Gm} {κ : Nat → Nat} {φ : Nat → Option Nat} (hS : GS G κ φ) {w : Wd} {Q : Rs → Wd → Prop} {a1 : Nat} {a2 : Nat} {x3 : Int32} {m4 : Nat} (o1 : Lk G w a1 (.inl (nJ1, [.ref a2, .int 0, .int x3, .int (nI m4)]))) (k2 : Q (.inl (some (.int (nI m4)))) w) : Ev G mJ1_length [.ref a1] w Q := by
  show Rn G mJ1_length 0 [(0, .ref a1)] [] w Q
  refine r_aload_n 0 1 0 rfl rfl rfl ?_
  refine r_callP lkP_J1_343 (C := RJ1) (TT := TJ1) (NN := 4) rfl o1 1 4 rfl rfl (by decide) [] rfl rfl (Nat.le_of_ble_eq_true rfl) (Nat.le_of_ble_eq_true rfl) (e_J0_length hS (m4 := m4) (o1 := o1) (k2 := ?_)) (fun _ _ h => h)
  show Rn G mJ1_length 4 [(0, .ref a1)] [.int (nI m4)] w _
  exact r_iret 2 rfl rfl rfl k2
theorem e_J0_isLatin1 {G : Gm} {κ : Nat → Nat} {φ : Nat → Option Nat} (hS : GS G κ φ) {w : Wd} {Q : Rs → Wd → Prop} {a1 : Nat} {a2 : Nat} {x3 : Int32} {m4 : Nat} (o1 : Lk G w a1 (.inl (nJ1, [.ref a2, .int 0, .int x3, .int (nI m4)]))) (k2 : Q (.inl (some (.int 1))) w) : Ev G mJ0_isLatin1 [.ref a1] w Q := by
  show Rn G mJ0_isLatin1 0 [(0, .ref a1)] [] w Q
  refine r_gets (v := .int 1) (hS 50) q122 0 3 rfl rfl ?_
  refine r_if_eq 1 6 17 rfl rfl rfl (fun c => absurd c (by decide)) (fun _ => ?_)
  refine r_aload_n 2 7 0 rfl rfl rfl ?_
  refine r_get (v := .int 0) fl_J0_22_J1 3 10 rfl rfl o1 rfl ?_
  refine r_if_ne 4 13 17 rfl rfl rfl (fun c => absurd c (by decide)) (fun _ => ?_)
  refine r_iconst 5 14 rfl rfl di_1 ?_
  refine r_goto 6 18 rfl rfl ?_
  exact r_iret 8 rfl rfl (by decide) k2
theorem e_J0_getValue {G : Gm} {κ : Nat → Nat} {φ : Nat → Option Nat} (hS : GS G κ φ) {w : Wd} {Q : Rs → Wd → Prop} {a1 : Nat} {a2 : Nat} {x3 : Int32} {m4 : Nat} (o1 : Lk G w a1 (.inl (nJ1, [.ref a2, .int 0, .int x3, .int (nI m4)]))) (k2 : Q (.inl (some (.ref a2))) w) : Ev G mJ0_getValue [.ref a1] w Q := by
  show Rn G mJ0_getValue 0 [(0, .ref a1)] [] w Q
  refine r_aload_n 0 1 0 rfl rfl rfl ?_
  refine r_get (v := .ref a2) fl_J0_15_J1 1 4 rfl rfl o1 rfl ?_
  exact r_aret 2 rfl rfl (Or.inr ⟨_, rfl⟩) (Or.inr ⟨_, rfl⟩) k2
theorem e_J0_getCoder {G : Gm} {κ : Nat → Nat} {φ : Nat → Option Nat} (hS : GS G κ φ) {w : Wd} {Q : Rs → Wd → Prop} {a1 : Nat} {a2 : Nat} {x3 : Int32} {m4 : Nat} (o1 : Lk G w a1 (.inl (nJ1, [.ref a2, .int 0, .int x3, .int (nI m4)]))) (k2 : Q (.inl (some (.int 0))) w) : Ev G mJ0_getCoder [.ref a1] w Q := by
  show Rn G mJ0_getCoder 0 [(0, .ref a1)] [] w Q
  refine r_gets (v := .int 1) (hS 50) q122 0 3 rfl rfl ?_
  refine r_if_eq 1 6 13 rfl rfl rfl (fun c => absurd c (by decide)) (fun _ => ?_)
  refine r_aload_n 2 7 0 rfl rfl rfl ?_
  refine r_get (v := .int 0) fl_J0_22_J1 3 10 rfl rfl o1 rfl ?_
  refine r_goto 4 14 rfl rfl ?_
  exact r_iret 6 rfl rfl (by decide) k2
theorem e_J2_coder {G : Gm} {κ : Nat → Nat} {φ : Nat → Option Nat} (hS : GS G κ φ) {w : Wd} {Q : Rs → Wd → Prop} {a1 : Nat} {a2 : Nat} {x3 : Int32} {x4 : Int32} (o1 : Lk G w a1 (.inl (nJ2, [.ref a2, .int 0, .int x3, .int x4]))) (k2 : Q (.inl (some (.int 0))) w) : Ev G mJ2_coder [.ref a1] w Q := by
  show Rn G mJ2_coder 0 [(0, .ref a1)] [] w Q
  refine r_gets (v := .int 1) (hS 50) q511 0 3 rfl rfl ?_
  refine r_if_eq 1 6 13 rfl rfl rfl (fun c => absurd c (by decide)) (fun _ => ?_)
  refine r_aload_n 2 7 0 rfl rfl rfl ?_
  refine r_get (v := .int 0) fl_J2_15_J2 3 10 rfl rfl o1 rfl ?_
  refine r_goto 4 14 rfl rfl ?_
  exact r_iret 6 rfl rfl (by decide) k2
theorem e_J2_length {G : Gm} {κ : Nat → Nat} {φ : Nat → Option Nat} (hS : GS G κ φ) {w : Wd} {Q : Rs → Wd → Prop} {a1 : Nat} {a2 : Nat} {x3 : Int32} {x4 : Int32} {n5 : Nat} {g6 : Nat → Nat} (o1 : Lk G w a1 (.inl (nJ2, [.ref a2, .int 0, .int x3, .int x4]))) (o2 : Lk G w a2 (arB n5 g6)) (k3 : Q (.inl (some (.int (nI n5)))) w) : Ev G mJ2_length [.ref a1] w Q := by
  show Rn G mJ2_length 0 [(0, .ref a1)] [] w Q
  refine r_aload_n 0 1 0 rfl rfl rfl ?_
  refine r_get (v := .ref a2) fl_J2_9_J2 1 4 rfl rfl o1 rfl ?_
  refine r_alen 2 5 rfl rfl o2 ?_
  refine r_aload_n 3 6 0 rfl rfl rfl ?_
  refine r_callV lkV_J2_335_J2 (C := RJ2) (TT := TJ2) (NN := 4) rfl o1 4 9 rfl rfl (by decide) [] rfl rfl (Nat.le_of_ble_eq_true rfl) (Nat.le_of_ble_eq_true rfl) (e_J2_coder hS (o1 := o1) (k2 := ?_)) (fun _ _ h => h)
  show Rn G mJ2_length 9 [(0, .ref a1)] [.int 0, .int (nI n5)] w _
  refine r_ishr 5 10 rfl rfl ?_
  refine x_eq (y := (nI n5)) (z_shr _) ?_
  exact r_iret 6 rfl rfl rfl k3
theorem e_J2_isLatin1 {G : Gm} {κ : Nat → Nat} {φ : Nat → Option Nat} (hS : GS G κ φ) {w : Wd} {Q : Rs → Wd → Prop} {a1 : Nat} {a2 : Nat} {x3 : Int32} {x4 : Int32} (o1 : Lk G w a1 (.inl (nJ2, [.ref a2, .int 0, .int x3, .int x4]))) (k2 : Q (.inl (some (.int 1))) w) : Ev G mJ2_isLatin1 [.ref a1] w Q := by
  show Rn G mJ2_isLatin1 0 [(0, .ref a1)] [] w Q
  refine r_gets (v := .int 1) (hS 50) q511 0 3 rfl rfl ?_
  refine r_if_eq 1 6 17 rfl rfl rfl (fun c => absurd c (by decide)) (fun _ => ?_)
  refine r_aload_n 2 7 0 rfl rfl rfl ?_
  refine r_get (v := .int 0) fl_J2_15_J2 3 10 rfl rfl o1 rfl ?_
  refine r_if_ne 4 13 17 rfl rfl rfl (fun c => absurd c (by decide)) (fun _ => ?_)
  refine r_iconst 5 14 rfl rfl di_1 ?_
  refine r_goto 6 18 rfl rfl ?_
  exact r_iret 8 rfl rfl (by decide) k2
theorem e_J2_value {G : Gm} {κ : Nat → Nat} {φ : Nat → Option Nat} (hS : GS G κ φ) {w : Wd} {Q : Rs → Wd → Prop} {a1 : Nat} {a2 : Nat} {x3 : Int32} {x4 : Int32} (o1 : Lk G w a1 (.inl (nJ2, [.ref a2, .int 0, .int x3, .int x4]))) (k2 : Q (.inl (some (.ref a2))) w) : Ev G mJ2_value [.ref a1] w Q := by
  show Rn G mJ2_value 0 [(0, .ref a1)] [] w Q
  refine r_aload_n 0 1 0 rfl rfl rfl ?_
  refine r_get (v := .ref a2) fl_J2_9_J2 1 4 rfl rfl o1 rfl ?_
  exact r_aret 2 rfl rfl (Or.inr ⟨_, rfl⟩) (Or.inr ⟨_, rfl⟩) k2
theorem e_J15_min {G : Gm} {κ : Nat → Nat} {φ : Nat → Option Nat} (hS : GS G κ φ) {w : Wd} {Q : Rs → Wd → Prop} {m1 : Nat} {m2 : Nat} (bd1 : m1 < 2 ^ 31) (bd2 : m2 < 2 ^ 31) (k3 : m2 < m1 → Q (.inl (some (.int (nI m2)))) w) (k4 : ¬ m2 < m1 → Q (.inl (some (.int (nI m1)))) w) : Ev G mJ15_min [.int (nI m1), .int (nI m2)] w Q := by
  show Rn G mJ15_min 0 [(0, .int (nI m1)), (1, .int (nI m2))] [] w Q
  refine r_iload_n 0 1 0 rfl rfl rfl ?_
  refine r_iload_n 1 2 1 rfl rfl rfl ?_
  refine y_icmp_gt (a := m1) (b := m2) bd1 bd2 2 5 9 rfl rfl rfl (fun c1 => ?_) (fun c1 => ?_)
  · refine r_iload_n 5 10 1 rfl rfl rfl ?_
    exact r_iret 6 rfl rfl rfl (k3 c1)
  · refine r_iload_n 3 6 0 rfl rfl rfl ?_
    refine r_goto 4 10 rfl rfl ?_
    exact r_iret 6 rfl rfl rfl (k4 c1)
theorem e_J15_max {G : Gm} {κ : Nat → Nat} {φ : Nat → Option Nat} (hS : GS G κ φ) {w : Wd} {Q : Rs → Wd → Prop} {m1 : Nat} {m2 : Nat} (bd1 : m1 < 2 ^ 31) (bd2 : m2 < 2 ^ 31) (k3 : m1 < m2 → Q (.inl (some (.int (nI m2)))) w) (k4 : ¬ m1 < m2 → Q (.inl (some (.int (nI m1)))) w) : Ev G mJ15_max [.int (nI m1), .int (nI m2)] w Q := by
  show Rn G mJ15_max 0 [(0, .int (nI m1)), (1, .int (nI m2))] [] w Q
  refine r_iload_n 0 1 0 rfl rfl rfl ?_
  refine r_iload_n 1 2 1 rfl rfl rfl ?_
  refine y_icmp_lt (a := m1) (b := m2) bd1 bd2 2 5 9 rfl rfl rfl (fun c1 => ?_) (fun c1 => ?_)
  · refine r_iload_n 5 10 1 rfl rfl rfl ?_
    exact r_iret 6 rfl rfl rfl (k3 c1)
  · refine r_iload_n 3 6 0 rfl rfl rfl ?_
    refine r_goto 4 10 rfl rfl ?_
    exact r_iret 6 rfl rfl rfl (k4 c1)
theorem e_J17_canEncode {G : Gm} {κ : Nat → Nat} {φ : Nat → Option Nat} (hS : GS G κ φ) {w : Wd} {Q : Rs → Wd → Prop} {m1 : Nat} (bd1 : m1 < 2 ^ 31) (k2 : m1 < 0 → Q (.inl (some (.int 0))) w) (k3 : ¬ m1 < 0 → 255 < m1 → Q (.inl (some (.int 0))) w) (k4 : ¬ m1 < 0 → ¬ 255 < m1 → Q (.inl (some (.int 1))) w) : Ev G mJ17_canEncode [.int (nI m1)] w Q := by
  show Rn G mJ17_canEncode 0 [(0, .int (nI m1))] [] w Q
  refine r_iload_n 0 1 0 rfl rfl rfl ?_
  refine y_if_lt (a := m1) bd1 1 4 15 rfl rfl rfl (fun c1 => ?_) (fun c1 => ?_)
  · refine r_iconst 7 16 rfl rfl di_0 ?_
    exact r_iret 8 rfl rfl (by decide) (k2 c1)
  · refine r_iload_n 2 5 0 rfl rfl rfl ?_
    refine r_sipush 3 8 rfl rfl ds_255 ?_
    refine y_icmp_gt (a := m1) (b := 255) (by omega) (by decide) 4 11 15 rfl rfl rfl (fun c2 => ?_) (fun c2 => ?_)
    · refine r_iconst 7 16 rfl rfl di_0 ?_
      exact r_iret 8 rfl rfl (by decide) (k3 c1 c2)
    · refine r_iconst 5 12 rfl rfl di_1 ?_
      refine r_goto 6 16 rfl rfl ?_
      exact r_iret 8 rfl rfl (by decide) (k4 c1 c2)
theorem e_J17_canEncode_2 {G : Gm} {κ : Nat → Nat} {φ : Nat → Option Nat} (hS : GS G κ φ) {w : Wd} {Q : Rs → Wd → Prop} {m1 : Nat} (bd1 : m1 < 2 ^ 31) (k2 : 255 < m1 → Q (.inl (some (.int 0))) w) (k3 : ¬ 255 < m1 → Q (.inl (some (.int 1))) w) : Ev G mJ17_canEncode_2 [.int (nI m1)] w Q := by
  show Rn G mJ17_canEncode_2 0 [(0, .int (nI m1))] [] w Q
  refine r_iload_n 0 1 0 rfl rfl rfl ?_
  refine r_sipush 1 4 rfl rfl ds_255 ?_
  refine y_icmp_gt (a := m1) (b := 255) bd1 (by decide) 2 7 11 rfl rfl rfl (fun c1 => ?_) (fun c1 => ?_)
  · refine r_iconst 5 12 rfl rfl di_0 ?_
    exact r_iret 6 rfl rfl (by decide) (k2 c1)
  · refine r_iconst 3 8 rfl rfl di_1 ?_
    refine r_goto 4 12 rfl rfl ?_
    exact r_iret 6 rfl rfl (by decide) (k3 c1)
theorem e_J6_size {G : Gm} {κ : Nat → Nat} {φ : Nat → Option Nat} (hS : GS G κ φ) {w : Wd} {Q : Rs → Wd → Prop} {a1 : Nat} {x2 : Int32} {a3 : Nat} {m4 : Nat} (o1 : Lk G w a1 (.inl (nJ6, [.int x2, .ref a3, .int (nI m4)]))) (k2 : Q (.inl (some (.int (nI m4)))) w) : Ev G mJ6_size [.ref a1] w Q := by
  show Rn G mJ6_size 0 [(0, .ref a1)] [] w Q
  refine r_aload_n 0 1 0 rfl rfl rfl ?_
  refine r_get (v := .int (nI m4)) fl_J6_48_J6 1 4 rfl rfl o1 rfl ?_
  exact r_iret 2 rfl rfl rfl k2
theorem e_J8_size {G : Gm} {κ : Nat → Nat} {φ : Nat → Option Nat} (hS : GS G κ φ) {w : Wd} {Q : Rs → Wd → Prop} {a1 : Nat} {p2 : Option Nat} {p3 : Option Nat} {p4 : Option Nat} {m5 : Nat} {x6 : Int32} {p7 : Option Nat} {p8 : Option Nat} {p9 : Option Nat} (o1 : Lk G w a1 (.inl (nJ8, [va_rf p2, va_rf p3, .null, va_rf p4, .int (nI m5), .int x6, va_rf p7, va_rf p8, va_rf p9]))) (k2 : Q (.inl (some (.int (nI m5)))) w) : Ev G mJ8_size [.ref a1] w Q := by
  show Rn G mJ8_size 0 [(0, .ref a1)] [] w Q
  refine r_aload_n 0 1 0 rfl rfl rfl ?_
  refine r_get (v := .int (nI m5)) fl_J8_7_J8 1 4 rfl rfl o1 rfl ?_
  exact r_iret 2 rfl rfl rfl k2
theorem e_J20_intValue {G : Gm} {κ : Nat → Nat} {φ : Nat → Option Nat} (hS : GS G κ φ) {w : Wd} {Q : Rs → Wd → Prop} {a1 : Nat} {x2 : Int32} (o1 : Lk G w a1 (.inl (nJ20, [.int x2]))) (k2 : Q (.inl (some (.int x2))) w) : Ev G mJ20_intValue [.ref a1] w Q := by
  show Rn G mJ20_intValue 0 [(0, .ref a1)] [] w Q
  refine r_aload_n 0 1 0 rfl rfl rfl ?_
  refine r_get (v := .int x2) fl_J20_205_J20 1 4 rfl rfl o1 rfl ?_
  exact r_iret 2 rfl rfl rfl k2
theorem e_J24_ordinal {G : Gm} {κ : Nat → Nat} {φ : Nat → Option Nat} (hS : GS G κ φ) {w : Wd} {Q : Rs → Wd → Prop} {a1 : Nat} {m2 : Nat} (o1 : Lk G w a1 (.inl (nX6, [.int (nI m2)]))) (k2 : Q (.inl (some (.int (nI m2)))) w) : Ev G mJ24_ordinal [.ref a1] w Q := by
  show Rn G mJ24_ordinal 0 [(0, .ref a1)] [] w Q
  refine r_aload_n 0 1 0 rfl rfl rfl ?_
  refine r_get (v := .int (nI m2)) fl_J24_7_X6 1 4 rfl rfl o1 rfl ?_
  exact r_iret 2 rfl rfl rfl k2
theorem e_J29_getKey {G : Gm} {κ : Nat → Nat} {φ : Nat → Option Nat} (hS : GS G κ φ) {w : Wd} {Q : Rs → Wd → Prop} {a1 : Nat} {a2 : Nat} {a3 : Nat} {p4 : Option Nat} {p5 : Option Nat} {p6 : Option Nat} {x7 : Int32} (o1 : Lk G w a1 (.inl (nJ29, [.ref a2, .ref a3, va_rf p4, va_rf p5, va_rf p6, .int x7]))) (k2 : Q (.inl (some (.ref a2))) w) : Ev G mJ29_getKey [.ref a1] w Q := by
  show Rn G mJ29_getKey 0 [(0, .ref a1)] [] w Q
  refine r_aload_n 0 1 0 rfl rfl rfl ?_
  refine r_get (v := .ref a2) fl_J29_15_J29 1 4 rfl rfl o1 rfl ?_
  exact r_aret 2 rfl rfl (Or.inl ⟨_, rfl⟩) (Or.inr ⟨_, rfl⟩) k2
theorem e_J29_getValue {G : Gm} {κ : Nat → Nat} {φ : Nat → Option Nat} (hS : GS G κ φ) {w : Wd} {Q : Rs → Wd → Prop} {a1 : Nat} {a2 : Nat} {a3 : Nat} {p4 : Option Nat} {p5 : Option Nat} {p6 : Option Nat} {x7 : Int32} (o1 : Lk G w a1 (.inl (nJ29, [.ref a2, .ref a3, va_rf p4, va_rf p5, va_rf p6, .int x7]))) (k2 : Q (.inl (some (.ref a3))) w) : Ev G mJ29_getValue [.ref a1] w Q := by
  show Rn G mJ29_getValue 0 [(0, .ref a1)] [] w Q
  refine r_aload_n 0 1 0 rfl rfl rfl ?_
  refine r_get (v := .ref a3) fl_J29_19_J29 1 4 rfl rfl o1 rfl ?_
  exact r_aret 2 rfl rfl (Or.inl ⟨_, rfl⟩) (Or.inr ⟨_, rfl⟩) k2
theorem e_J20_compare {G : Gm} {κ : Nat → Nat} {φ : Nat → Option Nat} (hS : GS G κ φ) {w : Wd} {Q : Rs → Wd → Prop} {x1 : Int32} {x2 : Int32} (k1 : x2 ≤ x1 → ¬ x1 = x2 → Q (.inl (some (.int 1))) w) (k2 : x2 ≤ x1 → x1 = x2 → Q (.inl (some (.int 0))) w) (k3 : ¬ x2 ≤ x1 → Q (.inl (some (.int (-1)))) w) : Ev G mJ20_compare [.int x1, .int x2] w Q := by
  show Rn G mJ20_compare 0 [(0, .int x1), (1, .int x2)] [] w Q
  refine r_iload_n 0 1 0 rfl rfl rfl ?_
  refine r_iload_n 1 2 1 rfl rfl rfl ?_
  refine r_icmp_ge 2 5 9 rfl rfl rfl (fun c1 => ?_) (fun c1 => ?_)
  · refine r_iload_n 5 10 0 rfl rfl rfl ?_
    refine r_iload_n 6 11 1 rfl rfl rfl ?_
    refine r_icmp_ne 7 14 18 rfl rfl rfl (fun c2 => ?_) (fun c2 => ?_)
    · refine r_iconst 10 19 rfl rfl di_1 ?_
      exact r_iret 11 rfl rfl rfl (k1 c1 c2)
    · refine r_iconst 8 15 rfl rfl di_0 ?_
      refine r_goto 9 19 rfl rfl ?_
      exact r_iret 11 rfl rfl rfl (k2 c1 c2)
  · refine r_iconst 3 6 rfl rfl di_m1 ?_
    refine r_goto 4 19 rfl rfl ?_
    exact r_iret 11 rfl rfl rfl (k3 c1)
theorem e_J18_checkIndex {G : Gm} {κ : Nat → Nat} {φ : Nat → Option Nat} (hS : GS G κ φ) {w : Wd} {Q : Rs → Wd → Prop} {m1 : Nat} {m2 : Nat} {p3 : Option Nat} (bd1 : m1 < 2 ^ 31) (bd2 : m2 < 2 ^ 31) (f3 : m1 < m2) (k4 : Q (.inl (some (.int (nI m1)))) w) : Ev G mJ18_checkIndex [.int (nI m1), .int (nI m2), va_rf p3] w Q := by
  show Rn G mJ18_checkIndex 0 [(0, .int (nI m1)), (1, .int (nI m2)), (2, va_rf p3)] [] w Q
  refine r_iload_n 0 1 0 rfl rfl rfl ?_
  refine y_if_lt (a := m1) bd1 1 4 9 rfl rfl rfl (fun c => absurd c (by omega)) (fun _ => ?_)
  refine r_iload_n 2 5 0 rfl rfl rfl ?_
  refine r_iload_n 3 6 1 rfl rfl rfl ?_
  refine y_icmp_lt (a := m1) (b := m2) (by omega) bd2 4 9 16 rfl rfl rfl (fun _ => ?_) (fun c => absurd f3 c)
  refine r_iload_n 10 17 0 rfl rfl rfl ?_
  exact r_iret 11 rfl rfl rfl k4
theorem e_J2_checkIndex {G : Gm} {κ : Nat → Nat} {φ : Nat → Option Nat} (hS : GS G κ φ) {w : Wd} {Q : Rs → Wd → Prop} {m1 : Nat} {m2 : Nat} (b1 : m1 < 2 ^ 31) (b2 : m2 < 2 ^ 31) (f3 : m1 < m2) (k4 : Q (.inl none) w) : Ev G mJ2_checkIndex [.int (nI m1), .int (nI m2)] w Q := by
  show Rn G mJ2_checkIndex 0 [(0, .int (nI m1)), (1, .int (nI m2))] [] w Q
  refine r_iload_n 0 1 0 rfl rfl rfl ?_
  refine r_iload_n 1 2 1 rfl rfl rfl ?_
  refine r_gets (v := va_rf (φ 0)) (hS 53) q272 2 5 rfl rfl ?_
  cases hp3 : φ 0 with
  | none =>
    refine r_callS lkS_J2_1059 3 8 rfl rfl (by decide) [.int (nI m1), .int (nI m2), .null] rfl rfl (Nat.le_of_ble_eq_true rfl) (Nat.le_of_ble_eq_true rfl) (e_J18_checkIndex hS (p3 := none) (m2 := m2) (m1 := m1) (bd1 := b1) (bd2 := b2) (f3 := f3) (k4 := ?_)) (fun _ _ h => h)
    show Rn G mJ2_checkIndex 8 [(0, .int (nI m1)), (1, .int (nI m2))] [.int (nI m1)] w _
    refine r_pop 4 9 rfl rfl rfl ?_
    exact r_vret 5 rfl rfl k4
  | some pa3 =>
    refine r_callS lkS_J2_1059 3 8 rfl rfl (by decide) [.int (nI m1), .int (nI m2), .ref pa3] rfl rfl (Nat.le_of_ble_eq_true rfl) (Nat.le_of_ble_eq_true rfl) (e_J18_checkIndex hS (p3 := (some pa3)) (m2 := m2) (m1 := m1) (bd1 := (by omega)) (bd2 := (by omega)) (f3 := (by omega)) (k4 := ?_)) (fun _ _ h => h)
    show Rn G mJ2_checkIndex 8 [(0, .int (nI m1)), (1, .int (nI m2))] [.int (nI m1)] w _
    refine r_pop 4 9 rfl rfl rfl ?_
    exact r_vret 5 rfl rfl k4
theorem e_J25_checkIndex {G : Gm} {κ : Nat → Nat} {φ : Nat → Option Nat} (hS : GS G κ φ) {w : Wd} {Q : Rs → Wd → Prop} {m1 : Nat} {m2 : Nat} (b1 : m1 < 2 ^ 31) (b2 : m2 < 2 ^ 31) (f3 : m1 < m2) (k4 : Q (.inl (some (.int (nI m1)))) w) : Ev G mJ25_checkIndex [.int (nI m1), .int (nI m2)] w Q := by
  show Rn G mJ25_checkIndex 0 [(0, .int (nI m1)), (1, .int (nI m2))] [] w Q
  refine r_iload_n 0 1 0 rfl rfl rfl ?_
  refine r_iload_n 1 2 1 rfl rfl rfl ?_
  refine r_null 2 3 rfl rfl ?_
  refine r_callS lkS_J25_105 3 6 rfl rfl (by decide) [.int (nI m1), .int (nI m2), .null] rfl rfl (Nat.le_of_ble_eq_true rfl) (Nat.le_of_ble_eq_true rfl) (e_J18_checkIndex hS (p3 := none) (m2 := m2) (m1 := m1) (bd1 := b1) (bd2 := b2) (f3 := f3) (k4 := ?_)) (fun _ _ h => h)
  show Rn G mJ25_checkIndex 6 [(0, .int (nI m1)), (1, .int (nI m2))] [.int (nI m1)] w _
  exact r_iret 4 rfl rfl rfl k4
theorem e_J0_charAt {G : Gm} {κ : Nat → Nat} {φ : Nat → Option Nat} (hS : GS G κ φ) {w : Wd} {Q : Rs → Wd → Prop} {a1 : Nat} {m2 : Nat} {a3 : Nat} {x4 : Int32} {m5 : Nat} {n6 : Nat} {g7 : Nat → Nat} (o1 : Lk G w a1 (.inl (nJ1, [.ref a3, .int 0, .int x4, .int (nI m5)]))) (o2 : Lk G w a3 (arB n6 g7)) (b3 : m5 < 2 ^ 31) (b4 : n6 < 2 ^ 31) (f5 : ¬ n6 < m5) (b6 : m2 < 2 ^ 31) (f7 : m2 < m5) (q8 : (g7 m2) < 128) (k9 : Q (.inl (some (.int (nI (g7 m2))))) w) : Ev G mJ0_charAt [.ref a1, .int (nI m2)] w Q := by
  show Rn G mJ0_charAt 0 [(0, .ref a1), (1, .int (nI m2))] [] w Q
  refine r_aload_n 0 1 0 rfl rfl rfl ?_
  refine r_get (v := .int 0) fl_J0_22_J1 1 4 rfl rfl o1 rfl ?_
  refine r_istore_n (lv' := [(2, .int 0), (0, .ref a1), (1, .int (nI m2))]) 2 5 rfl rfl (Nat.le_of_ble_eq_true rfl) rfl ?_
  refine r_aload_n 3 6 1 rfl rfl rfl ?_
  refine r_get (v := .ref a3) fl_J0_15_J1 4 9 rfl rfl o1 rfl ?_
  refine r_astore_n (lv' := [(3, .ref a3), (2, .int 0), (0, .ref a1), (1, .int (nI m2))]) 5 10 rfl rfl (Nat.le_of_ble_eq_true rfl) rfl ?_
  refine r_aload_n 6 11 2 rfl rfl rfl ?_
  refine r_get (v := .int (nI m5)) fl_J0_79_J1 7 14 rfl rfl o1 rfl ?_
  refine r_aload_n 8 15 0 rfl rfl rfl ?_
  refine r_alen 9 16 rfl rfl o2 ?_
  refine r_iload_n 10 17 1 rfl rfl rfl ?_
  refine r_ishr 11 18 rfl rfl ?_
  refine x_eq (y := (nI n6)) (z_shr _) ?_
  refine r_callS lkS_J0_138 12 21 rfl rfl (by decide) [.int (nI m5), .int (nI n6)] rfl rfl (Nat.le_of_ble_eq_true rfl) (Nat.le_of_ble_eq_true rfl) (e_J15_min hS (m2 := n6) (m1 := m5) (bd1 := b3) (bd2 := b4) (k3 := fun z0_0 => absurd z0_0 f5) (k4 := fun z0_0 => ?_)) (fun _ _ h => h)
  show Rn G mJ0_charAt 21 [(3, .ref a3), (2, .int 0), (0, .ref a1), (1, .int (nI m2))] [.int (nI m5)] w _
  refine r_istore (lv' := [(4, .int (nI m5)), (3, .ref a3), (2, .int 0), (0, .ref a1), (1, .int (nI m2))]) 13 23 rfl rfl (Nat.le_of_ble_eq_true rfl) rfl ?_
  refine r_iload_n 14 24 4 rfl rfl rfl ?_
  refine r_iload 15 26 0 rfl rfl rfl ?_
  refine r_callS lkS_J0_144 16 29 rfl rfl (by decide) [.int (nI m2), .int (nI m5)] rfl rfl (Nat.le_of_ble_eq_true rfl) (Nat.le_of_ble_eq_true rfl) (e_J2_checkIndex hS (m2 := m5) (m1 := m2) (b1 := b6) (b2 := (by omega)) (f3 := f7) (k4 := ?_)) (fun _ _ h => h)
  show Rn G mJ0_charAt 29 [(4, .int (nI m5)), (3, .ref a3), (2, .int 0), (0, .ref a1), (1, .int (nI m2))] [] w _
  refine r_iload_n 17 30 2 rfl rfl rfl ?_
  refine r_if_ne 18 33 42 rfl rfl rfl (fun c => absurd c (by decide)) (fun _ => ?_)
  refine r_aload_n 19 34 1 rfl rfl rfl ?_
  refine r_iload_n 20 35 4 rfl rfl rfl ?_
  refine y_bald (i := m2) 21 36 rfl rfl o2 (by omega) (by omega) ?_
  refine r_sipush 22 39 rfl rfl ds_255 ?_
  refine r_iand 23 40 rfl rfl ?_
  refine x_eq (y := (nI (g7 m2))) (n_and q8) ?_
  refine x_i2c 24 41 rfl rfl (n_toC q8) ?_
  exact r_iret 25 rfl rfl (n_char q8) k9
theorem e_J1_charAt {G : Gm} {κ : Nat → Nat} {φ : Nat → Option Nat} (hS : GS G κ φ) {w : Wd} {Q : Rs → Wd → Prop} {a1 : Nat} {m2 : Nat} {a3 : Nat} {x4 : Int32} {m5 : Nat} {n6 : Nat} {g7 : Nat → Nat} (o1 : Lk G w a1 (.inl (nJ1, [.ref a3, .int 0, .int x4, .int (nI m5)]))) (o2 : Lk G w a3 (arB n6 g7)) (b3 : m5 < 2 ^ 31) (b4 : n6 < 2 ^ 31) (f5 : ¬ n6 < m5) (b6 : m2 < 2 ^ 31) (f7 : m2 < m5) (q8 : (g7 m2) < 128) (k9 : Q (.inl (some (.int (nI (g7 m2))))) w) : Ev G mJ1_charAt [.ref a1, .int (nI m2)] w Q := by
  show Rn G mJ1_charAt 0 [(0, .ref a1), (1, .int (nI m2))] [] w Q
  refine r_aload_n 0 1 0 rfl rfl rfl ?_
  refine r_iload_n 1 2 1 rfl rfl rfl ?_
  refine r_callP lkP_J1_329 (C := RJ1) (TT := TJ1) (NN := 4) rfl o1 2 5 rfl rfl (by decide) [.int (nI m2)] rfl rfl (Nat.le_of_ble_eq_true rfl) (Nat.le_of_ble_eq_true rfl) (e_J0_charAt hS (m5 := m5) (m2 := m2) (o1 := o1) (o2 := o2) (b3 := b3) (b4 := b4) (f5 := f5) (b6 := b6) (f7 := f7) (q8 := q8) (k9 := ?_)) (fun _ _ h => h)
  show Rn G mJ1_charAt 5 [(0, .ref a1), (1, .int (nI m2))] [.int (nI (g7 m2))] w _
  exact r_iret 3 rfl rfl (n_char q8) k9
theorem e_J0_init {G : Gm} {κ : Nat → Nat} {φ : Nat → Option Nat} (hS : GS G κ φ) {w : Wd} {Q : Rs → Wd → Prop} {a1 : Nat} {m2 : Nat} (b1 : m2 ≤ 536870912) (hg2 : (12 + m2) ≤ w.2.2) (o3 : w.1 a1 = some (.inl (nJ1, [.null, .int 0, .int 0, .int 0]))) (k4 : Q (.inl none) (wset (wnew w (arB m2 (fun _ => 0)) m2) a1 (.inl (nJ1, [.ref w.2.1, .int 0, .int 0, .int 0])))) : Ev G mJ0_init [.ref a1, .int (nI m2)] w Q := by
  show Rn G mJ0_init 0 [(0, .ref a1), (1, .int (nI m2))] [] w Q
  refine Rn.wok fun hwk => ?_
  refine r_aload_n 0 1 0 rfl rfl rfl ?_
  refine r_objInit q121 q111 q112 1 4 rfl rfl (by decide) (Nat.le_of_ble_eq_true rfl) ?_
  refine r_gets (v := .int 1) (hS 50) q122 2 7 rfl rfl ?_
  refine r_if_eq 3 10 25 rfl rfl rfl (fun c => absurd c (by decide)) (fun _ => ?_)
  refine r_aload_n 4 11 0 rfl rfl rfl ?_
  refine r_iload_n 5 12 1 rfl rfl rfl ?_
  refine y_newB (n := m2) 6 14 rfl rfl b1 (by have := hg2; show 12 + m2 ≤ w.2.2; omega) ?_
  show Rn G mJ0_init 14 [(0, .ref a1), (1, .int (nI m2))] [.ref w.2.1, .ref a1] (wnew w (arB m2 (fun _ => 0)) m2) _
  refine r_put (i := 0) fl_J0_15_J1 in_J1 q114 (ty0 := tyJ1) tyJ1_ok nmJ1 7 17 rfl rfl (wnew_n o3 (by have := (hwk.1 _ _ o3).2; show a1 < w.2.1; omega)) rfl rfl rfl (Nat.le_of_ble_eq_true rfl) ?_
  show Rn G mJ0_init 17 [(0, .ref a1), (1, .int (nI m2))] [] (wset (wnew w (arB m2 (fun _ => 0)) m2) a1 (.inl (nJ1, [.ref w.2.1, .int 0, .int 0, .int 0]))) _
  refine r_aload_n 8 18 0 rfl rfl rfl ?_
  refine r_iconst 9 19 rfl rfl di_0 ?_
  refine r_put (i := 1) fl_J0_22_J1 in_J1 q114 (ty0 := tyJ1) tyJ1_ok nmJ1 10 22 rfl rfl wset_s rfl rfl rfl (Nat.le_of_ble_eq_true rfl) ?_
  rw [wset_wset]
  show Rn G mJ0_init 22 [(0, .ref a1), (1, .int (nI m2))] [] (wset (wnew w (arB m2 (fun _ => 0)) m2) a1 (.inl (nJ1, [.ref w.2.1, .int 0, .int 0, .int 0]))) _
  refine r_goto 11 38 rfl rfl ?_
  exact r_vret 19 rfl rfl k4
theorem e_J1_init {G : Gm} {κ : Nat → Nat} {φ : Nat → Option Nat} (hS : GS G κ φ) {w : Wd} {Q : Rs → Wd → Prop} {a1 : Nat} (o1 : w.1 a1 = some (.inl (nJ1, [.null, .int 0, .int 0, .int 0]))) (hg2 : (12 + 16) ≤ w.2.2) (k3 : Q (.inl none) (wset (wnew w (arB 16 (fun _ => 0)) 16) a1 (.inl (nJ1, [.ref w.2.1, .int 0, .int 0, .int 0])))) : Ev G mJ1_init [.ref a1] w Q := by
  show Rn G mJ1_init 0 [(0, .ref a1)] [] w Q
  refine r_aload_n 0 1 0 rfl rfl rfl ?_
  refine r_bipush 1 3 rfl rfl db_16 ?_
  refine r_callI lkI_J1_1 2 6 rfl rfl (by decide) [.int 16] rfl rfl (Nat.le_of_ble_eq_true rfl) (Nat.le_of_ble_eq_true rfl) (e_J0_init hS (m2 := 16) (b1 := (by omega)) (hg2 := hg2) (o3 := o1) (k4 := ?_)) (fun _ _ h => h)
  show Rn G mJ1_init 6 [(0, .ref a1)] [] (wset (wnew w (arB 16 (fun _ => 0)) 16) a1 (.inl (nJ1, [.ref w.2.1, .int 0, .int 0, .int 0]))) _
  exact r_vret 3 rfl rfl k3
theorem e_J14_newLength {G : Gm} {κ : Nat → Nat} {φ : Nat → Option Nat} (hS : GS G κ φ) {w : Wd} {Q : Rs → Wd → Prop} {m1 : Nat} {m2 : Nat} {m3 : Nat} (b1 : m2 < 2 ^ 31) (b2 : m3 < 2 ^ 31) (bd3 : (m1 + m3) < 2 ^ 31) (f4 : m2 < m3 → ¬ 2147483639 < (m1 + m3)) (k5 : m2 < m3 → Q (.inl (some (.int (nI (m1 + m3))))) w) (bd6 : (m1 + m2) < 2 ^ 31) (f7 : ¬ m2 < m3 → ¬ (m1 + m2) ≤ 0) (f8 : ¬ m2 < m3 → ¬ 2147483639 < (m1 + m2)) (k9 : ¬ m2 < m3 → Q (.inl (some (.int (nI (m1 + m2))))) w) : Ev G mJ14_newLength [.int (nI m1), .int (nI m2), .int (nI m3)] w Q := by
  show Rn G mJ14_newLength 0 [(0, .int (nI m1)), (1, .int (nI m2)), (2, .int (nI m3))] [] w Q
  refine r_iload_n 0 1 0 rfl rfl rfl ?_
  refine r_iload_n 1 2 1 rfl rfl rfl ?_
  refine r_iload_n 2 3 2 rfl rfl rfl ?_
  refine r_callS lkS_J14_194 3 6 rfl rfl (by decide) [.int (nI m2), .int (nI m3)] rfl rfl (Nat.le_of_ble_eq_true rfl) (Nat.le_of_ble_eq_true rfl) (e_J15_max hS (m2 := m3) (m1 := m2) (bd1 := b1) (bd2 := b2) (k3 := fun z0_0 => ?_) (k4 := fun z0_0 => ?_)) (fun _ _ h => h)
  · show Rn G mJ14_newLength 6 [(0, .int (nI m1)), (1, .int (nI m2)), (2, .int (nI m3))] [.int (nI m3), .int (nI m1)] w _
    refine r_iadd 4 7 rfl rfl ?_
    refine x_eq (y := (nI (m1 + m3))) (nI_add _ _) ?_
    refine r_istore_n (lv' := [(3, .int (nI (m1 + m3))), (0, .int (nI m1)), (1, .int (nI m2)), (2, .int (nI m3))]) 5 8 rfl rfl (Nat.le_of_ble_eq_true rfl) rfl ?_
    refine r_iconst 6 9 rfl rfl di_0 ?_
    refine r_iload_n 7 10 0 rfl rfl rfl ?_
    refine y_icmp_ge (a := 0) (b := (m1 + m3)) (by decide) bd3 8 13 21 rfl rfl rfl (fun c => absurd c (by omega)) (fun _ => ?_)
    refine r_iload_n 9 14 0 rfl rfl rfl ?_
    refine r_ldc q444 10 16 rfl rfl ?_
    refine y_icmp_gt (a := (m1 + m3)) (b := 2147483639) (by omega) (by decide) 11 19 21 rfl rfl rfl (fun c => absurd c (f4 z0_0)) (fun _ => ?_)
    refine r_iload_n 12 20 0 rfl rfl rfl ?_
    exact r_iret 13 rfl rfl rfl (k5 z0_0)
  · show Rn G mJ14_newLength 6 [(0, .int (nI m1)), (1, .int (nI m2)), (2, .int (nI m3))] [.int (nI m2), .int (nI m1)] w _
    refine r_iadd 4 7 rfl rfl ?_
    refine x_eq (y := (nI (m1 + m2))) (nI_add _ _) ?_
    refine r_istore_n (lv' := [(3, .int (nI (m1 + m2))), (0, .int (nI m1)), (1, .int (nI m2)), (2, .int (nI m3))]) 5 8 rfl rfl (Nat.le_of_ble_eq_true rfl) rfl ?_
    refine r_iconst 6 9 rfl rfl di_0 ?_
    refine r_iload_n 7 10 0 rfl rfl rfl ?_
    refine y_icmp_ge (a := 0) (b := (m1 + m2)) (by decide) bd6 8 13 21 rfl rfl rfl (fun c => absurd c (f7 z0_0)) (fun _ => ?_)
    refine r_iload_n 9 14 0 rfl rfl rfl ?_
    refine r_ldc q444 10 16 rfl rfl ?_
    refine y_icmp_gt (a := (m1 + m2)) (b := 2147483639) (by omega) (by decide) 11 19 21 rfl rfl rfl (fun c => absurd c (f8 z0_0)) (fun _ => ?_)
    refine r_iload_n 12 20 0 rfl rfl rfl ?_
    exact r_iret 13 rfl rfl rfl (k9 z0_0)
theorem e_J0_newCapacity {G : Gm} {κ : Nat → Nat} {φ : Nat → Option Nat} (hS : GS G κ φ) {w : Wd} {Q : Rs → Wd → Prop} {a1 : Nat} {m2 : Nat} {a3 : Nat} {x4 : Int32} {m5 : Nat} {n6 : Nat} {g7 : Nat → Nat} (o1 : Lk G w a1 (.inl (nJ1, [.ref a3, .int 0, .int x4, .int (nI m5)]))) (o2 : Lk G w a3 (arB n6 g7)) (b3 : n6 ≤ m2) (b4 : (m2 - n6) < 2 ^ 31) (b5 : (n6 + 2) < 2 ^ 31) (b6 : (n6 + (n6 + 2)) < 2 ^ 31) (f7 : (m2 - n6) < (n6 + 2) → ¬ 2147483639 < (n6 + (n6 + 2))) (b8 : (n6 + (m2 - n6)) < 2 ^ 31) (f9 : ¬ (m2 - n6) < (n6 + 2) → ¬ (n6 + (m2 - n6)) ≤ 0) (f10 : ¬ (m2 - n6) < (n6 + 2) → ¬ 2147483639 < (n6 + (m2 - n6))) (k11 : (m2 - n6) < (n6 + 2) → Q (.inl (some (.int (nI (n6 + (n6 + 2)))))) w) (f12 : ¬ (m2 - n6) < (n6 + 2) → ¬ (n6 + (m2 - n6)) = 2147483647) (k13 : ¬ (m2 - n6) < (n6 + 2) → Q (.inl (some (.int (nI (n6 + (m2 - n6)))))) w) : Ev G mJ0_newCapacity [.ref a1, .int (nI m2)] w Q := by
  show Rn G mJ0_newCapacity 0 [(0, .ref a1), (1, .int (nI m2))] [] w Q
  refine r_aload_n 0 1 0 rfl rfl rfl ?_
  refine r_get (v := .ref a3) fl_J0_15_J1 1 4 rfl rfl o1 rfl ?_
  refine r_alen 2 5 rfl rfl o2 ?_
  refine r_istore_n (lv' := [(2, .int (nI n6)), (0, .ref a1), (1, .int (nI m2))]) 3 6 rfl rfl (Nat.le_of_ble_eq_true rfl) rfl ?_
  refine r_iload_n 4 7 2 rfl rfl rfl ?_
  refine r_aload_n 5 8 1 rfl rfl rfl ?_
  refine r_get (v := .int 0) fl_J0_22_J1 6 11 rfl rfl o1 rfl ?_
  refine r_ishl 7 12 rfl rfl ?_
  refine x_eq (y := (nI m2)) (z_shl _) ?_
  refine r_istore_n (lv' := [(3, .int (nI m2)), (2, .int (nI n6)), (0, .ref a1), (1, .int (nI m2))]) 8 13 rfl rfl (Nat.le_of_ble_eq_true rfl) rfl ?_
  refine r_iload_n 9 14 0 rfl rfl rfl ?_
  refine r_iload_n 10 15 1 rfl rfl rfl ?_
  refine r_isub 11 16 rfl rfl ?_
  refine x_eq (y := (nI (m2 - n6))) (pk_sub (a := m2) (b := n6) b3) ?_
  refine r_istore (lv' := [(4, .int (nI (m2 - n6))), (3, .int (nI m2)), (2, .int (nI n6)), (0, .ref a1), (1, .int (nI m2))]) 12 18 rfl rfl (Nat.le_of_ble_eq_true rfl) rfl ?_
  refine r_iload_n 13 19 2 rfl rfl rfl ?_
  refine r_iload 14 21 0 rfl rfl rfl ?_
  refine r_iload_n 15 22 2 rfl rfl rfl ?_
  refine r_iconst 16 23 rfl rfl di_2 ?_
  refine r_aload_n 17 24 3 rfl rfl rfl ?_
  refine r_get (v := .int 0) fl_J0_22_J1 18 27 rfl rfl o1 rfl ?_
  refine r_ishl 19 28 rfl rfl ?_
  refine x_eq (show (((2 : Int32) <<< ((0 : Int32) &&& 31)) : Int32) = 2 by decide) ?_
  refine r_iadd 20 29 rfl rfl ?_
  refine x_eq (y := (nI (n6 + 2))) (nI_add _ _) ?_
  refine r_callS lkS_J0_114 21 32 rfl rfl (by decide) [.int (nI n6), .int (nI (m2 - n6)), .int (nI (n6 + 2))] rfl rfl (Nat.le_of_ble_eq_true rfl) (Nat.le_of_ble_eq_true rfl) (e_J14_newLength hS (m3 := (n6 + 2)) (m2 := (m2 - n6)) (m1 := n6) (b1 := b4) (b2 := b5) (bd3 := b6) (f4 := f7) (bd6 := b8) (f7 := f9) (f8 := f10) (k5 := fun z0_0 => ?_) (k9 := fun z0_0 => ?_)) (fun _ _ h => h)
  · show Rn G mJ0_newCapacity 32 [(4, .int (nI (m2 - n6))), (3, .int (nI m2)), (2, .int (nI n6)), (0, .ref a1), (1, .int (nI m2))] [.int (nI (n6 + (n6 + 2)))] w _
    refine r_istore (lv' := [(5, .int (nI (n6 + (n6 + 2)))), (4, .int (nI (m2 - n6))), (3, .int (nI m2)), (2, .int (nI n6)), (0, .ref a1), (1, .int (nI m2))]) 22 34 rfl rfl (Nat.le_of_ble_eq_true rfl) rfl ?_
    refine r_iload 23 36 0 rfl rfl rfl ?_
    refine r_ldc q448 24 38 rfl rfl ?_
    refine y_icmp_ne (a := (n6 + (n6 + 2))) (b := 2147483647) (by omega) (by decide) 25 41 51 rfl rfl rfl (fun _ => ?_) (fun c => absurd c (by omega))
    refine r_iload 31 53 0 rfl rfl rfl ?_
    refine r_aload_n 32 54 4 rfl rfl rfl ?_
    refine r_get (v := .int 0) fl_J0_22_J1 33 57 rfl rfl o1 rfl ?_
    refine r_ishr 34 58 rfl rfl ?_
    refine x_eq (y := (nI (n6 + (n6 + 2)))) (z_shr _) ?_
    exact r_iret 35 rfl rfl rfl (k11 z0_0)
  · show Rn G mJ0_newCapacity 32 [(4, .int (nI (m2 - n6))), (3, .int (nI m2)), (2, .int (nI n6)), (0, .ref a1), (1, .int (nI m2))] [.int (nI (n6 + (m2 - n6)))] w _
    refine r_istore (lv' := [(5, .int (nI (n6 + (m2 - n6)))), (4, .int (nI (m2 - n6))), (3, .int (nI m2)), (2, .int (nI n6)), (0, .ref a1), (1, .int (nI m2))]) 22 34 rfl rfl (Nat.le_of_ble_eq_true rfl) rfl ?_
    refine r_iload 23 36 0 rfl rfl rfl ?_
    refine r_ldc q448 24 38 rfl rfl ?_
    refine y_icmp_ne (a := (n6 + (m2 - n6))) (b := 2147483647) (by omega) (by decide) 25 41 51 rfl rfl rfl (fun _ => ?_) (fun c => absurd c (f12 z0_0))
    refine r_iload 31 53 0 rfl rfl rfl ?_
    refine r_aload_n 32 54 4 rfl rfl rfl ?_
    refine r_get (v := .int 0) fl_J0_22_J1 33 57 rfl rfl o1 rfl ?_
    refine r_ishr 34 58 rfl rfl ?_
    refine x_eq (y := (nI (n6 + (m2 - n6)))) (z_shr _) ?_
    exact r_iret 35 rfl rfl rfl (k13 z0_0)
theorem e_J16_copyOf {G : Gm} {κ : Nat → Nat} {φ : Nat → Option Nat} (hS : GS G κ φ) {w : Wd} {Q : Rs → Wd → Prop} {a1 : Nat} {m2 : Nat} {n3 : Nat} {g4 : Nat → Nat} (o1 : Lk G w a1 (arB n3 g4)) (bd2 : m2 < 2 ^ 31) (bd3 : n3 < 2 ^ 31) (f4 : ¬ m2 = n3) (b5 : m2 ≤ 536870912) (hg6 : (12 + m2) ≤ w.2.2) (f7 : ¬ m2 < n3) (q8 : ∀ i, i < n3 → g4 (0 + i) < 128) (k9 : Q (.inl (some (.ref w.2.1))) (wnew w (arB m2 (va_cpy g4 (fun _ => 0) 0 0 n3)) m2)) : Ev G mJ16_copyOf [.ref a1, .int (nI m2)] w Q := by
  show Rn G mJ16_copyOf 0 [(0, .ref a1), (1, .int (nI m2))] [] w Q
  refine Rn.wok fun hwk => ?_
  refine r_iload_n 0 1 1 rfl rfl rfl ?_
  refine r_aload_n 1 2 0 rfl rfl rfl ?_
  refine r_alen 2 3 rfl rfl o1 ?_
  refine y_icmp_ne (a := m2) (b := n3) bd2 bd3 3 6 14 rfl rfl rfl (fun _ => ?_) (fun c => absurd c f4)
  refine r_iload_n 8 15 1 rfl rfl rfl ?_
  refine y_newB (n := m2) 9 17 rfl rfl b5 (by have := hg6; show 12 + m2 ≤ w.2.2; omega) ?_
  show Rn G mJ16_copyOf 17 [(0, .ref a1), (1, .int (nI m2))] [.ref w.2.1] (wnew w (arB m2 (fun _ => 0)) m2) _
  refine r_astore_n (lv' := [(2, .ref w.2.1), (0, .ref a1), (1, .int (nI m2))]) 10 18 rfl rfl (Nat.le_of_ble_eq_true rfl) rfl ?_
  refine r_aload_n 11 19 1 rfl rfl rfl ?_
  refine r_iconst 12 20 rfl rfl di_0 ?_
  refine r_aload_n 13 21 0 rfl rfl rfl ?_
  refine r_iconst 14 22 rfl rfl di_0 ?_
  refine r_aload_n 15 23 1 rfl rfl rfl ?_
  refine r_alen 16 24 rfl rfl (Lk.new_n o1 (by have := (o1.lt hwk); show a1 < w.2.1; omega)) ?_
  refine r_iload_n 17 25 2 rfl rfl rfl ?_
  refine r_callS lkS_J16_304 18 28 rfl rfl (by decide) [.int (nI n3), .int (nI m2)] rfl rfl (Nat.le_of_ble_eq_true rfl) (Nat.le_of_ble_eq_true rfl) (e_J15_min hS (m2 := m2) (m1 := n3) (bd1 := (by omega)) (bd2 := (by omega)) (k3 := fun z0_0 => absurd z0_0 f7) (k4 := fun z0_0 => ?_)) (fun _ _ h => h)
  show Rn G mJ16_copyOf 28 [(2, .ref w.2.1), (0, .ref a1), (1, .int (nI m2))] [.int (nI n3), .int 0, .ref w.2.1, .int 0, .ref a1] (wnew w (arB m2 (fun _ => 0)) m2) _
  refine y_copyB (S := 0) (D := 0) (L := n3) 19 31 rfl rfl q460 (Lk.new_n o1 (by have := (o1.lt hwk); show a1 < w.2.1; omega)) wnew_s (by omega) (by omega) (by omega) (by omega) q8 (by decide) (Nat.le_of_ble_eq_true rfl) ?_
  refine z_wn ?_
  show Rn G mJ16_copyOf 31 [(2, .ref w.2.1), (0, .ref a1), (1, .int (nI m2))] [] (wnew w (arB m2 (va_cpy g4 (fun _ => 0) 0 0 n3)) m2) _
  refine r_aload_n 20 32 0 rfl rfl rfl ?_
  exact r_aret 21 rfl rfl (Or.inr ⟨_, rfl⟩) (Or.inr ⟨_, rfl⟩) k9
theorem e_J0_ensureCapacityInternal {G : Gm} {κ : Nat → Nat} {φ : Nat → Option Nat} (hS : GS G κ φ) {w : Wd} {Q : Rs → Wd → Prop} {a1 : Nat} {m2 : Nat} {a3 : Nat} {x4 : Int32} {m5 : Nat} {n6 : Nat} {g7 : Nat → Nat} (o1 : w.1 a1 = some (.inl (nJ1, [.ref a3, .int 0, .int x4, .int (nI m5)]))) (o2 : Lk G w a3 (arB n6 g7)) (bd3 : m2 < 2 ^ 31) (bd4 : n6 < 2 ^ 31) (k5 : m2 ≤ n6 → Q (.inl none) w) (b6 : ¬ m2 ≤ n6 → (n6 + 2) < 2 ^ 31) (b7 : ¬ m2 ≤ n6 → (n6 + (n6 + 2)) < 2 ^ 31) (f8 : ¬ m2 ≤ n6 → (m2 - n6) < (n6 + 2) → ¬ 2147483639 < (n6 + (n6 + 2))) (f9 : ¬ m2 ≤ n6 → ¬ (m2 - n6) < (n6 + 2) → ¬ (n6 + (m2 - n6)) ≤ 0) (f10 : ¬ m2 ≤ n6 → ¬ (m2 - n6) < (n6 + 2) → ¬ 2147483639 < (n6 + (m2 - n6))) (f11 : ¬ m2 ≤ n6 → ¬ (m2 - n6) < (n6 + 2) → ¬ (n6 + (m2 - n6)) = 2147483647) (b12 : ¬ m2 ≤ n6 → (m2 - n6) < (n6 + 2) → (n6 + (n6 + 2)) ≤ 536870912) (hg13 : ¬ m2 ≤ n6 → (m2 - n6) < (n6 + 2) → (12 + (n6 + (n6 + 2))) ≤ w.2.2) (q14 : ¬ m2 ≤ n6 → (m2 - n6) < (n6 + 2) → ∀ i, i < n6 → g7 (0 + i) < 128) (k15 : ¬ m2 ≤ n6 → (m2 - n6) < (n6 + 2) → Q (.inl none) (wset (wnew w (arB (n6 + (n6 + 2)) (va_cpy g7 (fun _ => 0) 0 0 n6)) (n6 + (n6 + 2))) a1 (.inl (nJ1, [.ref w.2.1, .int 0, .int x4, .int (nI m5)])))) (b16 : ¬ m2 ≤ n6 → ¬ (m2 - n6) < (n6 + 2) → (n6 + (m2 - n6)) ≤ 536870912) (hg17 : ¬ m2 ≤ n6 → ¬ (m2 - n6) < (n6 + 2) → (12 + (n6 + (m2 - n6))) ≤ w.2.2) (q18 : ¬ m2 ≤ n6 → ¬ (m2 - n6) < (n6 + 2) → ∀ i, i < n6 → g7 (0 + i) < 128) (k19 : ¬ m2 ≤ n6 → ¬ (m2 - n6) < (n6 + 2) → Q (.inl none) (wset (wnew w (arB (n6 + (m2 - n6)) (va_cpy g7 (fun _ => 0) 0 0 n6)) (n6 + (m2 - n6))) a1 (.inl (nJ1, [.ref w.2.1, .int 0, .int x4, .int (nI m5)])))) : Ev G mJ0_ensureCapacityInternal [.ref a1, .int (nI m2)] w Q := by
  show Rn G mJ0_ensureCapacityInternal 0 [(0, .ref a1), (1, .int (nI m2))] [] w Q
  refine Rn.wok fun hwk => ?_
  refine r_aload_n 0 1 0 rfl rfl rfl ?_
  refine r_get (v := .ref a3) fl_J0_15_J1 1 4 rfl rfl (Or.inl o1) rfl ?_
  refine r_alen 2 5 rfl rfl o2 ?_
  refine r_aload_n 3 6 0 rfl rfl rfl ?_
  refine r_get (v := .int 0) fl_J0_22_J1 4 9 rfl rfl (Or.inl o1) rfl ?_
  refine r_ishr 5 10 rfl rfl ?_
  refine x_eq (y := (nI n6)) (z_shr _) ?_
  refine r_istore_n (lv' := [(2, .int (nI n6)), (0, .ref a1), (1, .int (nI m2))]) 6 11 rfl rfl (Nat.le_of_ble_eq_true rfl) rfl ?_
  refine r_iload_n 7 12 2 rfl rfl rfl ?_
  refine r_iload_n 8 13 0 rfl rfl rfl ?_
  refine r_isub 9 14 rfl rfl ?_
  refine y_ifD_le (a := m2) (b := n6) bd3 bd4 10 17 38 rfl rfl rfl (fun c1 => ?_) (fun c1 => ?_)
  · exact r_vret 22 rfl rfl (k5 c1)
  · refine r_aload_n 11 18 1 rfl rfl rfl ?_
    refine r_aload_n 12 19 1 rfl rfl rfl ?_
    refine r_get (v := .ref a3) fl_J0_15_J1 13 22 rfl rfl (Or.inl o1) rfl ?_
    refine r_aload_n 14 23 1 rfl rfl rfl ?_
    refine r_iload_n 15 24 2 rfl rfl rfl ?_
    refine r_callR lkR_J0_104 (C := RJ1) (TT := TJ1) (NN := 4) rfl (Or.inl o1) 16 27 rfl rfl (by decide) [.int (nI m2)] rfl rfl (Nat.le_of_ble_eq_true rfl) (Nat.le_of_ble_eq_true rfl) (e_J0_newCapacity hS (m5 := m5) (m2 := m2) (o1 := (Or.inl o1)) (o2 := o2) (b3 := (by omega)) (b4 := (by omega)) (b5 := (b6 c1)) (b6 := (b7 c1)) (f7 := (f8 c1)) (b8 := (by omega)) (f9 := (f9 c1)) (f10 := (f10 c1)) (f12 := (f11 c1)) (k11 := fun z1_0 => ?_) (k13 := fun z1_0 => ?_)) (fun _ _ h => h)
    · show Rn G mJ0_ensureCapacityInternal 27 [(2, .int (nI n6)), (0, .ref a1), (1, .int (nI m2))] [.int (nI (n6 + (n6 + 2))), .ref a3, .ref a1] w _
      refine r_aload_n 17 28 1 rfl rfl rfl ?_
      refine r_get (v := .int 0) fl_J0_22_J1 18 31 rfl rfl (Or.inl o1) rfl ?_
      refine r_ishl 19 32 rfl rfl ?_
      refine x_eq (y := (nI (n6 + (n6 + 2)))) (z_shl _) ?_
      refine r_callS lkS_J0_108 20 35 rfl rfl (by decide) [.ref a3, .int (nI (n6 + (n6 + 2)))] rfl rfl (Nat.le_of_ble_eq_true rfl) (Nat.le_of_ble_eq_true rfl) (e_J16_copyOf hS (m2 := (n6 + (n6 + 2))) (o1 := o2) (bd2 := (b7 c1)) (bd3 := (by omega)) (f4 := (by omega)) (b5 := (b12 c1 z1_0)) (hg6 := (hg13 c1 z1_0)) (f7 := (by omega)) (q8 := (q14 c1 z1_0)) (k9 := ?_)) (fun _ _ h => h)
      show Rn G mJ0_ensureCapacityInternal 35 [(2, .int (nI n6)), (0, .ref a1), (1, .int (nI m2))] [.ref w.2.1, .ref a1] (wnew w (arB (n6 + (n6 + 2)) (va_cpy g7 (fun _ => 0) 0 0 n6)) (n6 + (n6 + 2))) _
      refine r_put (i := 0) fl_J0_15_J1 in_J1 q114 (ty0 := tyJ1) tyJ1_ok nmJ1 21 38 rfl rfl (wnew_n o1 (by have := (hwk.1 _ _ o1).2; show a1 < w.2.1; omega)) rfl rfl rfl (Nat.le_of_ble_eq_true rfl) ?_
      show Rn G mJ0_ensureCapacityInternal 38 [(2, .int (nI n6)), (0, .ref a1), (1, .int (nI m2))] [] (wset (wnew w (arB (n6 + (n6 + 2)) (va_cpy g7 (fun _ => 0) 0 0 n6)) (n6 + (n6 + 2))) a1 (.inl (nJ1, [.ref w.2.1, .int 0, .int x4, .int (nI m5)]))) _
      exact r_vret 22 rfl rfl (k15 c1 z1_0)
    · show Rn G mJ0_ensureCapacityInternal 27 [(2, .int (nI n6)), (0, .ref a1), (1, .int (nI m2))] [.int (nI (n6 + (m2 - n6))), .ref a3, .ref a1] w _
      refine r_aload_n 17 28 1 rfl rfl rfl ?_
      refine r_get (v := .int 0) fl_J0_22_J1 18 31 rfl rfl (Or.inl o1) rfl ?_
      refine r_ishl 19 32 rfl rfl ?_
      refine x_eq (y := (nI (n6 + (m2 - n6)))) (z_shl _) ?_
      refine r_callS lkS_J0_108 20 35 rfl rfl (by decide) [.ref a3, .int (nI (n6 + (m2 - n6)))] rfl rfl (Nat.le_of_ble_eq_true rfl) (Nat.le_of_ble_eq_true rfl) (e_J16_copyOf hS (m2 := (n6 + (m2 - n6))) (o1 := o2) (bd2 := (by omega)) (bd3 := (by omega)) (f4 := (by omega)) (b5 := (b16 c1 z1_0)) (hg6 := (hg17 c1 z1_0)) (f7 := (by omega)) (q8 := (q18 c1 z1_0)) (k9 := ?_)) (fun _ _ h => h)
      show Rn G mJ0_ensureCapacityInternal 35 [(2, .int (nI n6)), (0, .ref a1), (1, .int (nI m2))] [.ref w.2.1, .ref a1] (wnew w (arB (n6 + (m2 - n6)) (va_cpy g7 (fun _ => 0) 0 0 n6)) (n6 + (m2 - n6))) _
      refine r_put (i := 0) fl_J0_15_J1 in_J1 q114 (ty0 := tyJ1) tyJ1_ok nmJ1 21 38 rfl rfl (wnew_n o1 (by have := (hwk.1 _ _ o1).2; show a1 < w.2.1; omega)) rfl rfl rfl (Nat.le_of_ble_eq_true rfl) ?_
      show Rn G mJ0_ensureCapacityInternal 38 [(2, .int (nI n6)), (0, .ref a1), (1, .int (nI m2))] [] (wset (wnew w (arB (n6 + (m2 - n6)) (va_cpy g7 (fun _ => 0) 0 0 n6)) (n6 + (m2 - n6))) a1 (.inl (nJ1, [.ref w.2.1, .int 0, .int x4, .int (nI m5)]))) _
      exact r_vret 22 rfl rfl (k19 c1 z1_0)
theorem e_J18_checkFromToIndex {G : Gm} {κ : Nat → Nat} {φ : Nat → Option Nat} (hS : GS G κ φ) {w : Wd} {Q : Rs → Wd → Prop} {m1 : Nat} {m2 : Nat} {m3 : Nat} {p4 : Option Nat} (bd1 : m1 < 2 ^ 31) (bd2 : m2 < 2 ^ 31) (f3 : ¬ m2 < m1) (bd4 : m3 < 2 ^ 31) (f5 : m2 ≤ m3) (k6 : Q (.inl (some (.int (nI m1)))) w) : Ev G mJ18_checkFromToIndex [.int (nI m1), .int (nI m2), .int (nI m3), va_rf p4] w Q := by
  show Rn G mJ18_checkFromToIndex 0 [(0, .int (nI m1)), (1, .int (nI m2)), (2, .int (nI m3)), (3, va_rf p4)] [] w Q
  refine r_iload_n 0 1 0 rfl rfl rfl ?_
  refine y_if_lt (a := m1) bd1 1 4 14 rfl rfl rfl (fun c => absurd c (by omega)) (fun _ => ?_)
  refine r_iload_n 2 5 0 rfl rfl rfl ?_
  refine r_iload_n 3 6 1 rfl rfl rfl ?_
  refine y_icmp_gt (a := m1) (b := m2) (by omega) bd2 4 9 14 rfl rfl rfl (fun c => absurd c f3) (fun _ => ?_)
  refine r_iload_n 5 10 1 rfl rfl rfl ?_
  refine r_iload_n 6 11 2 rfl rfl rfl ?_
  refine y_icmp_le (a := m2) (b := m3) (by omega) bd4 7 14 22 rfl rfl rfl (fun _ => ?_) (fun c => absurd f5 c)
  refine r_iload_n 14 23 0 rfl rfl rfl ?_
  exact r_iret 15 rfl rfl rfl k6
theorem e_J16_checkLength {G : Gm} {κ : Nat → Nat} {φ : Nat → Option Nat} (hS : GS G κ φ) {w : Wd} {Q : Rs → Wd → Prop} {m1 : Nat} {m2 : Nat} (bd1 : m2 < 2 ^ 31) (bd2 : m1 < 2 ^ 31) (f3 : m1 ≤ m2) (k4 : Q (.inl none) w) : Ev G mJ16_checkLength [.int (nI m1), .int (nI m2)] w Q := by
  show Rn G mJ16_checkLength 0 [(0, .int (nI m1)), (1, .int (nI m2))] [] w Q
  refine r_iload_n 0 1 1 rfl rfl rfl ?_
  refine r_iload_n 1 2 0 rfl rfl rfl ?_
  refine y_icmp_ge (a := m2) (b := m1) bd1 bd2 2 5 37 rfl rfl rfl (fun _ => ?_) (fun c => absurd f3 c)
  exact r_vret 17 rfl rfl k4
theorem e_J16_copyOfRangeByte {G : Gm} {κ : Nat → Nat} {φ : Nat → Option Nat} (hS : GS G κ φ) {w : Wd} {Q : Rs → Wd → Prop} {a1 : Nat} {m2 : Nat} {m3 : Nat} {n4 : Nat} {g5 : Nat → Nat} (b1 : m3 < 2 ^ 31) (b2 : m2 < 2 ^ 31) (f3 : m2 ≤ m3) (b4 : (m3 - m2) ≤ 536870912) (hg5 : (12 + (m3 - m2)) ≤ w.2.2) (o6 : Lk G w a1 (arB n4 g5)) (b7 : m2 ≤ n4) (b8 : (n4 - m2) < 2 ^ 31) (q9 : (m3 - m2) < (n4 - m2) → ∀ i, i < (m3 - m2) → g5 (m2 + i) < 128) (bd10 : n4 < 2 ^ 31) (k11 : (m3 - m2) < (n4 - m2) → Q (.inl (some (.ref w.2.1))) (wnew w (arB (m3 - m2) (va_cpy g5 (fun _ => 0) m2 0 (m3 - m2))) (m3 - m2))) (q12 : ¬ (m3 - m2) < (n4 - m2) → ∀ i, i < (n4 - m2) → g5 (m2 + i) < 128) (k13 : ¬ (m3 - m2) < (n4 - m2) → Q (.inl (some (.ref w.2.1))) (wnew w (arB (m3 - m2) (va_cpy g5 (fun _ => 0) m2 0 (n4 - m2))) (m3 - m2))) : Ev G mJ16_copyOfRangeByte [.ref a1, .int (nI m2), .int (nI m3)] w Q := by
  show Rn G mJ16_copyOfRangeByte 0 [(0, .ref a1), (1, .int (nI m2)), (2, .int (nI m3))] [] w Q
  refine Rn.wok fun hwk => ?_
  refine r_iload_n 0 1 1 rfl rfl rfl ?_
  refine r_iload_n 1 2 2 rfl rfl rfl ?_
  refine r_callS lkS_J16_343 2 5 rfl rfl (by decide) [.int (nI m2), .int (nI m3)] rfl rfl (Nat.le_of_ble_eq_true rfl) (Nat.le_of_ble_eq_true rfl) (e_J16_checkLength hS (m2 := m3) (m1 := m2) (bd1 := b1) (bd2 := b2) (f3 := f3) (k4 := ?_)) (fun _ _ h => h)
  show Rn G mJ16_copyOfRangeByte 5 [(0, .ref a1), (1, .int (nI m2)), (2, .int (nI m3))] [] w _
  refine r_iload_n 3 6 2 rfl rfl rfl ?_
  refine r_iload_n 4 7 1 rfl rfl rfl ?_
  refine r_isub 5 8 rfl rfl ?_
  refine x_eq (y := (nI (m3 - m2))) (pk_sub (a := m3) (b := m2) (by omega)) ?_
  refine r_istore_n (lv' := [(3, .int (nI (m3 - m2))), (0, .ref a1), (1, .int (nI m2)), (2, .int (nI m3))]) 6 9 rfl rfl (Nat.le_of_ble_eq_true rfl) rfl ?_
  refine r_iload_n 7 10 0 rfl rfl rfl ?_
  refine y_newB (n := (m3 - m2)) 8 12 rfl rfl b4 (by have := hg5; show 12 + (m3 - m2) ≤ w.2.2; omega) ?_
  show Rn G mJ16_copyOfRangeByte 12 [(3, .int (nI (m3 - m2))), (0, .ref a1), (1, .int (nI m2)), (2, .int (nI m3))] [.ref w.2.1] (wnew w (arB (m3 - m2) (fun _ => 0)) (m3 - m2)) _
  refine r_astore (lv' := [(4, .ref w.2.1), (3, .int (nI (m3 - m2))), (0, .ref a1), (1, .int (nI m2)), (2, .int (nI m3))]) 9 14 rfl rfl (Nat.le_of_ble_eq_true rfl) rfl ?_
  refine r_aload_n 10 15 2 rfl rfl rfl ?_
  refine r_iload_n 11 16 3 rfl rfl rfl ?_
  refine r_aload 12 18 0 rfl rfl rfl ?_
  refine r_iconst 13 19 rfl rfl di_0 ?_
  refine r_aload_n 14 20 2 rfl rfl rfl ?_
  refine r_alen 15 21 rfl rfl (Lk.new_n o6 (by have := (o6.lt hwk); show a1 < w.2.1; omega)) ?_
  refine r_iload_n 16 22 3 rfl rfl rfl ?_
  refine r_isub 17 23 rfl rfl ?_
  refine x_eq (y := (nI (n4 - m2))) (pk_sub (a := n4) (b := m2) b7) ?_
  refine r_iload_n 18 24 1 rfl rfl rfl ?_
  refine r_callS lkS_J16_304 19 27 rfl rfl (by decide) [.int (nI (n4 - m2)), .int (nI (m3 - m2))] rfl rfl (Nat.le_of_ble_eq_true rfl) (Nat.le_of_ble_eq_true rfl) (e_J15_min hS (m2 := (m3 - m2)) (m1 := (n4 - m2)) (bd1 := b8) (bd2 := (by omega)) (k3 := fun z0_0 => ?_) (k4 := fun z0_0 => ?_)) (fun _ _ h => h)
  · show Rn G mJ16_copyOfRangeByte 27 [(4, .ref w.2.1), (3, .int (nI (m3 - m2))), (0, .ref a1), (1, .int (nI m2)), (2, .int (nI m3))] [.int (nI (m3 - m2)), .int 0, .ref w.2.1, .int (nI m2), .ref a1] (wnew w (arB (m3 - m2) (fun _ => 0)) (m3 - m2)) _
    refine y_copyB (S := m2) (D := 0) (L := (m3 - m2)) 20 30 rfl rfl q460 (Lk.new_n o6 (by have := (o6.lt hwk); show a1 < w.2.1; omega)) wnew_s (by omega) (by omega) bd10 (by omega) (q9 z0_0) (by decide) (Nat.le_of_ble_eq_true rfl) ?_
    refine z_wn ?_
    show Rn G mJ16_copyOfRangeByte 30 [(4, .ref w.2.1), (3, .int (nI (m3 - m2))), (0, .ref a1), (1, .int (nI m2)), (2, .int (nI m3))] [] (wnew w (arB (m3 - m2) (va_cpy g5 (fun _ => 0) m2 0 (m3 - m2))) (m3 - m2)) _
    refine r_aload 21 32 0 rfl rfl rfl ?_
    exact r_aret 22 rfl rfl (Or.inr ⟨_, rfl⟩) (Or.inr ⟨_, rfl⟩) (k11 z0_0)
  · show Rn G mJ16_copyOfRangeByte 27 [(4, .ref w.2.1), (3, .int (nI (m3 - m2))), (0, .ref a1), (1, .int (nI m2)), (2, .int (nI m3))] [.int (nI (n4 - m2)), .int 0, .ref w.2.1, .int (nI m2), .ref a1] (wnew w (arB (m3 - m2) (fun _ => 0)) (m3 - m2)) _
    refine y_copyB (S := m2) (D := 0) (L := (n4 - m2)) 20 30 rfl rfl q460 (Lk.new_n o6 (by have := (o6.lt hwk); show a1 < w.2.1; omega)) wnew_s (by omega) (by omega) (by omega) (by omega) (q12 z0_0) (by decide) (Nat.le_of_ble_eq_true rfl) ?_
    refine z_wn ?_
    show Rn G mJ16_copyOfRangeByte 30 [(4, .ref w.2.1), (3, .int (nI (m3 - m2))), (0, .ref a1), (1, .int (nI m2)), (2, .int (nI m3))] [] (wnew w (arB (m3 - m2) (va_cpy g5 (fun _ => 0) m2 0 (n4 - m2))) (m3 - m2)) _
    refine r_aload 21 32 0 rfl rfl rfl ?_
    exact r_aret 22 rfl rfl (Or.inr ⟨_, rfl⟩) (Or.inr ⟨_, rfl⟩) (k13 z0_0)
theorem e_J16_copyOfRange {G : Gm} {κ : Nat → Nat} {φ : Nat → Option Nat} (hS : GS G κ φ) {w : Wd} {Q : Rs → Wd → Prop} {a1 : Nat} {m2 : Nat} {m3 : Nat} {n4 : Nat} {g5 : Nat → Nat} (bd1 : m2 < 2 ^ 31) (o2 : w.1 a1 = some (arB n4 g5)) (b3 : ¬ m2 = 0 → m3 < 2 ^ 31) (f4 : ¬ m2 = 0 → m2 ≤ m3) (b5 : ¬ m2 = 0 → (m3 - m2) ≤ 536870912) (hg6 : ¬ m2 = 0 → (12 + (m3 - m2)) ≤ w.2.2) (b7 : ¬ m2 = 0 → m2 ≤ n4) (b8 : ¬ m2 = 0 → (n4 - m2) < 2 ^ 31) (q9 : ¬ m2 = 0 → (m3 - m2) < (n4 - m2) → ∀ i, i < (m3 - m2) → g5 (m2 + i) < 128) (b10 : ¬ m2 = 0 → n4 < 2 ^ 31) (q11 : ¬ m2 = 0 → ¬ (m3 - m2) < (n4 - m2) → ∀ i, i < (n4 - m2) → g5 (m2 + i) < 128) (k12 : ¬ m2 = 0 → (m3 - m2) < (n4 - m2) → Q (.inl (some (.ref w.2.1))) (wnew w (arB (m3 - m2) (va_cpy g5 (fun _ => 0) m2 0 (m3 - m2))) (m3 - m2))) (k13 : ¬ m2 = 0 → ¬ (m3 - m2) < (n4 - m2) → Q (.inl (some (.ref w.2.1))) (wnew w (arB (m3 - m2) (va_cpy g5 (fun _ => 0) m2 0 (n4 - m2))) (m3 - m2))) (bd14 : m3 < 2 ^ 31) (bd15 : n4 < 2 ^ 31) (q16 : m2 = 0 → m3 = n4 → ∀ i, i < n4 → g5 i < 128) (hg17 : (12 + n4) ≤ w.2.2) (k18 : m2 = 0 → m3 = n4 → Q (.inl (some (.ref w.2.1))) (wnew w (arB n4 g5) n4)) (b19 : m2 = 0 → ¬ m3 = n4 → (m3 - m2) ≤ 536870912) (hg20 : m2 = 0 → ¬ m3 = n4 → (12 + (m3 - m2)) ≤ w.2.2) (q21 : m2 = 0 → ¬ m3 = n4 → (m3 - m2) < (n4 - m2) → ∀ i, i < (m3 - m2) → g5 (m2 + i) < 128) (q22 : m2 = 0 → ¬ m3 = n4 → ¬ (m3 - m2) < (n4 - m2) → ∀ i, i < (n4 - m2) → g5 (m2 + i) < 128) (k23 : m2 = 0 → ¬ m3 = n4 → (m3 - m2) < (n4 - m2) → Q (.inl (some (.ref w.2.1))) (wnew w (arB (m3 - m2) (va_cpy g5 (fun _ => 0) m2 0 (m3 - m2))) (m3 - m2))) (k24 : m2 = 0 → ¬ m3 = n4 → ¬ (m3 - m2) < (n4 - m2) → Q (.inl (some (.ref w.2.1))) (wnew w (arB (m3 - m2) (va_cpy g5 (fun _ => 0) m2 0 (n4 - m2))) (m3 - m2))) : Ev G mJ16_copyOfRange [.ref a1, .int (nI m2), .int (nI m3)] w Q := by
  show Rn G mJ16_copyOfRange 0 [(0, .ref a1), (1, .int (nI m2)), (2, .int (nI m3))] [] w Q
  refine r_iload_n 0 1 1 rfl rfl rfl ?_
  refine y_if_ne (a := m2) bd1 1 4 10 rfl rfl rfl (fun c1 => ?_) (fun c1 => ?_)
  · refine r_aload_n 6 11 0 rfl rfl rfl ?_
    refine r_iload_n 7 12 1 rfl rfl rfl ?_
    refine r_iload_n 8 13 2 rfl rfl rfl ?_
    refine r_callS lkS_J16_339 9 16 rfl rfl (by decide) [.ref a1, .int (nI m2), .int (nI m3)] rfl rfl (Nat.le_of_ble_eq_true rfl) (Nat.le_of_ble_eq_true rfl) (e_J16_copyOfRangeByte hS (m3 := m3) (m2 := m2) (b1 := (b3 c1)) (b2 := (by omega)) (f3 := (f4 c1)) (b4 := (b5 c1)) (hg5 := (hg6 c1)) (o6 := (Or.inl o2)) (b7 := (b7 c1)) (b8 := (b8 c1)) (q9 := (q9 c1)) (bd10 := (b10 c1)) (q12 := (q11 c1)) (k11 := fun z1_0 => ?_) (k13 := fun z1_0 => ?_)) (fun _ _ h => h)
    · show Rn G mJ16_copyOfRange 16 [(0, .ref a1), (1, .int (nI m2)), (2, .int (nI m3))] [.ref w.2.1] (wnew w (arB (m3 - m2) (va_cpy g5 (fun _ => 0) m2 0 (m3 - m2))) (m3 - m2)) _
      exact r_aret 10 rfl rfl (Or.inr ⟨_, rfl⟩) (Or.inr ⟨_, rfl⟩) (k12 c1 z1_0)
    · show Rn G mJ16_copyOfRange 16 [(0, .ref a1), (1, .int (nI m2)), (2, .int (nI m3))] [.ref w.2.1] (wnew w (arB (m3 - m2) (va_cpy g5 (fun _ => 0) m2 0 (n4 - m2))) (m3 - m2)) _
      exact r_aret 10 rfl rfl (Or.inr ⟨_, rfl⟩) (Or.inr ⟨_, rfl⟩) (k13 c1 z1_0)
  · refine r_iload_n 2 5 2 rfl rfl rfl ?_
    refine r_aload_n 3 6 0 rfl rfl rfl ?_
    refine r_alen 4 7 rfl rfl (Or.inl o2) ?_
    refine y_icmp_eq (a := m3) (b := n4) bd14 bd15 5 10 17 rfl rfl rfl (fun c2 => ?_) (fun c2 => ?_)
    · refine r_aload_n 11 18 0 rfl rfl rfl ?_
      refine y_cloneB 12 21 rfl rfl q452 q453 q456 q457 o2 (q16 c1 c2) (by decide) (Nat.le_of_ble_eq_true rfl) (by have := hg17; show 12 + n4 ≤ w.2.2; omega) ?_
      show Rn G mJ16_copyOfRange 21 [(0, .ref a1), (1, .int (nI m2)), (2, .int (nI m3))] [.ref w.2.1] (wnew w (arB n4 g5) n4) _
      refine r_castP (ad := "[B") q458 (by decide) (fun U c h => va_nm_byte h) 13 24 rfl rfl wnew_s ?_
      exact r_aret 14 rfl rfl (Or.inr ⟨_, rfl⟩) (Or.inr ⟨_, rfl⟩) (k18 c1 c2)
    · refine r_aload_n 6 11 0 rfl rfl rfl ?_
      refine r_iload_n 7 12 1 rfl rfl rfl ?_
      refine r_iload_n 8 13 2 rfl rfl rfl ?_
      refine r_callS lkS_J16_339 9 16 rfl rfl (by decide) [.ref a1, .int (nI m2), .int (nI m3)] rfl rfl (Nat.le_of_ble_eq_true rfl) (Nat.le_of_ble_eq_true rfl) (e_J16_copyOfRangeByte hS (m3 := m3) (m2 := m2) (b1 := (by omega)) (b2 := (by omega)) (f3 := (by omega)) (b4 := (b19 c1 c2)) (hg5 := (hg20 c1 c2)) (o6 := (Or.inl o2)) (b7 := (by omega)) (b8 := (by omega)) (q9 := (q21 c1 c2)) (bd10 := (by omega)) (q12 := (q22 c1 c2)) (k11 := fun z2_0 => ?_) (k13 := fun z2_0 => ?_)) (fun _ _ h => h)
      · show Rn G mJ16_copyOfRange 16 [(0, .ref a1), (1, .int (nI m2)), (2, .int (nI m3))] [.ref w.2.1] (wnew w (arB (m3 - m2) (va_cpy g5 (fun _ => 0) m2 0 (m3 - m2))) (m3 - m2)) _
        exact r_aret 10 rfl rfl (Or.inr ⟨_, rfl⟩) (Or.inr ⟨_, rfl⟩) (k23 c1 c2 z2_0)
      · show Rn G mJ16_copyOfRange 16 [(0, .ref a1), (1, .int (nI m2)), (2, .int (nI m3))] [.ref w.2.1] (wnew w (arB (m3 - m2) (va_cpy g5 (fun _ => 0) m2 0 (n4 - m2))) (m3 - m2)) _
        exact r_aret 10 rfl rfl (Or.inr ⟨_, rfl⟩) (Or.inr ⟨_, rfl⟩) (k24 c1 c2 z2_0)
theorem e_J2_init_3 {G : Gm} {κ : Nat → Nat} {φ : Nat → Option Nat} (hS : GS G κ φ) {w : Wd} {Q : Rs → Wd → Prop} {a1 : Nat} {a2 : Nat} (o1 : w.1 a1 = some (.inl (nJ2, [.null, .int 0, .int 0, .int 0]))) (k2 : Q (.inl none) (wset w a1 (.inl (nJ2, [.ref a2, .int 0, .int 0, .int 0])))) : Ev G mJ2_init_3 [.ref a1, .ref a2, .int 0] w Q := by
  show Rn G mJ2_init_3 0 [(0, .ref a1), (1, .ref a2), (2, .int 0)] [] w Q
  refine r_aload_n 0 1 0 rfl rfl rfl ?_
  refine r_objInit q557 q111 q112 1 4 rfl rfl (by decide) (Nat.le_of_ble_eq_true rfl) ?_
  refine r_aload_n 2 5 0 rfl rfl rfl ?_
  refine r_aload_n 3 6 1 rfl rfl rfl ?_
  refine r_putF (i := 0) fl_J2_9_J2 in_J2 q397 (ty0 := tyJ2) tyJ2_ok nmJ2 4 9 rfl rfl o1 rfl rfl rfl rfl rfl (Nat.le_of_ble_eq_true rfl) ?_
  show Rn G mJ2_init_3 9 [(0, .ref a1), (1, .ref a2), (2, .int 0)] [] (wset w a1 (.inl (nJ2, [.ref a2, .int 0, .int 0, .int 0]))) _
  refine r_aload_n 5 10 0 rfl rfl rfl ?_
  refine r_iload_n 6 11 2 rfl rfl rfl ?_
  refine r_putF (i := 1) fl_J2_15_J2 in_J2 q397 (ty0 := tyJ2) tyJ2_ok nmJ2 7 14 rfl rfl wset_s rfl rfl rfl rfl rfl (Nat.le_of_ble_eq_true rfl) ?_
  rw [wset_wset]
  show Rn G mJ2_init_3 14 [(0, .ref a1), (1, .ref a2), (2, .int 0)] [] (wset w a1 (.inl (nJ2, [.ref a2, .int 0, .int 0, .int 0]))) _
  exact r_vret 8 rfl rfl k2
theorem e_J17_newString {G : Gm} {κ : Nat → Nat} {φ : Nat → Option Nat} (hS : GS G κ φ) {w : Wd} {Q : Rs → Wd → Prop} {a1 : Nat} {m2 : Nat} {m3 : Nat} {n4 : Nat} {g5 : Nat → Nat} (bd1 : m3 < 2 ^ 31) (hg : 16 ≤ w.2.2) (o2 : w.1 a1 = some (arB n4 g5)) (b3 : ¬ m3 = 0 → m2 < 2 ^ 31) (b4 : ¬ m3 = 0 → ¬ m2 = 0 → (m2 + m3) < 2 ^ 31) (f5 : ¬ m3 = 0 → ¬ m2 = 0 → m2 ≤ (m2 + m3)) (b6 : ¬ m3 = 0 → ¬ m2 = 0 → ((m2 + m3) - m2) ≤ 536870912) (hg7 : ¬ m3 = 0 → ¬ m2 = 0 → (12 + ((m2 + m3) - m2)) ≤ w.2.2 - (12 + 4)) (b8 : ¬ m3 = 0 → ¬ m2 = 0 → m2 ≤ n4) (b9 : ¬ m3 = 0 → ¬ m2 = 0 → (n4 - m2) < 2 ^ 31) (q10 : ¬ m3 = 0 → ¬ m2 = 0 → ((m2 + m3) - m2) < (n4 - m2) → ∀ i, i < ((m2 + m3) - m2) → g5 (m2 + i) < 128) (b11 : ¬ m3 = 0 → ¬ m2 = 0 → n4 < 2 ^ 31) (q12 : ¬ m3 = 0 → ¬ m2 = 0 → ¬ ((m2 + m3) - m2) < (n4 - m2) → ∀ i, i < (n4 - m2) → g5 (m2 + i) < 128) (b13 : ¬ m3 = 0 → (m2 + m3) < 2 ^ 31) (b14 : ¬ m3 = 0 → n4 < 2 ^ 31) (q15 : ¬ m3 = 0 → m2 = 0 → (m2 + m3) = n4 → ∀ i, i < n4 → g5 i < 128) (hg16 : ¬ m3 = 0 → (12 + n4) ≤ w.2.2 - (12 + 4)) (b17 : ¬ m3 = 0 → m2 = 0 → ¬ (m2 + m3) = n4 → ((m2 + m3) - m2) ≤ 536870912) (hg18 : ¬ m3 = 0 → m2 = 0 → ¬ (m2 + m3) = n4 → (12 + ((m2 + m3) - m2)) ≤ w.2.2 - (12 + 4)) (q19 : ¬ m3 = 0 → m2 = 0 → ¬ (m2 + m3) = n4 → ((m2 + m3) - m2) < (n4 - m2) → ∀ i, i < ((m2 + m3) - m2) → g5 (m2 + i) < 128) (q20 : ¬ m3 = 0 → m2 = 0 → ¬ (m2 + m3) = n4 → ¬ ((m2 + m3) - m2) < (n4 - m2) → ∀ i, i < (n4 - m2) → g5 (m2 + i) < 128) (k21 : ¬ m3 = 0 → ¬ m2 = 0 → ((m2 + m3) - m2) < (n4 - m2) → Q (.inl (some (.ref w.2.1))) (wset (wnew (wnew w (.inl (nJ2, [.null, .int 0, .int 0, .int 0])) 4) (arB ((m2 + m3) - m2) (va_cpy g5 (fun _ => 0) m2 0 ((m2 + m3) - m2))) ((m2 + m3) - m2)) w.2.1 (.inl (nJ2, [.ref (w.2.1 + 1), .int 0, .int 0, .int 0])))) (k22 : ¬ m3 = 0 → ¬ m2 = 0 → ¬ ((m2 + m3) - m2) < (n4 - m2) → Q (.inl (some (.ref w.2.1))) (wset (wnew (wnew w (.inl (nJ2, [.null, .int 0, .int 0, .int 0])) 4) (arB ((m2 + m3) - m2) (va_cpy g5 (fun _ => 0) m2 0 (n4 - m2))) ((m2 + m3) - m2)) w.2.1 (.inl (nJ2, [.ref (w.2.1 + 1), .int 0, .int 0, .int 0])))) (k23 : ¬ m3 = 0 → m2 = 0 → (m2 + m3) = n4 → Q (.inl (some (.ref w.2.1))) (wset (wnew (wnew w (.inl (nJ2, [.null, .int 0, .int 0, .int 0])) 4) (arB n4 g5) n4) w.2.1 (.inl (nJ2, [.ref (w.2.1 + 1), .int 0, .int 0, .int 0])))) (k24 : ¬ m3 = 0 → m2 = 0 → ¬ (m2 + m3) = n4 → ((m2 + m3) - m2) < (n4 - m2) → Q (.inl (some (.ref w.2.1))) (wset (wnew (wnew w (.inl (nJ2, [.null, .int 0, .int 0, .int 0])) 4) (arB ((m2 + m3) - m2) (va_cpy g5 (fun _ => 0) m2 0 ((m2 + m3) - m2))) ((m2 + m3) - m2)) w.2.1 (.inl (nJ2, [.ref (w.2.1 + 1), .int 0, .int 0, .int 0])))) (k25 : ¬ m3 = 0 → m2 = 0 → ¬ (m2 + m3) = n4 → ¬ ((m2 + m3) - m2) < (n4 - m2) → Q (.inl (some (.ref w.2.1))) (wset (wnew (wnew w (.inl (nJ2, [.null, .int 0, .int 0, .int 0])) 4) (arB ((m2 + m3) - m2) (va_cpy g5 (fun _ => 0) m2 0 (n4 - m2))) ((m2 + m3) - m2)) w.2.1 (.inl (nJ2, [.ref (w.2.1 + 1), .int 0, .int 0, .int 0])))) (k26 : m3 = 0 → Q (.inl (some (.ref (κ 32)))) w) : Ev G mJ17_newString [.ref a1, .int (nI m2), .int (nI m3)] w Q := by
  show Rn G mJ17_newString 0 [(0, .ref a1), (1, .int (nI m2)), (2, .int (nI m3))] [] w Q
  refine Rn.wok fun hwk => ?_
  refine r_iload_n 0 1 2 rfl rfl rfl ?_
  refine y_if_ne (a := m3) bd1 1 4 7 rfl rfl rfl (fun c1 => ?_) (fun c1 => ?_)
  · refine r_new (fs := [.null, .int 0, .int 0, .int 0]) (ty := tyJ2) (T := TJ2) (C := RJ2) (N := 4) (ci := nJ2) (n := 4) 4 10 rfl rfl rfl in_J2 tyJ2_ok q396 q397 q63 rfl (by decide) (by show 12 + 4 ≤ w.2.2; omega) ?_
    show Rn G mJ17_newString 10 [(0, .ref a1), (1, .int (nI m2)), (2, .int (nI m3))] [.ref w.2.1] (wnew w (.inl (nJ2, [.null, .int 0, .int 0, .int 0])) 4) _
    refine r_dup 5 11 rfl rfl rfl ?_
    refine r_aload_n 6 12 0 rfl rfl rfl ?_
    refine r_iload_n 7 13 1 rfl rfl rfl ?_
    refine r_iload_n 8 14 1 rfl rfl rfl ?_
    refine r_iload_n 9 15 2 rfl rfl rfl ?_
    refine r_iadd 10 16 rfl rfl ?_
    refine x_eq (y := (nI (m2 + m3))) (nI_add _ _) ?_
    refine r_callS lkS_J17_232 11 19 rfl rfl (by decide) [.ref a1, .int (nI m2), .int (nI (m2 + m3))] rfl rfl (Nat.le_of_ble_eq_true rfl) (Nat.le_of_ble_eq_true rfl) (e_J16_copyOfRange hS (m3 := (m2 + m3)) (m2 := m2) (bd1 := (b3 c1)) (o2 := (wnew_n o2 (by have := (hwk.1 _ _ o2).2; show a1 < w.2.1; omega))) (b3 := (b4 c1)) (f4 := (f5 c1)) (b5 := (b6 c1)) (hg6 := (hg7 c1)) (b7 := (b8 c1)) (b8 := (b9 c1)) (q9 := (q10 c1)) (b10 := (b11 c1)) (q11 := (q12 c1)) (bd14 := (b13 c1)) (bd15 := (b14 c1)) (q16 := (q15 c1)) (hg17 := (hg16 c1)) (b19 := (b17 c1)) (hg20 := (hg18 c1)) (q21 := (q19 c1)) (q22 := (q20 c1)) (k12 := fun z1_0 => fun z1_1 => ?_) (k13 := fun z1_0 => fun z1_1 => ?_) (k18 := fun z1_0 => fun z1_1 => ?_) (k23 := fun z1_0 => fun z1_1 => fun z1_2 => ?_) (k24 := fun z1_0 => fun z1_1 => fun z1_2 => ?_)) (fun _ _ h => h)
    · show Rn G mJ17_newString 19 [(0, .ref a1), (1, .int (nI m2)), (2, .int (nI m3))] [.ref (w.2.1 + 1), .ref w.2.1, .ref w.2.1] (wnew (wnew w (.inl (nJ2, [.null, .int 0, .int 0, .int 0])) 4) (arB ((m2 + m3) - m2) (va_cpy g5 (fun _ => 0) m2 0 ((m2 + m3) - m2))) ((m2 + m3) - m2)) _
      refine r_iconst 12 20 rfl rfl di_0 ?_
      refine r_callI lkI_J17_112 13 23 rfl rfl (by decide) [.ref (w.2.1 + 1), .int 0] rfl rfl (Nat.le_of_ble_eq_true rfl) (Nat.le_of_ble_eq_true rfl) (e_J2_init_3 hS (o1 := (wnew_n wnew_s (by show w.2.1 < (w.2.1 + 1); omega))) (k2 := ?_)) (fun _ _ h => h)
      show Rn G mJ17_newString 23 [(0, .ref a1), (1, .int (nI m2)), (2, .int (nI m3))] [.ref w.2.1] (wset (wnew (wnew w (.inl (nJ2, [.null, .int 0, .int 0, .int 0])) 4) (arB ((m2 + m3) - m2) (va_cpy g5 (fun _ => 0) m2 0 ((m2 + m3) - m2))) ((m2 + m3) - m2)) w.2.1 (.inl (nJ2, [.ref (w.2.1 + 1), .int 0, .int 0, .int 0]))) _
      exact r_aret 14 rfl rfl (Or.inl ⟨_, rfl⟩) (Or.inr ⟨_, rfl⟩) (k21 c1 z1_0 z1_1)
    · show Rn G mJ17_newString 19 [(0, .ref a1), (1, .int (nI m2)), (2, .int (nI m3))] [.ref (w.2.1 + 1), .ref w.2.1, .ref w.2.1] (wnew (wnew w (.inl (nJ2, [.null, .int 0, .int 0, .int 0])) 4) (arB ((m2 + m3) - m2) (va_cpy g5 (fun _ => 0) m2 0 (n4 - m2))) ((m2 + m3) - m2)) _
      refine r_iconst 12 20 rfl rfl di_0 ?_
      refine r_callI lkI_J17_112 13 23 rfl rfl (by decide) [.ref (w.2.1 + 1), .int 0] rfl rfl (Nat.le_of_ble_eq_true rfl) (Nat.le_of_ble_eq_true rfl) (e_J2_init_3 hS (o1 := (wnew_n wnew_s (by show w.2.1 < (w.2.1 + 1); omega))) (k2 := ?_)) (fun _ _ h => h)
      show Rn G mJ17_newString 23 [(0, .ref a1), (1, .int (nI m2)), (2, .int (nI m3))] [.ref w.2.1] (wset (wnew (wnew w (.inl (nJ2, [.null, .int 0, .int 0, .int 0])) 4) (arB ((m2 + m3) - m2) (va_cpy g5 (fun _ => 0) m2 0 (n4 - m2))) ((m2 + m3) - m2)) w.2.1 (.inl (nJ2, [.ref (w.2.1 + 1), .int 0, .int 0, .int 0]))) _
      exact r_aret 14 rfl rfl (Or.inl ⟨_, rfl⟩) (Or.inr ⟨_, rfl⟩) (k22 c1 z1_0 z1_1)
    · show Rn G mJ17_newString 19 [(0, .ref a1), (1, .int (nI m2)), (2, .int (nI m3))] [.ref (w.2.1 + 1), .ref w.2.1, .ref w.2.1] (wnew (wnew w (.inl (nJ2, [.null, .int 0, .int 0, .int 0])) 4) (arB n4 g5) n4) _
      refine r_iconst 12 20 rfl rfl di_0 ?_
      refine r_callI lkI_J17_112 13 23 rfl rfl (by decide) [.ref (w.2.1 + 1), .int 0] rfl rfl (Nat.le_of_ble_eq_true rfl) (Nat.le_of_ble_eq_true rfl) (e_J2_init_3 hS (o1 := (wnew_n wnew_s (by show w.2.1 < (w.2.1 + 1); omega))) (k2 := ?_)) (fun _ _ h => h)
      show Rn G mJ17_newString 23 [(0, .ref a1), (1, .int (nI m2)), (2, .int (nI m3))] [.ref w.2.1] (wset (wnew (wnew w (.inl (nJ2, [.null, .int 0, .int 0, .int 0])) 4) (arB n4 g5) n4) w.2.1 (.inl (nJ2, [.ref (w.2.1 + 1), .int 0, .int 0, .int 0]))) _
      exact r_aret 14 rfl rfl (Or.inl ⟨_, rfl⟩) (Or.inr ⟨_, rfl⟩) (k23 c1 z1_0 z1_1)
    · show Rn G mJ17_newString 19 [(0, .ref a1), (1, .int (nI m2)), (2, .int (nI m3))] [.ref (w.2.1 + 1), .ref w.2.1, .ref w.2.1] (wnew (wnew w (.inl (nJ2, [.null, .int 0, .int 0, .int 0])) 4) (arB ((m2 + m3) - m2) (va_cpy g5 (fun _ => 0) m2 0 ((m2 + m3) - m2))) ((m2 + m3) - m2)) _
      refine r_iconst 12 20 rfl rfl di_0 ?_
      refine r_callI lkI_J17_112 13 23 rfl rfl (by decide) [.ref (w.2.1 + 1), .int 0] rfl rfl (Nat.le_of_ble_eq_true rfl) (Nat.le_of_ble_eq_true rfl) (e_J2_init_3 hS (o1 := (wnew_n wnew_s (by show w.2.1 < (w.2.1 + 1); omega))) (k2 := ?_)) (fun _ _ h => h)
      show Rn G mJ17_newString 23 [(0, .ref a1), (1, .int (nI m2)), (2, .int (nI m3))] [.ref w.2.1] (wset (wnew (wnew w (.inl (nJ2, [.null, .int 0, .int 0, .int 0])) 4) (arB ((m2 + m3) - m2) (va_cpy g5 (fun _ => 0) m2 0 ((m2 + m3) - m2))) ((m2 + m3) - m2)) w.2.1 (.inl (nJ2, [.ref (w.2.1 + 1), .int 0, .int 0, .int 0]))) _
      exact r_aret 14 rfl rfl (Or.inl ⟨_, rfl⟩) (Or.inr ⟨_, rfl⟩) (k24 c1 z1_0 z1_1 z1_2)
    · show Rn G mJ17_newString 19 [(0, .ref a1), (1, .int (nI m2)), (2, .int (nI m3))] [.ref (w.2.1 + 1), .ref w.2.1, .ref w.2.1] (wnew (wnew w (.inl (nJ2, [.null, .int 0, .int 0, .int 0])) 4) (arB ((m2 + m3) - m2) (va_cpy g5 (fun _ => 0) m2 0 (n4 - m2))) ((m2 + m3) - m2)) _
      refine r_iconst 12 20 rfl rfl di_0 ?_
      refine r_callI lkI_J17_112 13 23 rfl rfl (by decide) [.ref (w.2.1 + 1), .int 0] rfl rfl (Nat.le_of_ble_eq_true rfl) (Nat.le_of_ble_eq_true rfl) (e_J2_init_3 hS (o1 := (wnew_n wnew_s (by show w.2.1 < (w.2.1 + 1); omega))) (k2 := ?_)) (fun _ _ h => h)
      show Rn G mJ17_newString 23 [(0, .ref a1), (1, .int (nI m2)), (2, .int (nI m3))] [.ref w.2.1] (wset (wnew (wnew w (.inl (nJ2, [.null, .int 0, .int 0, .int 0])) 4) (arB ((m2 + m3) - m2) (va_cpy g5 (fun _ => 0) m2 0 (n4 - m2))) ((m2 + m3) - m2)) w.2.1 (.inl (nJ2, [.ref (w.2.1 + 1), .int 0, .int 0, .int 0]))) _
      exact r_aret 14 rfl rfl (Or.inl ⟨_, rfl⟩) (Or.inr ⟨_, rfl⟩) (k25 c1 z1_0 z1_1 z1_2)
  · refine r_ldcS (tx := "") (a := κ 32) (hS 32).1 2 6 rfl rfl ?_
    exact r_aret 3 rfl rfl (Or.inl ⟨_, rfl⟩) (Or.inr ⟨_, rfl⟩) (k26 c1)
theorem e_J0_substring {G : Gm} {κ : Nat → Nat} {φ : Nat → Option Nat} (hS : GS G κ φ) {w : Wd} {Q : Rs → Wd → Prop} {a1 : Nat} {m2 : Nat} {m3 : Nat} {a4 : Nat} {x5 : Int32} {m6 : Nat} {n8 : Nat} {g9 : Nat → Nat} (o1 : Lk G w a1 (.inl (nJ1, [.ref a4, .int 0, .int x5, .int (nI m6)]))) (b2 : m2 < 2 ^ 31) (b3 : m3 < 2 ^ 31) (f4 : ¬ m3 < m2) (b5 : m6 < 2 ^ 31) (f6 : m3 ≤ m6) (o7 : w.1 a4 = some (arB n8 g9)) (hg : 16 ≤ w.2.2) (b8 : ¬ (m3 - m2) = 0 → m2 < 2 ^ 31) (b9 : ¬ (m3 - m2) = 0 → ¬ m2 = 0 → (m2 + (m3 - m2)) < 2 ^ 31) (f10 : ¬ (m3 - m2) = 0 → ¬ m2 = 0 → m2 ≤ (m2 + (m3 - m2))) (b11 : ¬ (m3 - m2) = 0 → ¬ m2 = 0 → ((m2 + (m3 - m2)) - m2) ≤ 536870912) (hg12 : ¬ (m3 - m2) = 0 → ¬ m2 = 0 → (12 + ((m2 + (m3 - m2)) - m2)) ≤ w.2.2 - (12 + 4)) (b13 : ¬ (m3 - m2) = 0 → ¬ m2 = 0 → m2 ≤ n8) (b14 : ¬ (m3 - m2) = 0 → ¬ m2 = 0 → (n8 - m2) < 2 ^ 31) (q15 : ¬ (m3 - m2) = 0 → ¬ m2 = 0 → ((m2 + (m3 - m2)) - m2) < (n8 - m2) → ∀ i, i < ((m2 + (m3 - m2)) - m2) → g9 (m2 + i) < 128) (b16 : ¬ (m3 - m2) = 0 → ¬ m2 = 0 → n8 < 2 ^ 31) (q17 : ¬ (m3 - m2) = 0 → ¬ m2 = 0 → ¬ ((m2 + (m3 - m2)) - m2) < (n8 - m2) → ∀ i, i < (n8 - m2) → g9 (m2 + i) < 128) (b18 : ¬ (m3 - m2) = 0 → (m2 + (m3 - m2)) < 2 ^ 31) (b19 : ¬ (m3 - m2) = 0 → n8 < 2 ^ 31) (q20 : ¬ (m3 - m2) = 0 → m2 = 0 → (m2 + (m3 - m2)) = n8 → ∀ i, i < n8 → g9 i < 128) (hg21 : ¬ (m3 - m2) = 0 → (12 + n8) ≤ w.2.2 - (12 + 4)) (b22 : ¬ (m3 - m2) = 0 → m2 = 0 → ¬ (m2 + (m3 - m2)) = n8 → ((m2 + (m3 - m2)) - m2) ≤ 536870912) (hg23 : ¬ (m3 - m2) = 0 → m2 = 0 → ¬ (m2 + (m3 - m2)) = n8 → (12 + ((m2 + (m3 - m2)) - m2)) ≤ w.2.2 - (12 + 4)) (q24 : ¬ (m3 - m2) = 0 → m2 = 0 → ¬ (m2 + (m3 - m2)) = n8 → ((m2 + (m3 - m2)) - m2) < (n8 - m2) → ∀ i, i < ((m2 + (m3 - m2)) - m2) → g9 (m2 + i) < 128) (q25 : ¬ (m3 - m2) = 0 → m2 = 0 → ¬ (m2 + (m3 - m2)) = n8 → ¬ ((m2 + (m3 - m2)) - m2) < (n8 - m2) → ∀ i, i < (n8 - m2) → g9 (m2 + i) < 128) (k26 : ¬ (m3 - m2) = 0 → ¬ m2 = 0 → ((m2 + (m3 - m2)) - m2) < (n8 - m2) → Q (.inl (some (.ref w.2.1))) (wset (wnew (wnew w (.inl (nJ2, [.null, .int 0, .int 0, .int 0])) 4) (arB ((m2 + (m3 - m2)) - m2) (va_cpy g9 (fun _ => 0) m2 0 ((m2 + (m3 - m2)) - m2))) ((m2 + (m3 - m2)) - m2)) w.2.1 (.inl (nJ2, [.ref (w.2.1 + 1), .int 0, .int 0, .int 0])))) (k27 : ¬ (m3 - m2) = 0 → ¬ m2 = 0 → ¬ ((m2 + (m3 - m2)) - m2) < (n8 - m2) → Q (.inl (some (.ref w.2.1))) (wset (wnew (wnew w (.inl (nJ2, [.null, .int 0, .int 0, .int 0])) 4) (arB ((m2 + (m3 - m2)) - m2) (va_cpy g9 (fun _ => 0) m2 0 (n8 - m2))) ((m2 + (m3 - m2)) - m2)) w.2.1 (.inl (nJ2, [.ref (w.2.1 + 1), .int 0, .int 0, .int 0])))) (k28 : ¬ (m3 - m2) = 0 → m2 = 0 → (m2 + (m3 - m2)) = n8 → Q (.inl (some (.ref w.2.1))) (wset (wnew (wnew w (.inl (nJ2, [.null, .int 0, .int 0, .int 0])) 4) (arB n8 g9) n8) w.2.1 (.inl (nJ2, [.ref (w.2.1 + 1), .int 0, .int 0, .int 0])))) (k29 : ¬ (m3 - m2) = 0 → m2 = 0 → ¬ (m2 + (m3 - m2)) = n8 → ((m2 + (m3 - m2)) - m2) < (n8 - m2) → Q (.inl (some (.ref w.2.1))) (wset (wnew (wnew w (.inl (nJ2, [.null, .int 0, .int 0, .int 0])) 4) (arB ((m2 + (m3 - m2)) - m2) (va_cpy g9 (fun _ => 0) m2 0 ((m2 + (m3 - m2)) - m2))) ((m2 + (m3 - m2)) - m2)) w.2.1 (.inl (nJ2, [.ref (w.2.1 + 1), .int 0, .int 0, .int 0])))) (k30 : ¬ (m3 - m2) = 0 → m2 = 0 → ¬ (m2 + (m3 - m2)) = n8 → ¬ ((m2 + (m3 - m2)) - m2) < (n8 - m2) → Q (.inl (some (.ref w.2.1))) (wset (wnew (wnew w (.inl (nJ2, [.null, .int 0, .int 0, .int 0])) 4) (arB ((m2 + (m3 - m2)) - m2) (va_cpy g9 (fun _ => 0) m2 0 (n8 - m2))) ((m2 + (m3 - m2)) - m2)) w.2.1 (.inl (nJ2, [.ref (w.2.1 + 1), .int 0, .int 0, .int 0])))) (k31 : (m3 - m2) = 0 → Q (.inl (some (.ref (κ 32)))) w) : Ev G mJ0_substring [.ref a1, .int (nI m2), .int (nI m3)] w Q := by
  show Rn G mJ0_substring 0 [(0, .ref a1), (1, .int (nI m2)), (2, .int (nI m3))] [] w Q
  refine r_iload_n 0 1 1 rfl rfl rfl ?_
  refine r_iload_n 1 2 2 rfl rfl rfl ?_
  refine r_aload_n 2 3 0 rfl rfl rfl ?_
  refine r_get (v := .int (nI m6)) fl_J0_79_J1 3 6 rfl rfl o1 rfl ?_
  refine r_gets (v := va_rf (φ 0)) (hS 53) q383 4 9 rfl rfl ?_
  cases hp7 : φ 0 with
  | none =>
    refine r_callS lkS_J0_161 5 12 rfl rfl (by decide) [.int (nI m2), .int (nI m3), .int (nI m6), .null] rfl rfl (Nat.le_of_ble_eq_true rfl) (Nat.le_of_ble_eq_true rfl) (e_J18_checkFromToIndex hS (p4 := none) (m3 := m6) (m2 := m3) (m1 := m2) (bd1 := b2) (bd2 := b3) (f3 := f4) (bd4 := b5) (f5 := f6) (k6 := ?_)) (fun _ _ h => h)
    show Rn G mJ0_substring 12 [(0, .ref a1), (1, .int (nI m2)), (2, .int (nI m3))] [.int (nI m2)] w _
    refine r_pop 6 13 rfl rfl rfl ?_
    refine r_aload_n 7 14 0 rfl rfl rfl ?_
    refine r_callV lkV_J0_83_J1 (C := RJ1) (TT := TJ1) (NN := 4) rfl o1 8 17 rfl rfl (by decide) [] rfl rfl (Nat.le_of_ble_eq_true rfl) (Nat.le_of_ble_eq_true rfl) (e_J0_isLatin1 hS (m4 := m6) (o1 := o1) (k2 := ?_)) (fun _ _ h => h)
    show Rn G mJ0_substring 17 [(0, .ref a1), (1, .int (nI m2)), (2, .int (nI m3))] [.int 1] w _
    refine r_if_eq 9 20 32 rfl rfl rfl (fun c => absurd c (by decide)) (fun _ => ?_)
    refine r_aload_n 10 21 0 rfl rfl rfl ?_
    refine r_get (v := .ref a4) fl_J0_15_J1 11 24 rfl rfl o1 rfl ?_
    refine r_iload_n 12 25 1 rfl rfl rfl ?_
    refine r_iload_n 13 26 2 rfl rfl rfl ?_
    refine r_iload_n 14 27 1 rfl rfl rfl ?_
    refine r_isub 15 28 rfl rfl ?_
    refine x_eq (y := (nI (m3 - m2))) (pk_sub (a := m3) (b := m2) (by omega)) ?_
    refine r_callS lkS_J0_304 16 31 rfl rfl (by decide) [.ref a4, .int (nI m2), .int (nI (m3 - m2))] rfl rfl (Nat.le_of_ble_eq_true rfl) (Nat.le_of_ble_eq_true rfl) (e_J17_newString hS (m3 := (m3 - m2)) (m2 := m2) (bd1 := (by omega)) (hg := by show 16 ≤ w.2.2; omega) (o2 := o7) (b3 := b8) (b4 := b9) (f5 := f10) (b6 := b11) (hg7 := hg12) (b8 := b13) (b9 := b14) (q10 := q15) (b11 := b16) (q12 := q17) (b13 := b18) (b14 := b19) (q15 := q20) (hg16 := hg21) (b17 := b22) (hg18 := hg23) (q19 := q24) (q20 := q25) (k21 := fun z0_0 => fun z0_1 => fun z0_2 => ?_) (k22 := fun z0_0 => fun z0_1 => fun z0_2 => ?_) (k23 := fun z0_0 => fun z0_1 => fun z0_2 => ?_) (k24 := fun z0_0 => fun z0_1 => fun z0_2 => fun z0_3 => ?_) (k25 := fun z0_0 => fun z0_1 => fun z0_2 => fun z0_3 => ?_) (k26 := fun z0_0 => ?_)) (fun _ _ h => h)
    · show Rn G mJ0_substring 31 [(0, .ref a1), (1, .int (nI m2)), (2, .int (nI m3))] [.ref w.2.1] (wset (wnew (wnew w (.inl (nJ2, [.null, .int 0, .int 0, .int 0])) 4) (arB ((m2 + (m3 - m2)) - m2) (va_cpy g9 (fun _ => 0) m2 0 ((m2 + (m3 - m2)) - m2))) ((m2 + (m3 - m2)) - m2)) w.2.1 (.inl (nJ2, [.ref (w.2.1 + 1), .int 0, .int 0, .int 0]))) _
      exact r_aret 17 rfl rfl (Or.inl ⟨_, rfl⟩) (Or.inr ⟨_, rfl⟩) (k26 z0_0 z0_1 z0_2)
    · show Rn G mJ0_substring 31 [(0, .ref a1), (1, .int (nI m2)), (2, .int (nI m3))] [.ref w.2.1] (wset (wnew (wnew w (.inl (nJ2, [.null, .int 0, .int 0, .int 0])) 4) (arB ((m2 + (m3 - m2)) - m2) (va_cpy g9 (fun _ => 0) m2 0 (n8 - m2))) ((m2 + (m3 - m2)) - m2)) w.2.1 (.inl (nJ2, [.ref (w.2.1 + 1), .int 0, .int 0, .int 0]))) _
      exact r_aret 17 rfl rfl (Or.inl ⟨_, rfl⟩) (Or.inr ⟨_, rfl⟩) (k27 z0_0 z0_1 z0_2)
    · show Rn G mJ0_substring 31 [(0, .ref a1), (1, .int (nI m2)), (2, .int (nI m3))] [.ref w.2.1] (wset (wnew (wnew w (.inl (nJ2, [.null, .int 0, .int 0, .int 0])) 4) (arB n8 g9) n8) w.2.1 (.inl (nJ2, [.ref (w.2.1 + 1), .int 0, .int 0, .int 0]))) _
      exact r_aret 17 rfl rfl (Or.inl ⟨_, rfl⟩) (Or.inr ⟨_, rfl⟩) (k28 z0_0 z0_1 z0_2)
    · show Rn G mJ0_substring 31 [(0, .ref a1), (1, .int (nI m2)), (2, .int (nI m3))] [.ref w.2.1] (wset (wnew (wnew w (.inl (nJ2, [.null, .int 0, .int 0, .int 0])) 4) (arB ((m2 + (m3 - m2)) - m2) (va_cpy g9 (fun _ => 0) m2 0 ((m2 + (m3 - m2)) - m2))) ((m2 + (m3 - m2)) - m2)) w.2.1 (.inl (nJ2, [.ref (w.2.1 + 1), .int 0, .int 0, .int 0]))) _
      exact r_aret 17 rfl rfl (Or.inl ⟨_, rfl⟩) (Or.inr ⟨_, rfl⟩) (k29 z0_0 z0_1 z0_2 z0_3)
    · show Rn G mJ0_substring 31 [(0, .ref a1), (1, .int (nI m2)), (2, .int (nI m3))] [.ref w.2.1] (wset (wnew (wnew w (.inl (nJ2, [.null, .int 0, .int 0, .int 0])) 4) (arB ((m2 + (m3 - m2)) - m2) (va_cpy g9 (fun _ => 0) m2 0 (n8 - m2))) ((m2 + (m3 - m2)) - m2)) w.2.1 (.inl (nJ2, [.ref (w.2.1 + 1), .int 0, .int 0, .int 0]))) _
      exact r_aret 17 rfl rfl (Or.inl ⟨_, rfl⟩) (Or.inr ⟨_, rfl⟩) (k30 z0_0 z0_1 z0_2 z0_3)
    · show Rn G mJ0_substring 31 [(0, .ref a1), (1, .int (nI m2)), (2, .int (nI m3))] [.ref (κ 32)] w _
      exact r_aret 17 rfl rfl (Or.inl ⟨_, rfl⟩) (Or.inr ⟨_, rfl⟩) (k31 z0_0)
  | some pa7 =>
    refine r_callS lkS_J0_161 5 12 rfl rfl (by decide) [.int (nI m2), .int (nI m3), .int (nI m6), .ref pa7] rfl rfl (Nat.le_of_ble_eq_true rfl) (Nat.le_of_ble_eq_true rfl) (e_J18_checkFromToIndex hS (p4 := (some pa7)) (m3 := m6) (m2 := m3) (m1 := m2) (bd1 := (by omega)) (bd2 := (by omega)) (f3 := (by omega)) (bd4 := (by omega)) (f5 := (by omega)) (k6 := ?_)) (fun _ _ h => h)
    show Rn G mJ0_substring 12 [(0, .ref a1), (1, .int (nI m2)), (2, .int (nI m3))] [.int (nI m2)] w _
    refine r_pop 6 13 rfl rfl rfl ?_
    refine r_aload_n 7 14 0 rfl rfl rfl ?_
    refine r_callV lkV_J0_83_J1 (C := RJ1) (TT := TJ1) (NN := 4) rfl o1 8 17 rfl rfl (by decide) [] rfl rfl (Nat.le_of_ble_eq_true rfl) (Nat.le_of_ble_eq_true rfl) (e_J0_isLatin1 hS (m4 := m6) (o1 := o1) (k2 := ?_)) (fun _ _ h => h)
    show Rn G mJ0_substring 17 [(0, .ref a1), (1, .int (nI m2)), (2, .int (nI m3))] [.int 1] w _
    refine r_if_eq 9 20 32 rfl rfl rfl (fun c => absurd c (by decide)) (fun _ => ?_)
    refine r_aload_n 10 21 0 rfl rfl rfl ?_
    refine r_get (v := .ref a4) fl_J0_15_J1 11 24 rfl rfl o1 rfl ?_
    refine r_iload_n 12 25 1 rfl rfl rfl ?_
    refine r_iload_n 13 26 2 rfl rfl rfl ?_
    refine r_iload_n 14 27 1 rfl rfl rfl ?_
    refine r_isub 15 28 rfl rfl ?_
    refine x_eq (y := (nI (m3 - m2))) (pk_sub (a := m3) (b := m2) (by omega)) ?_
    refine r_callS lkS_J0_304 16 31 rfl rfl (by decide) [.ref a4, .int (nI m2), .int (nI (m3 - m2))] rfl rfl (Nat.le_of_ble_eq_true rfl) (Nat.le_of_ble_eq_true rfl) (e_J17_newString hS (m3 := (m3 - m2)) (m2 := m2) (bd1 := (by omega)) (hg := by show 16 ≤ w.2.2; omega) (o2 := o7) (b3 := b8) (b4 := b9) (f5 := f10) (b6 := b11) (hg7 := hg12) (b8 := b13) (b9 := b14) (q10 := q15) (b11 := b16) (q12 := q17) (b13 := b18) (b14 := b19) (q15 := q20) (hg16 := hg21) (b17 := b22) (hg18 := hg23) (q19 := q24) (q20 := q25) (k21 := fun z0_0 => fun z0_1 => fun z0_2 => ?_) (k22 := fun z0_0 => fun z0_1 => fun z0_2 => ?_) (k23 := fun z0_0 => fun z0_1 => fun z0_2 => ?_) (k24 := fun z0_0 => fun z0_1 => fun z0_2 => fun z0_3 => ?_) (k25 := fun z0_0 => fun z0_1 => fun z0_2 => fun z0_3 => ?_) (k26 := fun z0_0 => ?_)) (fun _ _ h => h)
    · show Rn G mJ0_substring 31 [(0, .ref a1), (1, .int (nI m2)), (2, .int (nI m3))] [.ref w.2.1] (wset (wnew (wnew w (.inl (nJ2, [.null, .int 0, .int 0, .int 0])) 4) (arB ((m2 + (m3 - m2)) - m2) (va_cpy g9 (fun _ => 0) m2 0 ((m2 + (m3 - m2)) - m2))) ((m2 + (m3 - m2)) - m2)) w.2.1 (.inl (nJ2, [.ref (w.2.1 + 1), .int 0, .int 0, .int 0]))) _
      exact r_aret 17 rfl rfl (Or.inl ⟨_, rfl⟩) (Or.inr ⟨_, rfl⟩) (k26 z0_0 z0_1 z0_2)
    · show Rn G mJ0_substring 31 [(0, .ref a1), (1, .int (nI m2)), (2, .int (nI m3))] [.ref w.2.1] (wset (wnew (wnew w (.inl (nJ2, [.null, .int 0, .int 0, .int 0])) 4) (arB ((m2 + (m3 - m2)) - m2) (va_cpy g9 (fun _ => 0) m2 0 (n8 - m2))) ((m2 + (m3 - m2)) - m2)) w.2.1 (.inl (nJ2, [.ref (w.2.1 + 1), .int 0, .int 0, .int 0]))) _
      exact r_aret 17 rfl rfl (Or.inl ⟨_, rfl⟩) (Or.inr ⟨_, rfl⟩) (k27 z0_0 z0_1 z0_2)
    · show Rn G mJ0_substring 31 [(0, .ref a1), (1, .int (nI m2)), (2, .int (nI m3))] [.ref w.2.1] (wset (wnew (wnew w (.inl (nJ2, [.null, .int 0, .int 0, .int 0])) 4) (arB n8 g9) n8) w.2.1 (.inl (nJ2, [.ref (w.2.1 + 1), .int 0, .int 0, .int 0]))) _
      exact r_aret 17 rfl rfl (Or.inl ⟨_, rfl⟩) (Or.inr ⟨_, rfl⟩) (k28 z0_0 z0_1 z0_2)
    · show Rn G mJ0_substring 31 [(0, .ref a1), (1, .int (nI m2)), (2, .int (nI m3))] [.ref w.2.1] (wset (wnew (wnew w (.inl (nJ2, [.null, .int 0, .int 0, .int 0])) 4) (arB ((m2 + (m3 - m2)) - m2) (va_cpy g9 (fun _ => 0) m2 0 ((m2 + (m3 - m2)) - m2))) ((m2 + (m3 - m2)) - m2)) w.2.1 (.inl (nJ2, [.ref (w.2.1 + 1), .int 0, .int 0, .int 0]))) _
      exact r_aret 17 rfl rfl (Or.inl ⟨_, rfl⟩) (Or.inr ⟨_, rfl⟩) (k29 z0_0 z0_1 z0_2 z0_3)
    · show Rn G mJ0_substring 31 [(0, .ref a1), (1, .int (nI m2)), (2, .int (nI m3))] [.ref w.2.1] (wset (wnew (wnew w (.inl (nJ2, [.null, .int 0, .int 0, .int 0])) 4) (arB ((m2 + (m3 - m2)) - m2) (va_cpy g9 (fun _ => 0) m2 0 (n8 - m2))) ((m2 + (m3 - m2)) - m2)) w.2.1 (.inl (nJ2, [.ref (w.2.1 + 1), .int 0, .int 0, .int 0]))) _
      exact r_aret 17 rfl rfl (Or.inl ⟨_, rfl⟩) (Or.inr ⟨_, rfl⟩) (k30 z0_0 z0_1 z0_2 z0_3)
    · show Rn G mJ0_substring 31 [(0, .ref a1), (1, .int (nI m2)), (2, .int (nI m3))] [.ref (κ 32)] w _
      exact r_aret 17 rfl rfl (Or.inl ⟨_, rfl⟩) (Or.inr ⟨_, rfl⟩) (k31 z0_0)
theorem e_J1_substring {G : Gm} {κ : Nat → Nat} {φ : Nat → Option Nat} (hS : GS G κ φ) {w : Wd} {Q : Rs → Wd → Prop} {a1 : Nat} {m2 : Nat} {m3 : Nat} {a4 : Nat} {x5 : Int32} {m6 : Nat} {n7 : Nat} {g8 : Nat → Nat} (o1 : Lk G w a1 (.inl (nJ1, [.ref a4, .int 0, .int x5, .int (nI m6)]))) (o2 : w.1 a4 = some (arB n7 g8)) (b3 : m2 < 2 ^ 31) (b4 : m3 < 2 ^ 31) (f5 : ¬ m3 < m2) (b6 : m6 < 2 ^ 31) (f7 : m3 ≤ m6) (hg : 16 ≤ w.2.2) (b8 : ¬ (m3 - m2) = 0 → m2 < 2 ^ 31) (b9 : ¬ (m3 - m2) = 0 → ¬ m2 = 0 → (m2 + (m3 - m2)) < 2 ^ 31) (f10 : ¬ (m3 - m2) = 0 → ¬ m2 = 0 → m2 ≤ (m2 + (m3 - m2))) (b11 : ¬ (m3 - m2) = 0 → ¬ m2 = 0 → ((m2 + (m3 - m2)) - m2) ≤ 536870912) (hg12 : ¬ (m3 - m2) = 0 → ¬ m2 = 0 → (12 + ((m2 + (m3 - m2)) - m2)) ≤ w.2.2 - (12 + 4)) (b13 : ¬ (m3 - m2) = 0 → ¬ m2 = 0 → m2 ≤ n7) (b14 : ¬ (m3 - m2) = 0 → ¬ m2 = 0 → (n7 - m2) < 2 ^ 31) (q15 : ¬ (m3 - m2) = 0 → ¬ m2 = 0 → ((m2 + (m3 - m2)) - m2) < (n7 - m2) → ∀ i, i < ((m2 + (m3 - m2)) - m2) → g8 (m2 + i) < 128) (b16 : ¬ (m3 - m2) = 0 → ¬ m2 = 0 → n7 < 2 ^ 31) (q17 : ¬ (m3 - m2) = 0 → ¬ m2 = 0 → ¬ ((m2 + (m3 - m2)) - m2) < (n7 - m2) → ∀ i, i < (n7 - m2) → g8 (m2 + i) < 128) (b18 : ¬ (m3 - m2) = 0 → (m2 + (m3 - m2)) < 2 ^ 31) (b19 : ¬ (m3 - m2) = 0 → n7 < 2 ^ 31) (q20 : ¬ (m3 - m2) = 0 → m2 = 0 → (m2 + (m3 - m2)) = n7 → ∀ i, i < n7 → g8 i < 128) (hg21 : ¬ (m3 - m2) = 0 → (12 + n7) ≤ w.2.2 - (12 + 4)) (b22 : ¬ (m3 - m2) = 0 → m2 = 0 → ¬ (m2 + (m3 - m2)) = n7 → ((m2 + (m3 - m2)) - m2) ≤ 536870912) (hg23 : ¬ (m3 - m2) = 0 → m2 = 0 → ¬ (m2 + (m3 - m2)) = n7 → (12 + ((m2 + (m3 - m2)) - m2)) ≤ w.2.2 - (12 + 4)) (q24 : ¬ (m3 - m2) = 0 → m2 = 0 → ¬ (m2 + (m3 - m2)) = n7 → ((m2 + (m3 - m2)) - m2) < (n7 - m2) → ∀ i, i < ((m2 + (m3 - m2)) - m2) → g8 (m2 + i) < 128) (q25 : ¬ (m3 - m2) = 0 → m2 = 0 → ¬ (m2 + (m3 - m2)) = n7 → ¬ ((m2 + (m3 - m2)) - m2) < (n7 - m2) → ∀ i, i < (n7 - m2) → g8 (m2 + i) < 128) (k26 : ¬ (m3 - m2) = 0 → ¬ m2 = 0 → ((m2 + (m3 - m2)) - m2) < (n7 - m2) → Q (.inl (some (.ref w.2.1))) (wset (wnew (wnew w (.inl (nJ2, [.null, .int 0, .int 0, .int 0])) 4) (arB ((m2 + (m3 - m2)) - m2) (va_cpy g8 (fun _ => 0) m2 0 ((m2 + (m3 - m2)) - m2))) ((m2 + (m3 - m2)) - m2)) w.2.1 (.inl (nJ2, [.ref (w.2.1 + 1), .int 0, .int 0, .int 0])))) (k27 : ¬ (m3 - m2) = 0 → ¬ m2 = 0 → ¬ ((m2 + (m3 - m2)) - m2) < (n7 - m2) → Q (.inl (some (.ref w.2.1))) (wset (wnew (wnew w (.inl (nJ2, [.null, .int 0, .int 0, .int 0])) 4) (arB ((m2 + (m3 - m2)) - m2) (va_cpy g8 (fun _ => 0) m2 0 (n7 - m2))) ((m2 + (m3 - m2)) - m2)) w.2.1 (.inl (nJ2, [.ref (w.2.1 + 1), .int 0, .int 0, .int 0])))) (k28 : ¬ (m3 - m2) = 0 → m2 = 0 → (m2 + (m3 - m2)) = n7 → Q (.inl (some (.ref w.2.1))) (wset (wnew (wnew w (.inl (nJ2, [.null, .int 0, .int 0, .int 0])) 4) (arB n7 g8) n7) w.2.1 (.inl (nJ2, [.ref (w.2.1 + 1), .int 0, .int 0, .int 0])))) (k29 : ¬ (m3 - m2) = 0 → m2 = 0 → ¬ (m2 + (m3 - m2)) = n7 → ((m2 + (m3 - m2)) - m2) < (n7 - m2) → Q (.inl (some (.ref w.2.1))) (wset (wnew (wnew w (.inl (nJ2, [.null, .int 0, .int 0, .int 0])) 4) (arB ((m2 + (m3 - m2)) - m2) (va_cpy g8 (fun _ => 0) m2 0 ((m2 + (m3 - m2)) - m2))) ((m2 + (m3 - m2)) - m2)) w.2.1 (.inl (nJ2, [.ref (w.2.1 + 1), .int 0, .int 0, .int 0])))) (k30 : ¬ (m3 - m2) = 0 → m2 = 0 → ¬ (m2 + (m3 - m2)) = n7 → ¬ ((m2 + (m3 - m2)) - m2) < (n7 - m2) → Q (.inl (some (.ref w.2.1))) (wset (wnew (wnew w (.inl (nJ2, [.null, .int 0, .int 0, .int 0])) 4) (arB ((m2 + (m3 - m2)) - m2) (va_cpy g8 (fun _ => 0) m2 0 (n7 - m2))) ((m2 + (m3 - m2)) - m2)) w.2.1 (.inl (nJ2, [.ref (w.2.1 + 1), .int 0, .int 0, .int 0])))) (k31 : (m3 - m2) = 0 → Q (.inl (some (.ref (κ 32)))) w) : Ev G mJ1_substring [.ref a1, .int (nI m2), .int (nI m3)] w Q := by
  show Rn G mJ1_substring 0 [(0, .ref a1), (1, .int (nI m2)), (2, .int (nI m3))] [] w Q
  refine r_aload_n 0 1 0 rfl rfl rfl ?_
  refine r_iload_n 1 2 1 rfl rfl rfl ?_
  refine r_iload_n 2 3 2 rfl rfl rfl ?_
  refine r_callP lkP_J1_252 (C := RJ1) (TT := TJ1) (NN := 4) rfl o1 3 6 rfl rfl (by decide) [.int (nI m2), .int (nI m3)] rfl rfl (Nat.le_of_ble_eq_true rfl) (Nat.le_of_ble_eq_true rfl) (e_J0_substring hS (m6 := m6) (m3 := m3) (m2 := m2) (o1 := o1) (b2 := b3) (b3 := b4) (f4 := f5) (b5 := b6) (f6 := f7) (o7 := o2) (hg := by show 16 ≤ w.2.2; omega) (b8 := b8) (b9 := b9) (f10 := f10) (b11 := b11) (hg12 := hg12) (b13 := b13) (b14 := b14) (q15 := q15) (b16 := b16) (q17 := q17) (b18 := b18) (b19 := b19) (q20 := q20) (hg21 := hg21) (b22 := b22) (hg23 := hg23) (q24 := q24) (q25 := q25) (k26 := fun z0_0 => fun z0_1 => fun z0_2 => ?_) (k27 := fun z0_0 => fun z0_1 => fun z0_2 => ?_) (k28 := fun z0_0 => fun z0_1 => fun z0_2 => ?_) (k29 := fun z0_0 => fun z0_1 => fun z0_2 => fun z0_3 => ?_) (k30 := fun z0_0 => fun z0_1 => fun z0_2 => fun z0_3 => ?_) (k31 := fun z0_0 => ?_)) (fun _ _ h => h)
  · show Rn G mJ1_substring 6 [(0, .ref a1), (1, .int (nI m2)), (2, .int (nI m3))] [.ref w.2.1] (wset (wnew (wnew w (.inl (nJ2, [.null, .int 0, .int 0, .int 0])) 4) (arB ((m2 + (m3 - m2)) - m2) (va_cpy g8 (fun _ => 0) m2 0 ((m2 + (m3 - m2)) - m2))) ((m2 + (m3 - m2)) - m2)) w.2.1 (.inl (nJ2, [.ref (w.2.1 + 1), .int 0, .int 0, .int 0]))) _
    exact r_aret 4 rfl rfl (Or.inl ⟨_, rfl⟩) (Or.inr ⟨_, rfl⟩) (k26 z0_0 z0_1 z0_2)
  · show Rn G mJ1_substring 6 [(0, .ref a1), (1, .int (nI m2)), (2, .int (nI m3))] [.ref w.2.1] (wset (wnew (wnew w (.inl (nJ2, [.null, .int 0, .int 0, .int 0])) 4) (arB ((m2 + (m3 - m2)) - m2) (va_cpy g8 (fun _ => 0) m2 0 (n7 - m2))) ((m2 + (m3 - m2)) - m2)) w.2.1 (.inl (nJ2, [.ref (w.2.1 + 1), .int 0, .int 0, .int 0]))) _
    exact r_aret 4 rfl rfl (Or.inl ⟨_, rfl⟩) (Or.inr ⟨_, rfl⟩) (k27 z0_0 z0_1 z0_2)
  · show Rn G mJ1_substring 6 [(0, .ref a1), (1, .int (nI m2)), (2, .int (nI m3))] [.ref w.2.1] (wset (wnew (wnew w (.inl (nJ2, [.null, .int 0, .int 0, .int 0])) 4) (arB n7 g8) n7) w.2.1 (.inl (nJ2, [.ref (w.2.1 + 1), .int 0, .int 0, .int 0]))) _
    exact r_aret 4 rfl rfl (Or.inl ⟨_, rfl⟩) (Or.inr ⟨_, rfl⟩) (k28 z0_0 z0_1 z0_2)
  · show Rn G mJ1_substring 6 [(0, .ref a1), (1, .int (nI m2)), (2, .int (nI m3))] [.ref w.2.1] (wset (wnew (wnew w (.inl (nJ2, [.null, .int 0, .int 0, .int 0])) 4) (arB ((m2 + (m3 - m2)) - m2) (va_cpy g8 (fun _ => 0) m2 0 ((m2 + (m3 - m2)) - m2))) ((m2 + (m3 - m2)) - m2)) w.2.1 (.inl (nJ2, [.ref (w.2.1 + 1), .int 0, .int 0, .int 0]))) _
    exact r_aret 4 rfl rfl (Or.inl ⟨_, rfl⟩) (Or.inr ⟨_, rfl⟩) (k29 z0_0 z0_1 z0_2 z0_3)
  · show Rn G mJ1_substring 6 [(0, .ref a1), (1, .int (nI m2)), (2, .int (nI m3))] [.ref w.2.1] (wset (wnew (wnew w (.inl (nJ2, [.null, .int 0, .int 0, .int 0])) 4) (arB ((m2 + (m3 - m2)) - m2) (va_cpy g8 (fun _ => 0) m2 0 (n7 - m2))) ((m2 + (m3 - m2)) - m2)) w.2.1 (.inl (nJ2, [.ref (w.2.1 + 1), .int 0, .int 0, .int 0]))) _
    exact r_aret 4 rfl rfl (Or.inl ⟨_, rfl⟩) (Or.inr ⟨_, rfl⟩) (k30 z0_0 z0_1 z0_2 z0_3)
  · show Rn G mJ1_substring 6 [(0, .ref a1), (1, .int (nI m2)), (2, .int (nI m3))] [.ref (κ 32)] w _
    exact r_aret 4 rfl rfl (Or.inl ⟨_, rfl⟩) (Or.inr ⟨_, rfl⟩) (k31 z0_0)
theorem e_J2_init_2 {G : Gm} {κ : Nat → Nat} {φ : Nat → Option Nat} (hS : GS G κ φ) {w : Wd} {Q : Rs → Wd → Prop} {a1 : Nat} {a2 : Nat} {a3 : Nat} {x4 : Int32} {m5 : Nat} {n6 : Nat} {g7 : Nat → Nat} (o1 : Lk G w a2 (.inl (nJ1, [.ref a3, .int 0, .int x4, .int (nI m5)]))) (o2 : w.1 a1 = some (.inl (nJ2, [.null, .int 0, .int 0, .int 0]))) (o3 : w.1 a3 = some (arB n6 g7)) (hg4 : ¬ 0 = 0 → (12 + (m5 - 0)) ≤ w.2.2) (b5 : m5 < 2 ^ 31) (b6 : n6 < 2 ^ 31) (q7 : m5 = n6 → ∀ i, i < n6 → g7 i < 128) (hg8 : (12 + n6) ≤ w.2.2) (b9 : ¬ m5 = n6 → (m5 - 0) ≤ 536870912) (hg10 : 0 = 0 → ¬ m5 = n6 → (12 + (m5 - 0)) ≤ w.2.2) (q11 : ¬ m5 = n6 → (m5 - 0) < (n6 - 0) → ∀ i, i < (m5 - 0) → g7 (0 + i) < 128) (q12 : ¬ m5 = n6 → ¬ (m5 - 0) < (n6 - 0) → ∀ i, i < (n6 - 0) → g7 (0 + i) < 128) (k13 : m5 = n6 → Q (.inl none) (wset (wnew (wset w a1 (.inl (nJ2, [.null, .int 0, .int 0, .int 0]))) (arB n6 g7) n6) a1 (.inl (nJ2, [.ref w.2.1, .int 0, .int 0, .int 0])))) (k14 : ¬ m5 = n6 → (m5 - 0) < (n6 - 0) → Q (.inl none) (wset (wnew (wset w a1 (.inl (nJ2, [.null, .int 0, .int 0, .int 0]))) (arB (m5 - 0) (va_cpy g7 (fun _ => 0) 0 0 (m5 - 0))) (m5 - 0)) a1 (.inl (nJ2, [.ref w.2.1, .int 0, .int 0, .int 0])))) (k15 : ¬ m5 = n6 → ¬ (m5 - 0) < (n6 - 0) → Q (.inl none) (wset (wnew (wset w a1 (.inl (nJ2, [.null, .int 0, .int 0, .int 0]))) (arB (m5 - 0) (va_cpy g7 (fun _ => 0) 0 0 (n6 - 0))) (m5 - 0)) a1 (.inl (nJ2, [.ref w.2.1, .int 0, .int 0, .int 0])))) : Ev G mJ2_init_2 [.ref a1, .ref a2, .null] w Q := by
  show Rn G mJ2_init_2 0 [(0, .ref a1), (1, .ref a2), (2, .null)] [] w Q
  refine Rn.wok fun hwk => ?_
  refine r_aload_n 0 1 0 rfl rfl rfl ?_
  refine r_objInit q557 q111 q112 1 4 rfl rfl (by decide) (Nat.le_of_ble_eq_true rfl) ?_
  refine r_aload_n 2 5 1 rfl rfl rfl ?_
  refine r_callV lkV_J2_552_J1 (C := RJ1) (TT := TJ1) (NN := 4) rfl o1 3 8 rfl rfl (by decide) [] rfl rfl (Nat.le_of_ble_eq_true rfl) (Nat.le_of_ble_eq_true rfl) (e_J0_getValue hS (m4 := m5) (o1 := o1) (k2 := ?_)) (fun _ _ h => h)
  show Rn G mJ2_init_2 8 [(0, .ref a1), (1, .ref a2), (2, .null)] [.ref a3] w _
  refine r_astore_n (lv' := [(3, .ref a3), (0, .ref a1), (1, .ref a2), (2, .null)]) 4 9 rfl rfl (Nat.le_of_ble_eq_true rfl) rfl ?_
  refine r_aload_n 5 10 2 rfl rfl rfl ?_
  refine r_callU lkU_J2_549_J1 (C := RJ1) (TT := TJ1) (NN := 4) rfl o1 6 13 rfl rfl (by decide) [] rfl rfl (Nat.le_of_ble_eq_true rfl) (Nat.le_of_ble_eq_true rfl) (e_J1_length hS (m4 := m5) (o1 := o1) (k2 := ?_)) (fun _ _ h => h)
  show Rn G mJ2_init_2 13 [(3, .ref a3), (0, .ref a1), (1, .ref a2), (2, .null)] [.int (nI m5)] w _
  refine r_istore (lv' := [(4, .int (nI m5)), (3, .ref a3), (0, .ref a1), (1, .ref a2), (2, .null)]) 7 15 rfl rfl (Nat.le_of_ble_eq_true rfl) rfl ?_
  refine r_aload_n 8 16 3 rfl rfl rfl ?_
  refine r_callV lkV_J2_1047_J1 (C := RJ1) (TT := TJ1) (NN := 4) rfl o1 9 19 rfl rfl (by decide) [] rfl rfl (Nat.le_of_ble_eq_true rfl) (Nat.le_of_ble_eq_true rfl) (e_J0_isLatin1 hS (m4 := m5) (o1 := o1) (k2 := ?_)) (fun _ _ h => h)
  show Rn G mJ2_init_2 19 [(4, .int (nI m5)), (3, .ref a3), (0, .ref a1), (1, .ref a2), (2, .null)] [.int 1] w _
  refine r_if_eq 10 22 41 rfl rfl rfl (fun c => absurd c (by decide)) (fun _ => ?_)
  refine r_aload_n 11 23 2 rfl rfl rfl ?_
  refine r_iconst 12 24 rfl rfl di_0 ?_
  refine r_putF (i := 1) fl_J2_15_J2 in_J2 q397 (ty0 := tyJ2) tyJ2_ok nmJ2 13 27 rfl rfl o2 rfl rfl rfl rfl rfl (Nat.le_of_ble_eq_true rfl) ?_
  show Rn G mJ2_init_2 27 [(4, .int (nI m5)), (3, .ref a3), (0, .ref a1), (1, .ref a2), (2, .null)] [] (wset w a1 (.inl (nJ2, [.null, .int 0, .int 0, .int 0]))) _
  refine r_aload_n 14 28 2 rfl rfl rfl ?_
  refine r_aload_n 15 29 1 rfl rfl rfl ?_
  refine r_iconst 16 30 rfl rfl di_0 ?_
  refine r_iload 17 32 0 rfl rfl rfl ?_
  refine r_callS lkS_J2_54 18 35 rfl rfl (by decide) [.ref a3, .int 0, .int (nI m5)] rfl rfl (Nat.le_of_ble_eq_true rfl) (Nat.le_of_ble_eq_true rfl) (e_J16_copyOfRange hS (m3 := m5) (m2 := 0) (bd1 := (by omega)) (o2 := (wset_n o3 (Lk.ne (Or.inl o3) o2 hwk (by intro h; simp at h)))) (b3 := fun z0 => absurd z0 (by decide)) (f4 := fun z0 => absurd z0 (by decide)) (b5 := fun z0 => absurd z0 (by decide)) (hg6 := hg4) (b7 := fun z0 => absurd z0 (by decide)) (b8 := fun z0 => absurd z0 (by decide)) (q9 := fun z0 => absurd z0 (by decide)) (b10 := fun z0 => absurd z0 (by decide)) (q11 := fun z0 => absurd z0 (by decide)) (bd14 := b5) (bd15 := b6) (q16 := fun _ z1 => q7 z1) (hg17 := hg8) (b19 := fun _ z1 => b9 z1) (hg20 := hg10) (q21 := fun _ z1 => q11 z1) (q22 := fun _ z1 => q12 z1) (k12 := fun z0 => fun _ => absurd z0 (by decide)) (k13 := fun z0 => fun _ => absurd z0 (by decide)) (k18 := fun z0_0 => fun z0_1 => ?_) (k23 := fun z0_0 => fun z0_1 => fun z0_2 => ?_) (k24 := fun z0_0 => fun z0_1 => fun z0_2 => ?_)) (fun _ _ h => h)
  · show Rn G mJ2_init_2 35 [(4, .int (nI m5)), (3, .ref a3), (0, .ref a1), (1, .ref a2), (2, .null)] [.ref w.2.1, .ref a1] (wnew (wset w a1 (.inl (nJ2, [.null, .int 0, .int 0, .int 0]))) (arB n6 g7) n6) _
    refine r_putF (i := 0) fl_J2_9_J2 in_J2 q397 (ty0 := tyJ2) tyJ2_ok nmJ2 19 38 rfl rfl (wnew_n wset_s (by have := (hwk.1 _ _ o2).2; show a1 < w.2.1; omega)) rfl rfl rfl rfl rfl (Nat.le_of_ble_eq_true rfl) ?_
    show Rn G mJ2_init_2 38 [(4, .int (nI m5)), (3, .ref a3), (0, .ref a1), (1, .ref a2), (2, .null)] [] (wset (wnew (wset w a1 (.inl (nJ2, [.null, .int 0, .int 0, .int 0]))) (arB n6 g7) n6) a1 (.inl (nJ2, [.ref w.2.1, .int 0, .int 0, .int 0]))) _
    refine r_goto 20 97 rfl rfl ?_
    exact r_vret 50 rfl rfl (k13 z0_1)
  · show Rn G mJ2_init_2 35 [(4, .int (nI m5)), (3, .ref a3), (0, .ref a1), (1, .ref a2), (2, .null)] [.ref w.2.1, .ref a1] (wnew (wset w a1 (.inl (nJ2, [.null, .int 0, .int 0, .int 0]))) (arB (m5 - 0) (va_cpy g7 (fun _ => 0) 0 0 (m5 - 0))) (m5 - 0)) _
    refine r_putF (i := 0) fl_J2_9_J2 in_J2 q397 (ty0 := tyJ2) tyJ2_ok nmJ2 19 38 rfl rfl (wnew_n wset_s (by have := (hwk.1 _ _ o2).2; show a1 < w.2.1; omega)) rfl rfl rfl rfl rfl (Nat.le_of_ble_eq_true rfl) ?_
    show Rn G mJ2_init_2 38 [(4, .int (nI m5)), (3, .ref a3), (0, .ref a1), (1, .ref a2), (2, .null)] [] (wset (wnew (wset w a1 (.inl (nJ2, [.null, .int 0, .int 0, .int 0]))) (arB (m5 - 0) (va_cpy g7 (fun _ => 0) 0 0 (m5 - 0))) (m5 - 0)) a1 (.inl (nJ2, [.ref w.2.1, .int 0, .int 0, .int 0]))) _
    refine r_goto 20 97 rfl rfl ?_
    exact r_vret 50 rfl rfl (k14 z0_1 z0_2)
  · show Rn G mJ2_init_2 35 [(4, .int (nI m5)), (3, .ref a3), (0, .ref a1), (1, .ref a2), (2, .null)] [.ref w.2.1, .ref a1] (wnew (wset w a1 (.inl (nJ2, [.null, .int 0, .int 0, .int 0]))) (arB (m5 - 0) (va_cpy g7 (fun _ => 0) 0 0 (n6 - 0))) (m5 - 0)) _
    refine r_putF (i := 0) fl_J2_9_J2 in_J2 q397 (ty0 := tyJ2) tyJ2_ok nmJ2 19 38 rfl rfl (wnew_n wset_s (by have := (hwk.1 _ _ o2).2; show a1 < w.2.1; omega)) rfl rfl rfl rfl rfl (Nat.le_of_ble_eq_true rfl) ?_
    show Rn G mJ2_init_2 38 [(4, .int (nI m5)), (3, .ref a3), (0, .ref a1), (1, .ref a2), (2, .null)] [] (wset (wnew (wset w a1 (.inl (nJ2, [.null, .int 0, .int 0, .int 0]))) (arB (m5 - 0) (va_cpy g7 (fun _ => 0) 0 0 (n6 - 0))) (m5 - 0)) a1 (.inl (nJ2, [.ref w.2.1, .int 0, .int 0, .int 0]))) _
    refine r_goto 20 97 rfl rfl ?_
    exact r_vret 50 rfl rfl (k15 z0_1 z0_2)
theorem e_J2_init {G : Gm} {κ : Nat → Nat} {φ : Nat → Option Nat} (hS : GS G κ φ) {w : Wd} {Q : Rs → Wd → Prop} {a1 : Nat} {a2 : Nat} {a3 : Nat} {x4 : Int32} {m5 : Nat} {n6 : Nat} {g7 : Nat → Nat} (o1 : Lk G w a2 (.inl (nJ1, [.ref a3, .int 0, .int x4, .int (nI m5)]))) (o2 : w.1 a1 = some (.inl (nJ2, [.null, .int 0, .int 0, .int 0]))) (o3 : w.1 a3 = some (arB n6 g7)) (hg4 : ¬ 0 = 0 → (12 + (m5 - 0)) ≤ w.2.2) (b5 : m5 < 2 ^ 31) (b6 : n6 < 2 ^ 31) (q7 : m5 = n6 → ∀ i, i < n6 → g7 i < 128) (hg8 : (12 + n6) ≤ w.2.2) (b9 : ¬ m5 = n6 → (m5 - 0) ≤ 536870912) (hg10 : 0 = 0 → ¬ m5 = n6 → (12 + (m5 - 0)) ≤ w.2.2) (q11 : ¬ m5 = n6 → (m5 - 0) < (n6 - 0) → ∀ i, i < (m5 - 0) → g7 (0 + i) < 128) (q12 : ¬ m5 = n6 → ¬ (m5 - 0) < (n6 - 0) → ∀ i, i < (n6 - 0) → g7 (0 + i) < 128) (k13 : m5 = n6 → Q (.inl none) (wset (wnew (wset w a1 (.inl (nJ2, [.null, .int 0, .int 0, .int 0]))) (arB n6 g7) n6) a1 (.inl (nJ2, [.ref w.2.1, .int 0, .int 0, .int 0])))) (k14 : ¬ m5 = n6 → (m5 - 0) < (n6 - 0) → Q (.inl none) (wset (wnew (wset w a1 (.inl (nJ2, [.null, .int 0, .int 0, .int 0]))) (arB (m5 - 0) (va_cpy g7 (fun _ => 0) 0 0 (m5 - 0))) (m5 - 0)) a1 (.inl (nJ2, [.ref w.2.1, .int 0, .int 0, .int 0])))) (k15 : ¬ m5 = n6 → ¬ (m5 - 0) < (n6 - 0) → Q (.inl none) (wset (wnew (wset w a1 (.inl (nJ2, [.null, .int 0, .int 0, .int 0]))) (arB (m5 - 0) (va_cpy g7 (fun _ => 0) 0 0 (n6 - 0))) (m5 - 0)) a1 (.inl (nJ2, [.ref w.2.1, .int 0, .int 0, .int 0])))) : Ev G mJ2_init [.ref a1, .ref a2] w Q := by
  show Rn G mJ2_init 0 [(0, .ref a1), (1, .ref a2)] [] w Q
  refine r_aload_n 0 1 0 rfl rfl rfl ?_
  refine r_aload_n 1 2 1 rfl rfl rfl ?_
  refine r_null 2 3 rfl rfl ?_
  refine r_callI lkI_J2_489 3 6 rfl rfl (by decide) [.ref a2, .null] rfl rfl (Nat.le_of_ble_eq_true rfl) (Nat.le_of_ble_eq_true rfl) (e_J2_init_2 hS (m5 := m5) (o1 := o1) (o2 := o2) (o3 := o3) (hg4 := hg4) (b5 := b5) (b6 := b6) (q7 := q7) (hg8 := hg8) (b9 := b9) (hg10 := hg10) (q11 := q11) (q12 := q12) (k13 := fun z0_0 => ?_) (k14 := fun z0_0 => fun z0_1 => ?_) (k15 := fun z0_0 => fun z0_1 => ?_)) (fun _ _ h => h)
  · show Rn G mJ2_init 6 [(0, .ref a1), (1, .ref a2)] [] (wset (wnew (wset w a1 (.inl (nJ2, [.null, .int 0, .int 0, .int 0]))) (arB n6 g7) n6) a1 (.inl (nJ2, [.ref w.2.1, .int 0, .int 0, .int 0]))) _
    exact r_vret 4 rfl rfl (k13 z0_0)
  · show Rn G mJ2_init 6 [(0, .ref a1), (1, .ref a2)] [] (wset (wnew (wset w a1 (.inl (nJ2, [.null, .int 0, .int 0, .int 0]))) (arB (m5 - 0) (va_cpy g7 (fun _ => 0) 0 0 (m5 - 0))) (m5 - 0)) a1 (.inl (nJ2, [.ref w.2.1, .int 0, .int 0, .int 0]))) _
    exact r_vret 4 rfl rfl (k14 z0_0 z0_1)
  · show Rn G mJ2_init 6 [(0, .ref a1), (1, .ref a2)] [] (wset (wnew (wset w a1 (.inl (nJ2, [.null, .int 0, .int 0, .int 0]))) (arB (m5 - 0) (va_cpy g7 (fun _ => 0) 0 0 (n6 - 0))) (m5 - 0)) a1 (.inl (nJ2, [.ref w.2.1, .int 0, .int 0, .int 0]))) _
    exact r_vret 4 rfl rfl (k15 z0_0 z0_1)
theorem e_J1_toString {G : Gm} {κ : Nat → Nat} {φ : Nat → Option Nat} (hS : GS G κ φ) {w : Wd} {Q : Rs → Wd → Prop} {a1 : Nat} {a2 : Nat} {x3 : Int32} {m4 : Nat} {n5 : Nat} {g6 : Nat → Nat} (hg : 16 ≤ w.2.2) (o1 : Lk G w a1 (.inl (nJ1, [.ref a2, .int 0, .int x3, .int (nI m4)]))) (o2 : w.1 a2 = some (arB n5 g6)) (hg3 : ¬ 0 = 0 → (12 + (m4 - 0)) ≤ w.2.2 - (12 + 4)) (b4 : m4 < 2 ^ 31) (b5 : n5 < 2 ^ 31) (q6 : m4 = n5 → ∀ i, i < n5 → g6 i < 128) (hg7 : (12 + n5) ≤ w.2.2 - (12 + 4)) (b8 : ¬ m4 = n5 → (m4 - 0) ≤ 536870912) (hg9 : 0 = 0 → ¬ m4 = n5 → (12 + (m4 - 0)) ≤ w.2.2 - (12 + 4)) (q10 : ¬ m4 = n5 → (m4 - 0) < (n5 - 0) → ∀ i, i < (m4 - 0) → g6 (0 + i) < 128) (q11 : ¬ m4 = n5 → ¬ (m4 - 0) < (n5 - 0) → ∀ i, i < (n5 - 0) → g6 (0 + i) < 128) (k12 : m4 = n5 → Q (.inl (some (.ref w.2.1))) (wset (wnew (wset (wnew w (.inl (nJ2, [.null, .int 0, .int 0, .int 0])) 4) w.2.1 (.inl (nJ2, [.null, .int 0, .int 0, .int 0]))) (arB n5 g6) n5) w.2.1 (.inl (nJ2, [.ref (w.2.1 + 1), .int 0, .int 0, .int 0])))) (k13 : ¬ m4 = n5 → (m4 - 0) < (n5 - 0) → Q (.inl (some (.ref w.2.1))) (wset (wnew (wset (wnew w (.inl (nJ2, [.null, .int 0, .int 0, .int 0])) 4) w.2.1 (.inl (nJ2, [.null, .int 0, .int 0, .int 0]))) (arB (m4 - 0) (va_cpy g6 (fun _ => 0) 0 0 (m4 - 0))) (m4 - 0)) w.2.1 (.inl (nJ2, [.ref (w.2.1 + 1), .int 0, .int 0, .int 0])))) (k14 : ¬ m4 = n5 → ¬ (m4 - 0) < (n5 - 0) → Q (.inl (some (.ref w.2.1))) (wset (wnew (wset (wnew w (.inl (nJ2, [.null, .int 0, .int 0, .int 0])) 4) w.2.1 (.inl (nJ2, [.null, .int 0, .int 0, .int 0]))) (arB (m4 - 0) (va_cpy g6 (fun _ => 0) 0 0 (n5 - 0))) (m4 - 0)) w.2.1 (.inl (nJ2, [.ref (w.2.1 + 1), .int 0, .int 0, .int 0])))) : Ev G mJ1_toString [.ref a1] w Q := by
  show Rn G mJ1_toString 0 [(0, .ref a1)] [] w Q
  refine Rn.wok fun hwk => ?_
  refine r_new (fs := [.null, .int 0, .int 0, .int 0]) (ty := tyJ2) (T := TJ2) (C := RJ2) (N := 4) (ci := nJ2) (n := 4) 0 3 rfl rfl rfl in_J2 tyJ2_ok q550 q397 q63 rfl (by decide) (by show 12 + 4 ≤ w.2.2; omega) ?_
  show Rn G mJ1_toString 3 [(0, .ref a1)] [.ref w.2.1] (wnew w (.inl (nJ2, [.null, .int 0, .int 0, .int 0])) 4) _
  refine r_dup 1 4 rfl rfl rfl ?_
  refine r_aload_n 2 5 0 rfl rfl rfl ?_
  refine r_callI lkI_J1_137 3 8 rfl rfl (by decide) [.ref a1] rfl rfl (Nat.le_of_ble_eq_true rfl) (Nat.le_of_ble_eq_true rfl) (e_J2_init hS (m5 := m4) (o1 := (Lk.new_n o1 (by have := (o1.lt hwk); show a1 < w.2.1; omega))) (o2 := wnew_s) (o3 := (wnew_n o2 (by have := (hwk.1 _ _ o2).2; show a2 < w.2.1; omega))) (hg4 := hg3) (b5 := b4) (b6 := b5) (q7 := q6) (hg8 := hg7) (b9 := b8) (hg10 := hg9) (q11 := q10) (q12 := q11) (k13 := fun z0_0 => ?_) (k14 := fun z0_0 => fun z0_1 => ?_) (k15 := fun z0_0 => fun z0_1 => ?_)) (fun _ _ h => h)
  · show Rn G mJ1_toString 8 [(0, .ref a1)] [.ref w.2.1] (wset (wnew (wset (wnew w (.inl (nJ2, [.null, .int 0, .int 0, .int 0])) 4) w.2.1 (.inl (nJ2, [.null, .int 0, .int 0, .int 0]))) (arB n5 g6) n5) w.2.1 (.inl (nJ2, [.ref (w.2.1 + 1), .int 0, .int 0, .int 0]))) _
    exact r_aret 4 rfl rfl (Or.inl ⟨_, rfl⟩) (Or.inr ⟨_, rfl⟩) (k12 z0_0)
  · show Rn G mJ1_toString 8 [(0, .ref a1)] [.ref w.2.1] (wset (wnew (wset (wnew w (.inl (nJ2, [.null, .int 0, .int 0, .int 0])) 4) w.2.1 (.inl (nJ2, [.null, .int 0, .int 0, .int 0]))) (arB (m4 - 0) (va_cpy g6 (fun _ => 0) 0 0 (m4 - 0))) (m4 - 0)) w.2.1 (.inl (nJ2, [.ref (w.2.1 + 1), .int 0, .int 0, .int 0]))) _
    exact r_aret 4 rfl rfl (Or.inl ⟨_, rfl⟩) (Or.inr ⟨_, rfl⟩) (k13 z0_0 z0_1)
  · show Rn G mJ1_toString 8 [(0, .ref a1)] [.ref w.2.1] (wset (wnew (wset (wnew w (.inl (nJ2, [.null, .int 0, .int 0, .int 0])) 4) w.2.1 (.inl (nJ2, [.null, .int 0, .int 0, .int 0]))) (arB (m4 - 0) (va_cpy g6 (fun _ => 0) 0 0 (n5 - 0))) (m4 - 0)) w.2.1 (.inl (nJ2, [.ref (w.2.1 + 1), .int 0, .int 0, .int 0]))) _
    exact r_aret 4 rfl rfl (Or.inl ⟨_, rfl⟩) (Or.inr ⟨_, rfl⟩) (k14 z0_0 z0_1)
theorem e_J17_charAt {G : Gm} {κ : Nat → Nat} {φ : Nat → Option Nat} (hS : GS G κ φ) {w : Wd} {Q : Rs → Wd → Prop} {a1 : Nat} {m2 : Nat} {n3 : Nat} {g4 : Nat → Nat} (o1 : Lk G w a1 (arB n3 g4)) (b2 : m2 < 2 ^ 31) (b3 : n3 < 2 ^ 31) (f4 : m2 < n3) (q5 : (g4 m2) < 128) (k6 : Q (.inl (some (.int (nI (g4 m2))))) w) : Ev G mJ17_charAt [.ref a1, .int (nI m2)] w Q := by
  show Rn G mJ17_charAt 0 [(0, .ref a1), (1, .int (nI m2))] [] w Q
  refine r_iload_n 0 1 1 rfl rfl rfl ?_
  refine r_aload_n 1 2 0 rfl rfl rfl ?_
  refine r_alen 2 3 rfl rfl o1 ?_
  refine r_callS lkS_J17_9 3 6 rfl rfl (by decide) [.int (nI m2), .int (nI n3)] rfl rfl (Nat.le_of_ble_eq_true rfl) (Nat.le_of_ble_eq_true rfl) (e_J2_checkIndex hS (m2 := n3) (m1 := m2) (b1 := b2) (b2 := b3) (f3 := f4) (k4 := ?_)) (fun _ _ h => h)
  show Rn G mJ17_charAt 6 [(0, .ref a1), (1, .int (nI m2))] [] w _
  refine r_aload_n 4 7 0 rfl rfl rfl ?_
  refine r_iload_n 5 8 1 rfl rfl rfl ?_
  refine y_bald (i := m2) 6 9 rfl rfl o1 (by omega) (by omega) ?_
  refine r_sipush 7 12 rfl rfl ds_255 ?_
  refine r_iand 8 13 rfl rfl ?_
  refine x_eq (y := (nI (g4 m2))) (n_and q5) ?_
  refine x_i2c 9 14 rfl rfl (n_toC q5) ?_
  exact r_iret 10 rfl rfl (n_char q5) k6
theorem e_J2_charAt {G : Gm} {κ : Nat → Nat} {φ : Nat → Option Nat} (hS : GS G κ φ) {w : Wd} {Q : Rs → Wd → Prop} {a1 : Nat} {m2 : Nat} {a3 : Nat} {x4 : Int32} {x5 : Int32} {n6 : Nat} {g7 : Nat → Nat} (o1 : Lk G w a1 (.inl (nJ2, [.ref a3, .int 0, .int x4, .int x5]))) (o2 : Lk G w a3 (arB n6 g7)) (b3 : m2 < 2 ^ 31) (b4 : n6 < 2 ^ 31) (f5 : m2 < n6) (q6 : (g7 m2) < 128) (k7 : Q (.inl (some (.int (nI (g7 m2))))) w) : Ev G mJ2_charAt [.ref a1, .int (nI m2)] w Q := by
  show Rn G mJ2_charAt 0 [(0, .ref a1), (1, .int (nI m2))] [] w Q
  refine r_aload_n 0 1 0 rfl rfl rfl ?_
  refine r_callV lkV_J2_492_J2 (C := RJ2) (TT := TJ2) (NN := 4) rfl o1 1 4 rfl rfl (by decide) [] rfl rfl (Nat.le_of_ble_eq_true rfl) (Nat.le_of_ble_eq_true rfl) (e_J2_isLatin1 hS (o1 := o1) (k2 := ?_)) (fun _ _ h => h)
  show Rn G mJ2_charAt 4 [(0, .ref a1), (1, .int (nI m2))] [.int 1] w _
  refine r_if_eq 2 7 16 rfl rfl rfl (fun c => absurd c (by decide)) (fun _ => ?_)
  refine r_aload_n 3 8 0 rfl rfl rfl ?_
  refine r_get (v := .ref a3) fl_J2_9_J2 4 11 rfl rfl o1 rfl ?_
  refine r_iload_n 5 12 1 rfl rfl rfl ?_
  refine r_callS lkS_J2_495 6 15 rfl rfl (by decide) [.ref a3, .int (nI m2)] rfl rfl (Nat.le_of_ble_eq_true rfl) (Nat.le_of_ble_eq_true rfl) (e_J17_charAt hS (m2 := m2) (o1 := o2) (b2 := b3) (b3 := b4) (f4 := f5) (q5 := q6) (k6 := ?_)) (fun _ _ h => h)
  show Rn G mJ2_charAt 15 [(0, .ref a1), (1, .int (nI m2))] [.int (nI (g7 m2))] w _
  exact r_iret 7 rfl rfl (n_char q6) k7
theorem e_J0_inflateIfNeededFor {G : Gm} {κ : Nat → Nat} {φ : Nat → Option Nat} (hS : GS G κ φ) {w : Wd} {Q : Rs → Wd → Prop} {a1 : Nat} {a2 : Nat} {a3 : Nat} {x4 : Int32} {m5 : Nat} {a6 : Nat} {x7 : Int32} {x8 : Int32} (o1 : Lk G w a1 (.inl (nJ1, [.ref a3, .int 0, .int x4, .int (nI m5)]))) (o2 : Lk G w a2 (.inl (nJ2, [.ref a6, .int 0, .int x7, .int x8]))) (k3 : Q (.inl none) w) : Ev G mJ0_inflateIfNeededFor [.ref a1, .ref a2] w Q := by
  show Rn G mJ0_inflateIfNeededFor 0 [(0, .ref a1), (1, .ref a2)] [] w Q
  refine r_gets (v := .int 1) (hS 50) q122 0 3 rfl rfl ?_
  refine r_if_eq 1 6 21 rfl rfl rfl (fun c => absurd c (by decide)) (fun _ => ?_)
  refine r_aload_n 2 7 0 rfl rfl rfl ?_
  refine r_get (v := .int 0) fl_J0_22_J1 3 10 rfl rfl o1 rfl ?_
  refine r_aload_n 4 11 1 rfl rfl rfl ?_
  refine r_callV lkV_J0_40_J2 (C := RJ2) (TT := TJ2) (NN := 4) rfl o2 5 14 rfl rfl (by decide) [] rfl rfl (Nat.le_of_ble_eq_true rfl) (Nat.le_of_ble_eq_true rfl) (e_J2_coder hS (o1 := o2) (k2 := ?_)) (fun _ _ h => h)
  show Rn G mJ0_inflateIfNeededFor 14 [(0, .ref a1), (1, .ref a2)] [.int 0, .int 0] w _
  refine r_icmp_eq 6 17 21 rfl rfl rfl (fun _ => ?_) (fun c => absurd c (by decide))
  exact r_vret 9 rfl rfl k3
theorem e_J2_getBytes {G : Gm} {κ : Nat → Nat} {φ : Nat → Option Nat} (hS : GS G κ φ) {w : Wd} {Q : Rs → Wd → Prop} {a1 : Nat} {a2 : Nat} {m3 : Nat} {a4 : Nat} {x5 : Int32} {x6 : Int32} {n7 : Nat} {g8 : Nat → Nat} {n9 : Nat} {g10 : Nat → Nat} (o1 : Lk G w a1 (.inl (nJ2, [.ref a4, .int 0, .int x5, .int x6]))) (o2 : Lk G w a4 (arB n7 g8)) (o3 : w.1 a2 = some (arB n9 g10)) (b4 : m3 + n7 ≤ n9) (q5 : ∀ i, i < n7 → g8 (0 + i) < 128) (bd6 : n9 < 2 ^ 31) (k7 : Q (.inl none) (wset w a2 (arB n9 (va_cpy g8 g10 0 m3 n7)))) : Ev G mJ2_getBytes [.ref a1, .ref a2, .int (nI m3), .int 0] w Q := by
  show Rn G mJ2_getBytes 0 [(0, .ref a1), (1, .ref a2), (2, .int (nI m3)), (3, .int 0)] [] w Q
  refine r_aload_n 0 1 0 rfl rfl rfl ?_
  refine r_callV lkV_J2_335_J2 (C := RJ2) (TT := TJ2) (NN := 4) rfl o1 1 4 rfl rfl (by decide) [] rfl rfl (Nat.le_of_ble_eq_true rfl) (Nat.le_of_ble_eq_true rfl) (e_J2_coder hS (o1 := o1) (k2 := ?_)) (fun _ _ h => h)
  show Rn G mJ2_getBytes 4 [(0, .ref a1), (1, .ref a2), (2, .int (nI m3)), (3, .int 0)] [.int 0] w _
  refine r_iload_n 2 5 3 rfl rfl rfl ?_
  refine r_icmp_ne 3 8 28 rfl rfl rfl (fun c => absurd c (by decide)) (fun _ => ?_)
  refine r_aload_n 4 9 0 rfl rfl rfl ?_
  refine r_get (v := .ref a4) fl_J2_9_J2 5 12 rfl rfl o1 rfl ?_
  refine r_iconst 6 13 rfl rfl di_0 ?_
  refine r_aload_n 7 14 1 rfl rfl rfl ?_
  refine r_iload_n 8 15 2 rfl rfl rfl ?_
  refine r_iload_n 9 16 3 rfl rfl rfl ?_
  refine r_ishl 10 17 rfl rfl ?_
  refine x_eq (y := (nI m3)) (z_shl _) ?_
  refine r_aload_n 11 18 0 rfl rfl rfl ?_
  refine r_get (v := .ref a4) fl_J2_9_J2 12 21 rfl rfl o1 rfl ?_
  refine r_alen 13 22 rfl rfl o2 ?_
  refine y_copyB (S := 0) (D := m3) (L := n7) 14 25 rfl rfl q544 o2 o3 (by omega) b4 (by omega) bd6 q5 (by decide) (Nat.le_of_ble_eq_true rfl) ?_
  show Rn G mJ2_getBytes 25 [(0, .ref a1), (1, .ref a2), (2, .int (nI m3)), (3, .int 0)] [] (wset w a2 (arB n9 (va_cpy g8 g10 0 m3 n7))) _
  refine r_goto 15 43 rfl rfl ?_
  exact r_vret 25 rfl rfl k7
theorem e_J0_putStringAt {G : Gm} {κ : Nat → Nat} {φ : Nat → Option Nat} (hS : GS G κ φ) {w : Wd} {Q : Rs → Wd → Prop} {a1 : Nat} {m2 : Nat} {a3 : Nat} {a4 : Nat} {x5 : Int32} {m6 : Nat} {a7 : Nat} {x8 : Int32} {x9 : Int32} {n10 : Nat} {g11 : Nat → Nat} {n12 : Nat} {g13 : Nat → Nat} (o1 : Lk G w a1 (.inl (nJ1, [.ref a4, .int 0, .int x5, .int (nI m6)]))) (o2 : Lk G w a3 (.inl (nJ2, [.ref a7, .int 0, .int x8, .int x9]))) (o3 : Lk G w a7 (arB n10 g11)) (o4 : w.1 a4 = some (arB n12 g13)) (b5 : m2 + n10 ≤ n12) (q6 : ∀ i, i < n10 → g11 (0 + i) < 128) (b7 : n12 < 2 ^ 31) (k8 : Q (.inl none) (wset w a4 (arB n12 (va_cpy g11 g13 0 m2 n10)))) : Ev G mJ0_putStringAt [.ref a1, .int (nI m2), .ref a3] w Q := by
  show Rn G mJ0_putStringAt 0 [(0, .ref a1), (1, .int (nI m2)), (2, .ref a3)] [] w Q
  refine r_aload_n 0 1 0 rfl rfl rfl ?_
  refine r_aload_n 1 2 2 rfl rfl rfl ?_
  refine r_callR lkR_J0_397 (C := RJ1) (TT := TJ1) (NN := 4) rfl o1 2 5 rfl rfl (by decide) [.ref a3] rfl rfl (Nat.le_of_ble_eq_true rfl) (Nat.le_of_ble_eq_true rfl) (e_J0_inflateIfNeededFor hS (m5 := m6) (o1 := o1) (o2 := o2) (k3 := ?_)) (fun _ _ h => h)
  show Rn G mJ0_putStringAt 5 [(0, .ref a1), (1, .int (nI m2)), (2, .ref a3)] [] w _
  refine r_aload_n 3 6 2 rfl rfl rfl ?_
  refine r_aload_n 4 7 0 rfl rfl rfl ?_
  refine r_get (v := .ref a4) fl_J0_15_J1 5 10 rfl rfl o1 rfl ?_
  refine r_iload_n 6 11 1 rfl rfl rfl ?_
  refine r_aload_n 7 12 0 rfl rfl rfl ?_
  refine r_get (v := .int 0) fl_J0_22_J1 8 15 rfl rfl o1 rfl ?_
  refine r_callV lkV_J0_399_J2 (C := RJ2) (TT := TJ2) (NN := 4) rfl o2 9 18 rfl rfl (by decide) [.ref a4, .int (nI m2), .int 0] rfl rfl (Nat.le_of_ble_eq_true rfl) (Nat.le_of_ble_eq_true rfl) (e_J2_getBytes hS (m3 := m2) (o1 := o2) (o2 := o3) (o3 := o4) (b4 := b5) (q5 := q6) (bd6 := b7) (k7 := ?_)) (fun _ _ h => h)
  show Rn G mJ0_putStringAt 18 [(0, .ref a1), (1, .int (nI m2)), (2, .ref a3)] [] (wset w a4 (arB n12 (va_cpy g11 g13 0 m2 n10))) _
  exact r_vret 10 rfl rfl k8
theorem e_J0_inflateIfNeededFor_2 {G : Gm} {κ : Nat → Nat} {φ : Nat → Option Nat} (hS : GS G κ φ) {w : Wd} {Q : Rs → Wd → Prop} {a1 : Nat} {a2 : Nat} {a3 : Nat} {x4 : Int32} {m5 : Nat} {a6 : Nat} {x7 : Int32} {m8 : Nat} (o1 : Lk G w a1 (.inl (nJ1, [.ref a3, .int 0, .int x4, .int (nI m5)]))) (o2 : Lk G w a2 (.inl (nJ1, [.ref a6, .int 0, .int x7, .int (nI m8)]))) (k3 : Q (.inl none) w) : Ev G mJ0_inflateIfNeededFor_2 [.ref a1, .ref a2] w Q := by
  show Rn G mJ0_inflateIfNeededFor_2 0 [(0, .ref a1), (1, .ref a2)] [] w Q
  refine r_gets (v := .int 1) (hS 50) q122 0 3 rfl rfl ?_
  refine r_if_eq 1 6 21 rfl rfl rfl (fun c => absurd c (by decide)) (fun _ => ?_)
  refine r_aload_n 2 7 0 rfl rfl rfl ?_
  refine r_get (v := .int 0) fl_J0_22_J1 3 10 rfl rfl o1 rfl ?_
  refine r_aload_n 4 11 1 rfl rfl rfl ?_
  refine r_callV lkV_J0_70_J1 (C := RJ1) (TT := TJ1) (NN := 4) rfl o2 5 14 rfl rfl (by decide) [] rfl rfl (Nat.le_of_ble_eq_true rfl) (Nat.le_of_ble_eq_true rfl) (e_J0_getCoder hS (m4 := m8) (o1 := o2) (k2 := ?_)) (fun _ _ h => h)
  show Rn G mJ0_inflateIfNeededFor_2 14 [(0, .ref a1), (1, .ref a2)] [.int 0, .int 0] w _
  refine r_icmp_eq 6 17 21 rfl rfl rfl (fun _ => ?_) (fun c => absurd c (by decide))
  exact r_vret 9 rfl rfl k3
theorem e_J0_getBytes {G : Gm} {κ : Nat → Nat} {φ : Nat → Option Nat} (hS : GS G κ φ) {w : Wd} {Q : Rs → Wd → Prop} {a1 : Nat} {a2 : Nat} {m3 : Nat} {a4 : Nat} {x5 : Int32} {m6 : Nat} {n7 : Nat} {g8 : Nat → Nat} {n9 : Nat} {g10 : Nat → Nat} (o1 : Lk G w a1 (.inl (nJ1, [.ref a4, .int 0, .int x5, .int (nI m6)]))) (o2 : Lk G w a4 (arB n7 g8)) (o3 : w.1 a2 = some (arB n9 g10)) (b4 : 0 + m6 ≤ n7) (b5 : m3 + m6 ≤ n9) (q6 : ∀ i, i < m6 → g8 (0 + i) < 128) (bd7 : n7 < 2 ^ 31) (bd8 : n9 < 2 ^ 31) (k9 : Q (.inl none) (wset w a2 (arB n9 (va_cpy g8 g10 0 m3 m6)))) : Ev G mJ0_getBytes [.ref a1, .ref a2, .int (nI m3), .int 0] w Q := by
  show Rn G mJ0_getBytes 0 [(0, .ref a1), (1, .ref a2), (2, .int (nI m3)), (3, .int 0)] [] w Q
  refine r_aload_n 0 1 0 rfl rfl rfl ?_
  refine r_get (v := .int 0) fl_J0_22_J1 1 4 rfl rfl o1 rfl ?_
  refine r_iload_n 2 5 3 rfl rfl rfl ?_
  refine r_icmp_ne 3 8 29 rfl rfl rfl (fun c => absurd c (by decide)) (fun _ => ?_)
  refine r_aload_n 4 9 0 rfl rfl rfl ?_
  refine r_get (v := .ref a4) fl_J0_15_J1 5 12 rfl rfl o1 rfl ?_
  refine r_iconst 6 13 rfl rfl di_0 ?_
  refine r_aload_n 7 14 1 rfl rfl rfl ?_
  refine r_iload_n 8 15 2 rfl rfl rfl ?_
  refine r_iload_n 9 16 3 rfl rfl rfl ?_
  refine r_ishl 10 17 rfl rfl ?_
  refine x_eq (y := (nI m3)) (z_shl _) ?_
  refine r_aload_n 11 18 0 rfl rfl rfl ?_
  refine r_get (v := .int (nI m6)) fl_J0_79_J1 12 21 rfl rfl o1 rfl ?_
  refine r_iload_n 13 22 3 rfl rfl rfl ?_
  refine r_ishl 14 23 rfl rfl ?_
  refine x_eq (y := (nI m6)) (z_shl _) ?_
  refine y_copyB (S := 0) (D := m3) (L := m6) 15 26 rfl rfl q1560 o2 o3 b4 b5 bd7 bd8 q6 (by decide) (Nat.le_of_ble_eq_true rfl) ?_
  show Rn G mJ0_getBytes 26 [(0, .ref a1), (1, .ref a2), (2, .int (nI m3)), (3, .int 0)] [] (wset w a2 (arB n9 (va_cpy g8 g10 0 m3 m6))) _
  refine r_goto 16 43 rfl rfl ?_
  exact r_vret 25 rfl rfl k9
theorem e_J4_init {G : Gm} {κ : Nat → Nat} {φ : Nat → Option Nat} (hS : GS G κ φ) {w : Wd} {Q : Rs → Wd → Prop} {a1 : Nat} (k1 : Q (.inl none) w) : Ev G mJ4_init [.ref a1] w Q := by
  show Rn G mJ4_init 0 [(0, .ref a1)] [] w Q
  refine r_aload_n 0 1 0 rfl rfl rfl ?_
  refine r_objInit q157 q111 q112 1 4 rfl rfl (by decide) (Nat.le_of_ble_eq_true rfl) ?_
  exact r_vret 2 rfl rfl k1
theorem e_J5_init {G : Gm} {κ : Nat → Nat} {φ : Nat → Option Nat} (hS : GS G κ φ) {w : Wd} {Q : Rs → Wd → Prop} {a1 : Nat} (o1 : w.1 a1 = some (.inl (nJ6, [.int 0, .null, .int 0]))) (k2 : Q (.inl none) (wset w a1 (.inl (nJ6, [.int 0, .null, .int 0])))) : Ev G mJ5_init [.ref a1] w Q := by
  show Rn G mJ5_init 0 [(0, .ref a1)] [] w Q
  refine r_aload_n 0 1 0 rfl rfl rfl ?_
  refine r_callI lkI_J5_1 1 4 rfl rfl (by decide) [] rfl rfl (Nat.le_of_ble_eq_true rfl) (Nat.le_of_ble_eq_true rfl) (e_J4_init hS (k1 := ?_)) (fun _ _ h => h)
  show Rn G mJ5_init 4 [(0, .ref a1)] [] w _
  refine r_aload_n 2 5 0 rfl rfl rfl ?_
  refine r_iconst 3 6 rfl rfl di_0 ?_
  refine r_put (i := 0) fl_J5_7_J6 in_J6 q147 (ty0 := tyJ6) tyJ6_ok nmJ6 4 9 rfl rfl o1 rfl rfl rfl (Nat.le_of_ble_eq_true rfl) ?_
  show Rn G mJ5_init 9 [(0, .ref a1)] [] (wset w a1 (.inl (nJ6, [.int 0, .null, .int 0]))) _
  exact r_vret 5 rfl rfl k2
theorem e_J6_init {G : Gm} {κ : Nat → Nat} {φ : Nat → Option Nat} (hS : GS G κ φ) {w : Wd} {Q : Rs → Wd → Prop} {a1 : Nat} (o1 : w.1 a1 = some (.inl (nJ6, [.int 0, .null, .int 0]))) (k2 : Q (.inl none) (wset w a1 (.inl (nJ6, [.int 0, .ref (κ 1), .int 0])))) : Ev G mJ6_init [.ref a1] w Q := by
  show Rn G mJ6_init 0 [(0, .ref a1)] [] w Q
  refine r_aload_n 0 1 0 rfl rfl rfl ?_
  refine r_callI lkI_J6_1 1 4 rfl rfl (by decide) [] rfl rfl (Nat.le_of_ble_eq_true rfl) (Nat.le_of_ble_eq_true rfl) (e_J5_init hS (o1 := o1) (k2 := ?_)) (fun _ _ h => h)
  show Rn G mJ6_init 4 [(0, .ref a1)] [] (wset w a1 (.inl (nJ6, [.int 0, .null, .int 0]))) _
  refine r_aload_n 2 5 0 rfl rfl rfl ?_
  refine r_gets (v := .ref (κ 1)) (hS 1).1 q158 3 8 rfl rfl ?_
  refine r_put (i := 1) fl_J6_9_J6 in_J6 q147 (ty0 := tyJ6) tyJ6_ok nmJ6 4 11 rfl rfl wset_s rfl rfl rfl (Nat.le_of_ble_eq_true rfl) ?_
  rw [wset_wset]
  show Rn G mJ6_init 11 [(0, .ref a1)] [] (wset w a1 (.inl (nJ6, [.int 0, .ref (κ 1), .int 0]))) _
  exact r_vret 5 rfl rfl k2
theorem e_J6_elementData {G : Gm} {κ : Nat → Nat} {φ : Nat → Option Nat} (hS : GS G κ φ) {w : Wd} {Q : Rs → Wd → Prop} {a1 : Nat} {m2 : Nat} {x3 : Int32} {a4 : Nat} {m5 : Nat} {n6 : Nat} {g7 : Nat → Option Nat} {a8 : Nat} (o1 : Lk G w a1 (.inl (nJ6, [.int x3, .ref a4, .int (nI m5)]))) (o2 : Lk G w a4 (arR "java/lang/Object" n6 g7)) (b3 : m2 < n6) (bd4 : n6 < 2 ^ 31) (q5 : (g7 m2) = some a8) (k6 : Q (.inl (some (.ref a8))) w) : Ev G mJ6_elementData [.ref a1, .int (nI m2)] w Q := by
  show Rn G mJ6_elementData 0 [(0, .ref a1), (1, .int (nI m2))] [] w Q
  refine r_aload_n 0 1 0 rfl rfl rfl ?_
  refine r_get (v := .ref a4) fl_J6_9_J6 1 4 rfl rfl o1 rfl ?_
  refine r_iload_n 2 5 1 rfl rfl rfl ?_
  refine y_aald (i := m2) 3 6 rfl rfl o2 b3 bd4 q5 ?_
  show Rn G mJ6_elementData 6 [(0, .ref a1), (1, .int (nI m2))] [.ref a8] w _
  exact r_aret 4 rfl rfl (Or.inl ⟨_, rfl⟩) (Or.inr ⟨_, rfl⟩) k6
theorem e_J6_get {G : Gm} {κ : Nat → Nat} {φ : Nat → Option Nat} (hS : GS G κ φ) {w : Wd} {Q : Rs → Wd → Prop} {a1 : Nat} {m2 : Nat} {x3 : Int32} {a4 : Nat} {m5 : Nat} {n6 : Nat} {g7 : Nat → Option Nat} {a8 : Nat} (o1 : Lk G w a1 (.inl (nJ6, [.int x3, .ref a4, .int (nI m5)]))) (b2 : m2 < 2 ^ 31) (b3 : m5 < 2 ^ 31) (f4 : m2 < m5) (o5 : Lk G w a4 (arR "java/lang/Object" n6 g7)) (b6 : m2 < n6) (b7 : n6 < 2 ^ 31) (q8 : (g7 m2) = some a8) (k9 : Q (.inl (some (.ref a8))) w) : Ev G mJ6_get [.ref a1, .int (nI m2)] w Q := by
  show Rn G mJ6_get 0 [(0, .ref a1), (1, .int (nI m2))] [] w Q
  refine r_iload_n 0 1 1 rfl rfl rfl ?_
  refine r_aload_n 1 2 0 rfl rfl rfl ?_
  refine r_get (v := .int (nI m5)) fl_J6_48_J6 2 5 rfl rfl o1 rfl ?_
  refine r_callS lkS_J6_118 3 8 rfl rfl (by decide) [.int (nI m2), .int (nI m5)] rfl rfl (Nat.le_of_ble_eq_true rfl) (Nat.le_of_ble_eq_true rfl) (e_J25_checkIndex hS (m2 := m5) (m1 := m2) (b1 := b2) (b2 := b3) (f3 := f4) (k4 := ?_)) (fun _ _ h => h)
  show Rn G mJ6_get 8 [(0, .ref a1), (1, .int (nI m2))] [.int (nI m2)] w _
  refine r_pop 4 9 rfl rfl rfl ?_
  refine r_aload_n 5 10 0 rfl rfl rfl ?_
  refine r_iload_n 6 11 1 rfl rfl rfl ?_
  refine r_callV lkV_J6_123_J6 (C := RJ6) (TT := TJ6) (NN := 3) rfl o1 7 14 rfl rfl (by decide) [.int (nI m2)] rfl rfl (Nat.le_of_ble_eq_true rfl) (Nat.le_of_ble_eq_true rfl) (e_J6_elementData hS (a8 := a8) (m5 := m5) (m2 := m2) (o1 := o1) (o2 := o5) (b3 := b6) (bd4 := b7) (q5 := q8) (k6 := ?_)) (fun _ _ h => h)
  show Rn G mJ6_get 14 [(0, .ref a1), (1, .int (nI m2))] [.ref a8] w _
  exact r_aret 8 rfl rfl (Or.inl ⟨_, rfl⟩) (Or.inr ⟨_, rfl⟩) k9
theorem e_J6_set {G : Gm} {κ : Nat → Nat} {φ : Nat → Option Nat} (hS : GS G κ φ) {w : Wd} {Q : Rs → Wd → Prop} {a1 : Nat} {m2 : Nat} {a3 : Nat} {x4 : Int32} {a5 : Nat} {m6 : Nat} {n7 : Nat} {g8 : Nat → Option Nat} {a9 : Nat} (o1 : Lk G w a1 (.inl (nJ6, [.int x4, .ref a5, .int (nI m6)]))) (b2 : m2 < 2 ^ 31) (b3 : m6 < 2 ^ 31) (f4 : m2 < m6) (o5 : w.1 a5 = some (arR "java/lang/Object" n7 g8)) (b6 : m2 < n7) (b7 : n7 < 2 ^ 31) (q8 : (g8 m2) = some a9) (q9 : OkO G w (.ref a3)) (k10 : Q (.inl (some (.ref a9))) (wset w a5 (arR "java/lang/Object" n7 (upF g8 m2 (some a3))))) : Ev G mJ6_set [.ref a1, .int (nI m2), .ref a3] w Q := by
  show Rn G mJ6_set 0 [(0, .ref a1), (1, .int (nI m2)), (2, .ref a3)] [] w Q
  refine r_iload_n 0 1 1 rfl rfl rfl ?_
  refine r_aload_n 1 2 0 rfl rfl rfl ?_
  refine r_get (v := .int (nI m6)) fl_J6_48_J6 2 5 rfl rfl o1 rfl ?_
  refine r_callS lkS_J6_118 3 8 rfl rfl (by decide) [.int (nI m2), .int (nI m6)] rfl rfl (Nat.le_of_ble_eq_true rfl) (Nat.le_of_ble_eq_true rfl) (e_J25_checkIndex hS (m2 := m6) (m1 := m2) (b1 := b2) (b2 := b3) (f3 := f4) (k4 := ?_)) (fun _ _ h => h)
  show Rn G mJ6_set 8 [(0, .ref a1), (1, .int (nI m2)), (2, .ref a3)] [.int (nI m2)] w _
  refine r_pop 4 9 rfl rfl rfl ?_
  refine r_aload_n 5 10 0 rfl rfl rfl ?_
  refine r_iload_n 6 11 1 rfl rfl rfl ?_
  refine r_callV lkV_J6_123_J6 (C := RJ6) (TT := TJ6) (NN := 3) rfl o1 7 14 rfl rfl (by decide) [.int (nI m2)] rfl rfl (Nat.le_of_ble_eq_true rfl) (Nat.le_of_ble_eq_true rfl) (e_J6_elementData hS (a8 := a9) (m5 := m6) (m2 := m2) (o1 := o1) (o2 := (Or.inl o5)) (b3 := b6) (bd4 := b7) (q5 := q8) (k6 := ?_)) (fun _ _ h => h)
  show Rn G mJ6_set 14 [(0, .ref a1), (1, .int (nI m2)), (2, .ref a3)] [.ref a9] w _
  refine r_astore_n (lv' := [(3, .ref a9), (0, .ref a1), (1, .int (nI m2)), (2, .ref a3)]) 8 15 rfl rfl (Nat.le_of_ble_eq_true rfl) rfl ?_
  refine r_aload_n 9 16 1 rfl rfl rfl ?_
  refine r_get (v := .ref a5) fl_J6_9_J6 10 19 rfl rfl o1 rfl ?_
  refine r_iload_n 11 20 2 rfl rfl rfl ?_
  refine r_aload_n 12 21 3 rfl rfl rfl ?_
  refine y_aastO (i := m2) 13 22 rfl rfl o5 q9 (by omega) (by omega) ?_
  show Rn G mJ6_set 22 [(3, .ref a9), (0, .ref a1), (1, .int (nI m2)), (2, .ref a3)] [] (wset w a5 (arR "java/lang/Object" n7 (upF g8 m2 (some a3)))) _
  refine r_aload_n 14 23 0 rfl rfl rfl ?_
  exact r_aret 15 rfl rfl (Or.inl ⟨_, rfl⟩) (Or.inr ⟨_, rfl⟩) k10
theorem e_J22_init {G : Gm} {κ : Nat → Nat} {φ : Nat → Option Nat} (hS : GS G κ φ) {w : Wd} {Q : Rs → Wd → Prop} {a1 : Nat} {a2 : Nat} {x3 : Int32} {a4 : Nat} {m5 : Nat} (o1 : w.1 a1 = some (.inl (nJ22, [.int 0, .int 0, .int 0, .null]))) (o2 : Lk G w a2 (.inl (nJ6, [.int x3, .ref a4, .int (nI m5)]))) (k3 : Q (.inl none) (wset w a1 (.inl (nJ22, [.int 0, .int (-1), .int x3, .ref a2])))) : Ev G mJ22_init [.ref a1, .ref a2] w Q := by
  show Rn G mJ22_init 0 [(0, .ref a1), (1, .ref a2)] [] w Q
  refine Rn.wok fun hwk => ?_
  refine r_aload_n 0 1 0 rfl rfl rfl ?_
  refine r_aload_n 1 2 1 rfl rfl rfl ?_
  refine r_putF (i := 3) fl_J22_1_J22 in_J22 q662 (ty0 := tyJ22) tyJ22_ok nmJ22 2 5 rfl rfl o1 rfl rfl rfl rfl rfl (Nat.le_of_ble_eq_true rfl) ?_
  show Rn G mJ22_init 5 [(0, .ref a1), (1, .ref a2)] [] (wset w a1 (.inl (nJ22, [.int 0, .int 0, .int 0, .ref a2]))) _
  refine r_aload_n 3 6 0 rfl rfl rfl ?_
  refine r_objInit q666 q111 q112 4 9 rfl rfl (by decide) (Nat.le_of_ble_eq_true rfl) ?_
  refine r_aload_n 5 10 0 rfl rfl rfl ?_
  refine r_iconst 6 11 rfl rfl di_m1 ?_
  refine r_put (i := 1) fl_J22_13_J22 in_J22 q662 (ty0 := tyJ22) tyJ22_ok nmJ22 7 14 rfl rfl wset_s rfl rfl rfl (Nat.le_of_ble_eq_true rfl) ?_
  rw [wset_wset]
  show Rn G mJ22_init 14 [(0, .ref a1), (1, .ref a2)] [] (wset w a1 (.inl (nJ22, [.int 0, .int (-1), .int 0, .ref a2]))) _
  refine r_aload_n 8 15 0 rfl rfl rfl ?_
  refine r_aload_n 9 16 0 rfl rfl rfl ?_
  refine r_get (v := .ref a2) fl_J22_1_J22 10 19 rfl rfl (Or.inl wset_s) rfl ?_
  refine r_get (v := .int x3) fl_J22_17_J6 11 22 rfl rfl (Lk.set_n o2 (Lk.ne o2 o1 hwk (by intro h; simp at h))) rfl ?_
  refine r_put (i := 2) fl_J22_22_J22 in_J22 q662 (ty0 := tyJ22) tyJ22_ok nmJ22 12 25 rfl rfl wset_s rfl rfl rfl (Nat.le_of_ble_eq_true rfl) ?_
  rw [wset_wset]
  show Rn G mJ22_init 25 [(0, .ref a1), (1, .ref a2)] [] (wset w a1 (.inl (nJ22, [.int 0, .int (-1), .int x3, .ref a2]))) _
  exact r_vret 13 rfl rfl k3
theorem e_J6_iterator {G : Gm} {κ : Nat → Nat} {φ : Nat → Option Nat} (hS : GS G κ φ) {w : Wd} {Q : Rs → Wd → Prop} {a1 : Nat} {x2 : Int32} {a3 : Nat} {m4 : Nat} (hg : 16 ≤ w.2.2) (o1 : Lk G w a1 (.inl (nJ6, [.int x2, .ref a3, .int (nI m4)]))) (k2 : Q (.inl (some (.ref w.2.1))) (wset (wnew w (.inl (nJ22, [.int 0, .int 0, .int 0, .null])) 4) w.2.1 (.inl (nJ22, [.int 0, .int (-1), .int x2, .ref a1])))) : Ev G mJ6_iterator [.ref a1] w Q := by
  show Rn G mJ6_iterator 0 [(0, .ref a1)] [] w Q
  refine Rn.wok fun hwk => ?_
  refine r_new (fs := [.int 0, .int 0, .int 0, .null]) (ty := tyJ22) (T := TJ22) (C := RJ22) (N := 4) (ci := nJ22) (n := 4) 0 3 rfl rfl rfl in_J22 tyJ22_ok q661 q662 q88 rfl (by decide) (by show 12 + 4 ≤ w.2.2; omega) ?_
  show Rn G mJ6_iterator 3 [(0, .ref a1)] [.ref w.2.1] (wnew w (.inl (nJ22, [.int 0, .int 0, .int 0, .null])) 4) _
  refine r_dup 1 4 rfl rfl rfl ?_
  refine r_aload_n 2 5 0 rfl rfl rfl ?_
  refine r_callI lkI_J6_269 3 8 rfl rfl (by decide) [.ref a1] rfl rfl (Nat.le_of_ble_eq_true rfl) (Nat.le_of_ble_eq_true rfl) (e_J22_init hS (m5 := m4) (o1 := wnew_s) (o2 := (Lk.new_n o1 (by have := (o1.lt hwk); show a1 < w.2.1; omega))) (k3 := ?_)) (fun _ _ h => h)
  show Rn G mJ6_iterator 8 [(0, .ref a1)] [.ref w.2.1] (wset (wnew w (.inl (nJ22, [.int 0, .int 0, .int 0, .null])) 4) w.2.1 (.inl (nJ22, [.int 0, .int (-1), .int x2, .ref a1]))) _
  exact r_aret 4 rfl rfl (Or.inl ⟨_, rfl⟩) (Or.inr ⟨_, rfl⟩) k2
theorem e_J22_hasNext {G : Gm} {κ : Nat → Nat} {φ : Nat → Option Nat} (hS : GS G κ φ) {w : Wd} {Q : Rs → Wd → Prop} {a1 : Nat} {m2 : Nat} {x3 : Int32} {x4 : Int32} {a5 : Nat} {x6 : Int32} {a7 : Nat} {m8 : Nat} (o1 : Lk G w a1 (.inl (nJ22, [.int (nI m2), .int x3, .int x4, .ref a5]))) (o2 : Lk G w a5 (.inl (nJ6, [.int x6, .ref a7, .int (nI m8)]))) (bd3 : m2 < 2 ^ 31) (bd4 : m8 < 2 ^ 31) (k5 : m2 = m8 → Q (.inl (some (.int 0))) w) (k6 : ¬ m2 = m8 → Q (.inl (some (.int 1))) w) : Ev G mJ22_hasNext [.ref a1] w Q := by
  show Rn G mJ22_hasNext 0 [(0, .ref a1)] [] w Q
  refine r_aload_n 0 1 0 rfl rfl rfl ?_
  refine r_get (v := .int (nI m2)) fl_J22_25_J22 1 4 rfl rfl o1 rfl ?_
  refine r_aload_n 2 5 0 rfl rfl rfl ?_
  refine r_get (v := .ref a5) fl_J22_1_J22 3 8 rfl rfl o1 rfl ?_
  refine r_getN (i := 2) (host := "java/util/ArrayList") (T := TJ6) (C := RJ6) (NN := 3) rfl (by decide) q162 4 11 rfl rfl o2 rfl ?_
  refine y_icmp_eq (a := m2) (b := m8) bd3 bd4 5 14 18 rfl rfl rfl (fun c1 => ?_) (fun c1 => ?_)
  · refine r_iconst 8 19 rfl rfl di_0 ?_
    exact r_iret 9 rfl rfl (by decide) (k5 c1)
  · refine r_iconst 6 15 rfl rfl di_1 ?_
    refine r_goto 7 19 rfl rfl ?_
    exact r_iret 9 rfl rfl (by decide) (k6 c1)
theorem e_J22_checkForComodification {G : Gm} {κ : Nat → Nat} {φ : Nat → Option Nat} (hS : GS G κ φ) {w : Wd} {Q : Rs → Wd → Prop} {a1 : Nat} {m2 : Nat} {x3 : Int32} {x4 : Int32} {a5 : Nat} {x6 : Int32} {a7 : Nat} {m8 : Nat} (o1 : Lk G w a1 (.inl (nJ22, [.int (nI m2), .int x3, .int x4, .ref a5]))) (o2 : Lk G w a5 (.inl (nJ6, [.int x6, .ref a7, .int (nI m8)]))) (f3 : x6 = x4) (k4 : Q (.inl none) w) : Ev G mJ22_checkForComodification [.ref a1] w Q := by
  show Rn G mJ22_checkForComodification 0 [(0, .ref a1)] [] w Q
  refine r_aload_n 0 1 0 rfl rfl rfl ?_
  refine r_get (v := .ref a5) fl_J22_1_J22 1 4 rfl rfl o1 rfl ?_
  refine r_get (v := .int x6) fl_J22_17_J6 2 7 rfl rfl o2 rfl ?_
  refine r_aload_n 3 8 0 rfl rfl rfl ?_
  refine r_get (v := .int x4) fl_J22_22_J22 4 11 rfl rfl o1 rfl ?_
  refine r_icmp_eq 5 14 22 rfl rfl rfl (fun _ => ?_) (fun c => absurd f3 c)
  exact r_vret 10 rfl rfl k4
theorem e_J22_next {G : Gm} {κ : Nat → Nat} {φ : Nat → Option Nat} (hS : GS G κ φ) {w : Wd} {Q : Rs → Wd → Prop} {a1 : Nat} {m2 : Nat} {x3 : Int32} {x4 : Int32} {a5 : Nat} {x6 : Int32} {a7 : Nat} {m8 : Nat} {n9 : Nat} {g10 : Nat → Option Nat} {a11 : Nat} (o1 : w.1 a1 = some (.inl (nJ22, [.int (nI m2), .int x3, .int x4, .ref a5]))) (o2 : Lk G w a5 (.inl (nJ6, [.int x6, .ref a7, .int (nI m8)]))) (f3 : x6 = x4) (bd4 : m2 < 2 ^ 31) (bd5 : m8 < 2 ^ 31) (f6 : m2 < m8) (o7 : Lk G w a7 (arR "java/lang/Object" n9 g10)) (bd8 : n9 < 2 ^ 31) (f9 : m2 < n9) (q10 : (g10 m2) = some a11) (k11 : Q (.inl (some (.ref a11))) (wset w a1 (.inl (nJ22, [.int (nI (m2 + 1)), .int (nI m2), .int x4, .ref a5])))) : Ev G mJ22_next [.ref a1] w Q := by
  show Rn G mJ22_next 0 [(0, .ref a1)] [] w Q
  refine Rn.wok fun hwk => ?_
  refine r_aload_n 0 1 0 rfl rfl rfl ?_
  refine r_callV lkV_J22_31_J22 (C := RJ22) (TT := TJ22) (NN := 4) rfl (Or.inl o1) 1 4 rfl rfl (by decide) [] rfl rfl (Nat.le_of_ble_eq_true rfl) (Nat.le_of_ble_eq_true rfl) (e_J22_checkForComodification hS (m8 := m8) (m2 := m2) (o1 := (Or.inl o1)) (o2 := o2) (f3 := f3) (k4 := ?_)) (fun _ _ h => h)
  show Rn G mJ22_next 4 [(0, .ref a1)] [] w _
  refine r_aload_n 2 5 0 rfl rfl rfl ?_
  refine r_get (v := .int (nI m2)) fl_J22_25_J22 3 8 rfl rfl (Or.inl o1) rfl ?_
  refine r_istore_n (lv' := [(1, .int (nI m2)), (0, .ref a1)]) 4 9 rfl rfl (Nat.le_of_ble_eq_true rfl) rfl ?_
  refine r_iload_n 5 10 0 rfl rfl rfl ?_
  refine r_aload_n 6 11 1 rfl rfl rfl ?_
  refine r_get (v := .ref a5) fl_J22_1_J22 7 14 rfl rfl (Or.inl o1) rfl ?_
  refine r_getN (i := 2) (host := "java/util/ArrayList") (T := TJ6) (C := RJ6) (NN := 3) rfl (by decide) q162 8 17 rfl rfl o2 rfl ?_
  refine y_icmp_lt (a := m2) (b := m8) bd4 bd5 9 20 28 rfl rfl rfl (fun _ => ?_) (fun c => absurd f6 c)
  refine r_aload_n 14 29 1 rfl rfl rfl ?_
  refine r_get (v := .ref a5) fl_J22_1_J22 15 32 rfl rfl (Or.inl o1) rfl ?_
  refine r_get (v := .ref a7) fl_J22_37_J6 16 35 rfl rfl o2 rfl ?_
  refine r_astore_n (lv' := [(2, .ref a7), (1, .int (nI m2)), (0, .ref a1)]) 17 36 rfl rfl (Nat.le_of_ble_eq_true rfl) rfl ?_
  refine r_iload_n 18 37 1 rfl rfl rfl ?_
  refine r_aload_n 19 38 0 rfl rfl rfl ?_
  refine r_alen 20 39 rfl rfl o7 ?_
  refine y_icmp_lt (a := m2) (b := n9) (by omega) bd8 21 42 50 rfl rfl rfl (fun _ => ?_) (fun c => absurd f9 c)
  refine r_aload_n 26 51 2 rfl rfl rfl ?_
  refine r_iload_n 27 52 1 rfl rfl rfl ?_
  refine r_iconst 28 53 rfl rfl di_1 ?_
  refine r_iadd 29 54 rfl rfl ?_
  refine x_eq (y := (nI (m2 + 1))) (nI_add _ _) ?_
  refine r_put (i := 0) fl_J22_25_J22 in_J22 q662 (ty0 := tyJ22) tyJ22_ok nmJ22 30 57 rfl rfl o1 rfl rfl rfl (Nat.le_of_ble_eq_true rfl) ?_
  show Rn G mJ22_next 57 [(2, .ref a7), (1, .int (nI m2)), (0, .ref a1)] [] (wset w a1 (.inl (nJ22, [.int (nI (m2 + 1)), .int x3, .int x4, .ref a5]))) _
  refine r_aload_n 31 58 0 rfl rfl rfl ?_
  refine r_aload_n 32 59 2 rfl rfl rfl ?_
  refine r_iload_n 33 60 1 rfl rfl rfl ?_
  refine r_dup_x1 34 61 rfl rfl rfl rfl ?_
  refine r_put (i := 1) fl_J22_13_J22 in_J22 q662 (ty0 := tyJ22) tyJ22_ok nmJ22 35 64 rfl rfl wset_s rfl rfl rfl (Nat.le_of_ble_eq_true rfl) ?_
  rw [wset_wset]
  show Rn G mJ22_next 64 [(2, .ref a7), (1, .int (nI m2)), (0, .ref a1)] [.int (nI m2), .ref a7] (wset w a1 (.inl (nJ22, [.int (nI (m2 + 1)), .int (nI m2), .int x4, .ref a5]))) _
  refine y_aald (i := m2) 36 65 rfl rfl (Lk.set_n o7 (Lk.ne o7 o1 hwk (by intro h; simp at h))) (by omega) (by omega) q10 ?_
  show Rn G mJ22_next 65 [(2, .ref a7), (1, .int (nI m2)), (0, .ref a1)] [.ref a11] (wset w a1 (.inl (nJ22, [.int (nI (m2 + 1)), .int (nI m2), .int x4, .ref a5]))) _
  exact r_aret 37 rfl rfl (Or.inl ⟨_, rfl⟩) (Or.inr ⟨_, rfl⟩) k11
theorem e_J16_copyOf_4 {G : Gm} {κ : Nat → Nat} {φ : Nat → Option Nat} (hS : GS G κ φ) {w : Wd} {Q : Rs → Wd → Prop} {a1 : Nat} {m2 : Nat} {n3 : Nat} {g4 : Nat → Option Nat} (b1 : m2 ≤ 100000000) (hg2 : (12 + m2) ≤ w.2.2) (o3 : Lk G w a1 (arR "java/lang/Object" n3 g4)) (b4 : n3 < 2 ^ 31) (q5 : m2 < n3 → ∀ i, i < m2 → OkO G (wnew w (arR "java/lang/Object" m2 (fun _ => none)) m2) (va_rf (g4 (0 + i)))) (k6 : m2 < n3 → Q (.inl (some (.ref w.2.1))) (wnew w (arR "java/lang/Object" m2 (va_cpy g4 (fun _ => none) 0 0 m2)) m2)) (q7 : ¬ m2 < n3 → ∀ i, i < n3 → OkO G (wnew w (arR "java/lang/Object" m2 (fun _ => none)) m2) (va_rf (g4 (0 + i)))) (k8 : ¬ m2 < n3 → Q (.inl (some (.ref w.2.1))) (wnew w (arR "java/lang/Object" m2 (va_cpy g4 (fun _ => none) 0 0 n3)) m2)) : Ev G mJ16_copyOf_4 [.ref a1, .int (nI m2), .ref (κ 2)] w Q := by
  show Rn G mJ16_copyOf_4 0 [(0, .ref a1), (1, .int (nI m2)), (2, .ref (κ 2))] [] w Q
  refine Rn.wok fun hwk => ?_
  refine r_aload_n 0 1 2 rfl rfl rfl ?_
  refine r_ldcM (mi := κ 2) 1 3 rfl rfl q886 (hS 2) ?_
  refine r_acmp_ne (rx := (some (κ 2))) (ry := (some (κ 2))) 2 6 13 rfl rfl rfl rfl rfl (fun h => absurd rfl h) (fun _ => ?_)
  refine r_iload_n 3 7 1 rfl rfl rfl ?_
  refine y_newR (n := m2) 4 10 rfl rfl q888 q887 (by decide) b1 (by have := hg2; show 12 + m2 ≤ w.2.2; omega) ?_
  show Rn G mJ16_copyOf_4 10 [(0, .ref a1), (1, .int (nI m2)), (2, .ref (κ 2))] [.ref w.2.1] (wnew w (arR "java/lang/Object" m2 (fun _ => none)) m2) _
  refine r_goto 5 24 rfl rfl ?_
  refine r_astore_n (lv' := [(3, .ref w.2.1), (0, .ref a1), (1, .int (nI m2)), (2, .ref (κ 2))]) 11 25 rfl rfl (Nat.le_of_ble_eq_true rfl) rfl ?_
  refine r_aload_n 12 26 1 rfl rfl rfl ?_
  refine r_iconst 13 27 rfl rfl di_0 ?_
  refine r_aload_n 14 28 0 rfl rfl rfl ?_
  refine r_iconst 15 29 rfl rfl di_0 ?_
  refine r_aload_n 16 30 1 rfl rfl rfl ?_
  refine r_alen 17 31 rfl rfl (Lk.new_n o3 (by have := (o3.lt hwk); show a1 < w.2.1; omega)) ?_
  refine r_iload_n 18 32 2 rfl rfl rfl ?_
  refine r_callS lkS_J16_304 19 35 rfl rfl (by decide) [.int (nI n3), .int (nI m2)] rfl rfl (Nat.le_of_ble_eq_true rfl) (Nat.le_of_ble_eq_true rfl) (e_J15_min hS (m2 := m2) (m1 := n3) (bd1 := b4) (bd2 := (by omega)) (k3 := fun z0_0 => ?_) (k4 := fun z0_0 => ?_)) (fun _ _ h => h)
  · show Rn G mJ16_copyOf_4 35 [(3, .ref w.2.1), (0, .ref a1), (1, .int (nI m2)), (2, .ref (κ 2))] [.int (nI m2), .int 0, .ref w.2.1, .int 0, .ref a1] (wnew w (arR "java/lang/Object" m2 (fun _ => none)) m2) _
    refine y_copyR (S := 0) (D := 0) (L := m2) 20 38 rfl rfl q460 (Lk.new_n o3 (by have := (o3.lt hwk); show a1 < w.2.1; omega)) wnew_s (by omega) (by omega) (by omega) (by omega) (q5 z0_0) (by decide) (Nat.le_of_ble_eq_true rfl) ?_
    refine z_wn ?_
    show Rn G mJ16_copyOf_4 38 [(3, .ref w.2.1), (0, .ref a1), (1, .int (nI m2)), (2, .ref (κ 2))] [] (wnew w (arR "java/lang/Object" m2 (va_cpy g4 (fun _ => none) 0 0 m2)) m2) _
    refine r_aload_n 21 39 0 rfl rfl rfl ?_
    exact r_aret 22 rfl rfl (Or.inr ⟨_, rfl⟩) (Or.inr ⟨_, rfl⟩) (k6 z0_0)
  · show Rn G mJ16_copyOf_4 35 [(3, .ref w.2.1), (0, .ref a1), (1, .int (nI m2)), (2, .ref (κ 2))] [.int (nI n3), .int 0, .ref w.2.1, .int 0, .ref a1] (wnew w (arR "java/lang/Object" m2 (fun _ => none)) m2) _
    refine y_copyR (S := 0) (D := 0) (L := n3) 20 38 rfl rfl q460 (Lk.new_n o3 (by have := (o3.lt hwk); show a1 < w.2.1; omega)) wnew_s (by omega) (by omega) (by omega) (by omega) (q7 z0_0) (by decide) (Nat.le_of_ble_eq_true rfl) ?_
    refine z_wn ?_
    show Rn G mJ16_copyOf_4 38 [(3, .ref w.2.1), (0, .ref a1), (1, .int (nI m2)), (2, .ref (κ 2))] [] (wnew w (arR "java/lang/Object" m2 (va_cpy g4 (fun _ => none) 0 0 n3)) m2) _
    refine r_aload_n 21 39 0 rfl rfl rfl ?_
    exact r_aret 22 rfl rfl (Or.inr ⟨_, rfl⟩) (Or.inr ⟨_, rfl⟩) (k8 z0_0)
theorem e_J16_copyOf_3 {G : Gm} {κ : Nat → Nat} {φ : Nat → Option Nat} (hS : GS G κ φ) {w : Wd} {Q : Rs → Wd → Prop} {a1 : Nat} {m2 : Nat} {n3 : Nat} {g4 : Nat → Option Nat} (o1 : Lk G w a1 (arR "java/lang/Object" n3 g4)) (b2 : m2 ≤ 100000000) (hg3 : (12 + m2) ≤ w.2.2) (b4 : n3 < 2 ^ 31) (q5 : m2 < n3 → ∀ i, i < m2 → OkO G (wnew w (arR "java/lang/Object" m2 (fun _ => none)) m2) (va_rf (g4 (0 + i)))) (q6 : ¬ m2 < n3 → ∀ i, i < n3 → OkO G (wnew w (arR "java/lang/Object" m2 (fun _ => none)) m2) (va_rf (g4 (0 + i)))) (k7 : m2 < n3 → Q (.inl (some (.ref w.2.1))) (wnew w (arR "java/lang/Object" m2 (va_cpy g4 (fun _ => none) 0 0 m2)) m2)) (k8 : ¬ m2 < n3 → Q (.inl (some (.ref w.2.1))) (wnew w (arR "java/lang/Object" m2 (va_cpy g4 (fun _ => none) 0 0 n3)) m2)) : Ev G mJ16_copyOf_3 [.ref a1, .int (nI m2)] w Q := by
  show Rn G mJ16_copyOf_3 0 [(0, .ref a1), (1, .int (nI m2))] [] w Q
  refine r_aload_n 0 1 0 rfl rfl rfl ?_
  refine r_iload_n 1 2 1 rfl rfl rfl ?_
  refine r_aload_n 2 3 0 rfl rfl rfl ?_
  refine r_getC (E := "java/lang/Object") 3 6 rfl rfl q858 q2284 (by decide) (hS 2) o1 (by decide) (Nat.le_of_ble_eq_true rfl) ?_
  refine r_callS lkS_J16_300 4 9 rfl rfl (by decide) [.ref a1, .int (nI m2), .ref (κ 2)] rfl rfl (Nat.le_of_ble_eq_true rfl) (Nat.le_of_ble_eq_true rfl) (e_J16_copyOf_4 hS (m2 := m2) (b1 := b2) (hg2 := hg3) (o3 := o1) (b4 := b4) (q5 := q5) (q7 := q6) (k6 := fun z0_0 => ?_) (k8 := fun z0_0 => ?_)) (fun _ _ h => h)
  · show Rn G mJ16_copyOf_3 9 [(0, .ref a1), (1, .int (nI m2))] [.ref w.2.1] (wnew w (arR "java/lang/Object" m2 (va_cpy g4 (fun _ => none) 0 0 m2)) m2) _
    exact r_aret 5 rfl rfl (Or.inr ⟨_, rfl⟩) (Or.inr ⟨_, rfl⟩) (k7 z0_0)
  · show Rn G mJ16_copyOf_3 9 [(0, .ref a1), (1, .int (nI m2))] [.ref w.2.1] (wnew w (arR "java/lang/Object" m2 (va_cpy g4 (fun _ => none) 0 0 n3)) m2) _
    exact r_aret 5 rfl rfl (Or.inr ⟨_, rfl⟩) (Or.inr ⟨_, rfl⟩) (k8 z0_0)
theorem e_J6_grow_2 {G : Gm} {κ : Nat → Nat} {φ : Nat → Option Nat} (hS : GS G κ φ) {w : Wd} {Q : Rs → Wd → Prop} {a1 : Nat} {m2 : Nat} {x3 : Int32} {a4 : Nat} {m5 : Nat} {n6 : Nat} {g7 : Nat → Option Nat} (o1 : w.1 a1 = some (.inl (nJ6, [.int x3, .ref a4, .int (nI m5)]))) (o2 : Lk G w a4 (arR "java/lang/Object" n6 g7)) (bd3 : n6 < 2 ^ 31) (b4 : 0 < n6 → n6 ≤ m2) (b5 : 0 < n6 → (m2 - n6) < 2 ^ 31) (b6 : 0 < n6 → (n6 + (n6 / 2)) < 2 ^ 31) (f7 : 0 < n6 → (m2 - n6) < (n6 / 2) → ¬ 2147483639 < (n6 + (n6 / 2))) (b8 : 0 < n6 → (n6 + (m2 - n6)) < 2 ^ 31) (f9 : 0 < n6 → ¬ (m2 - n6) < (n6 / 2) → ¬ (n6 + (m2 - n6)) ≤ 0) (f10 : 0 < n6 → ¬ (m2 - n6) < (n6 / 2) → ¬ 2147483639 < (n6 + (m2 - n6))) (b11 : 0 < n6 → (m2 - n6) < (n6 / 2) → (n6 + (n6 / 2)) ≤ 100000000) (hg12 : 0 < n6 → (m2 - n6) < (n6 / 2) → (12 + (n6 + (n6 / 2))) ≤ w.2.2) (q13 : 0 < n6 → (m2 - n6) < (n6 / 2) → (n6 + (n6 / 2)) < n6 → ∀ i, i < (n6 + (n6 / 2)) → OkO G (wnew w (arR "java/lang/Object" (n6 + (n6 / 2)) (fun _ => none)) (n6 + (n6 / 2))) (va_rf (g7 (0 + i)))) (q14 : 0 < n6 → (m2 - n6) < (n6 / 2) → ¬ (n6 + (n6 / 2)) < n6 → ∀ i, i < n6 → OkO G (wnew w (arR "java/lang/Object" (n6 + (n6 / 2)) (fun _ => none)) (n6 + (n6 / 2))) (va_rf (g7 (0 + i)))) (k15 : 0 < n6 → (m2 - n6) < (n6 / 2) → Q (.inl (some (.ref w.2.1))) (wset (wnew w (arR "java/lang/Object" (n6 + (n6 / 2)) (va_cpy g7 (fun _ => none) 0 0 n6)) (n6 + (n6 / 2))) a1 (.inl (nJ6, [.int x3, .ref w.2.1, .int (nI m5)])))) (b16 : 0 < n6 → ¬ (m2 - n6) < (n6 / 2) → (n6 + (m2 - n6)) ≤ 100000000) (hg17 : 0 < n6 → ¬ (m2 - n6) < (n6 / 2) → (12 + (n6 + (m2 - n6))) ≤ w.2.2) (q18 : 0 < n6 → ¬ (m2 - n6) < (n6 / 2) → (n6 + (m2 - n6)) < n6 → ∀ i, i < (n6 + (m2 - n6)) → OkO G (wnew w (arR "java/lang/Object" (n6 + (m2 - n6)) (fun _ => none)) (n6 + (m2 - n6))) (va_rf (g7 (0 + i)))) (q19 : 0 < n6 → ¬ (m2 - n6) < (n6 / 2) → ¬ (n6 + (m2 - n6)) < n6 → ∀ i, i < n6 → OkO G (wnew w (arR "java/lang/Object" (n6 + (m2 - n6)) (fun _ => none)) (n6 + (m2 - n6))) (va_rf (g7 (0 + i)))) (k20 : 0 < n6 → ¬ (m2 - n6) < (n6 / 2) → Q (.inl (some (.ref w.2.1))) (wset (wnew w (arR "java/lang/Object" (n6 + (m2 - n6)) (va_cpy g7 (fun _ => none) 0 0 n6)) (n6 + (m2 - n6))) a1 (.inl (nJ6, [.int x3, .ref w.2.1, .int (nI m5)])))) (b21 : ¬ 0 < n6 → a4 = (κ 1) → 10 < 2 ^ 31) (b22 : ¬ 0 < n6 → a4 = (κ 1) → m2 < 2 ^ 31) (b23 : ¬ 0 < n6 → a4 = (κ 1) → 10 < m2 → m2 ≤ 100000000) (hg24 : (12 + m2) ≤ w.2.2) (k25 : ¬ 0 < n6 → a4 = (κ 1) → 10 < m2 → Q (.inl (some (.ref w.2.1))) (wset (wnew w (arR "java/lang/Object" m2 (fun _ => none)) m2) a1 (.inl (nJ6, [.int x3, .ref w.2.1, .int (nI m5)])))) (hg : 22 ≤ w.2.2) (k26 : ¬ 0 < n6 → a4 = (κ 1) → ¬ 10 < m2 → Q (.inl (some (.ref w.2.1))) (wset (wnew w (arR "java/lang/Object" 10 (fun _ => none)) 10) a1 (.inl (nJ6, [.int x3, .ref w.2.1, .int (nI m5)])))) (b27 : ¬ 0 < n6 → ¬ a4 = (κ 1) → n6 ≤ m2) (b28 : ¬ 0 < n6 → ¬ a4 = (κ 1) → (m2 - n6) < 2 ^ 31) (b29 : ¬ 0 < n6 → ¬ a4 = (κ 1) → (n6 / 2) < 2 ^ 31) (b30 : ¬ 0 < n6 → ¬ a4 = (κ 1) → (n6 + (n6 / 2)) < 2 ^ 31) (f31 : ¬ 0 < n6 → ¬ a4 = (κ 1) → (m2 - n6) < (n6 / 2) → ¬ 2147483639 < (n6 + (n6 / 2))) (b32 : ¬ 0 < n6 → ¬ a4 = (κ 1) → (n6 + (m2 - n6)) < 2 ^ 31) (f33 : ¬ 0 < n6 → ¬ a4 = (κ 1) → ¬ (m2 - n6) < (n6 / 2) → ¬ (n6 + (m2 - n6)) ≤ 0) (f34 : ¬ 0 < n6 → ¬ a4 = (κ 1) → ¬ (m2 - n6) < (n6 / 2) → ¬ 2147483639 < (n6 + (m2 - n6))) (b35 : ¬ 0 < n6 → ¬ a4 = (κ 1) → (m2 - n6) < (n6 / 2) → (n6 + (n6 / 2)) ≤ 100000000) (hg36 : ¬ 0 < n6 → ¬ a4 = (κ 1) → (m2 - n6) < (n6 / 2) → (12 + (n6 + (n6 / 2))) ≤ w.2.2) (q37 : ¬ 0 < n6 → ¬ a4 = (κ 1) → (m2 - n6) < (n6 / 2) → (n6 + (n6 / 2)) < n6 → ∀ i, i < (n6 + (n6 / 2)) → OkO G (wnew w (arR "java/lang/Object" (n6 + (n6 / 2)) (fun _ => none)) (n6 + (n6 / 2))) (va_rf (g7 (0 + i)))) (q38 : ¬ 0 < n6 → ¬ a4 = (κ 1) → (m2 - n6) < (n6 / 2) → ¬ (n6 + (n6 / 2)) < n6 → ∀ i, i < n6 → OkO G (wnew w (arR "java/lang/Object" (n6 + (n6 / 2)) (fun _ => none)) (n6 + (n6 / 2))) (va_rf (g7 (0 + i)))) (f39 : ¬ 0 < n6 → ¬ a4 = (κ 1) → (m2 - n6) < (n6 / 2) → ¬ (n6 + (n6 / 2)) < n6) (k40 : ¬ 0 < n6 → ¬ a4 = (κ 1) → (m2 - n6) < (n6 / 2) → Q (.inl (some (.ref w.2.1))) (wset (wnew w (arR "java/lang/Object" (n6 + (n6 / 2)) (va_cpy g7 (fun _ => none) 0 0 n6)) (n6 + (n6 / 2))) a1 (.inl (nJ6, [.int x3, .ref w.2.1, .int (nI m5)])))) (b41 : ¬ 0 < n6 → ¬ a4 = (κ 1) → ¬ (m2 - n6) < (n6 / 2) → (n6 + (m2 - n6)) ≤ 100000000) (hg42 : ¬ 0 < n6 → ¬ a4 = (κ 1) → ¬ (m2 - n6) < (n6 / 2) → (12 + (n6 + (m2 - n6))) ≤ w.2.2) (q43 : ¬ 0 < n6 → ¬ a4 = (κ 1) → ¬ (m2 - n6) < (n6 / 2) → (n6 + (m2 - n6)) < n6 → ∀ i, i < (n6 + (m2 - n6)) → OkO G (wnew w (arR "java/lang/Object" (n6 + (m2 - n6)) (fun _ => none)) (n6 + (m2 - n6))) (va_rf (g7 (0 + i)))) (q44 : ¬ 0 < n6 → ¬ a4 = (κ 1) → ¬ (m2 - n6) < (n6 / 2) → ¬ (n6 + (m2 - n6)) < n6 → ∀ i, i < n6 → OkO G (wnew w (arR "java/lang/Object" (n6 + (m2 - n6)) (fun _ => none)) (n6 + (m2 - n6))) (va_rf (g7 (0 + i)))) (f45 : ¬ 0 < n6 → ¬ a4 = (κ 1) → ¬ (m2 - n6) < (n6 / 2) → ¬ (n6 + (m2 - n6)) < n6) (k46 : ¬ 0 < n6 → ¬ a4 = (κ 1) → ¬ (m2 - n6) < (n6 / 2) → Q (.inl (some (.ref w.2.1))) (wset (wnew w (arR "java/lang/Object" (n6 + (m2 - n6)) (va_cpy g7 (fun _ => none) 0 0 n6)) (n6 + (m2 - n6))) a1 (.inl (nJ6, [.int x3, .ref w.2.1, .int (nI m5)])))) : Ev G mJ6_grow_2 [.ref a1, .int (nI m2)] w Q := by
  show Rn G mJ6_grow_2 0 [(0, .ref a1), (1, .int (nI m2))] [] w Q
  refine Rn.wok fun hwk => ?_
  refine r_aload_n 0 1 0 rfl rfl rfl ?_
  refine r_get (v := .ref a4) fl_J6_9_J6 1 4 rfl rfl (Or.inl o1) rfl ?_
  refine r_alen 2 5 rfl rfl o2 ?_
  refine r_istore_n (lv' := [(2, .int (nI n6)), (0, .ref a1), (1, .int (nI m2))]) 3 6 rfl rfl (Nat.le_of_ble_eq_true rfl) rfl ?_
  refine r_iload_n 4 7 0 rfl rfl rfl ?_
  refine y_if_gt (a := n6) bd3 5 10 20 rfl rfl rfl (fun c1 => ?_) (fun c1 => ?_)
  · refine r_iload_n 10 21 0 rfl rfl rfl ?_
    refine r_iload_n 11 22 2 rfl rfl rfl ?_
    refine r_iload_n 12 23 0 rfl rfl rfl ?_
    refine r_isub 13 24 rfl rfl ?_
    refine x_eq (y := (nI (m2 - n6))) (pk_sub (a := m2) (b := n6) (b4 c1)) ?_
    refine r_iload_n 14 25 0 rfl rfl rfl ?_
    refine r_iconst 15 26 rfl rfl di_1 ?_
    refine r_ishr 16 27 rfl rfl ?_
    refine x_eq (y := (nI (n6 / 2))) (n_shr1 (by omega)) ?_
    refine r_callS lkS_J6_73 17 30 rfl rfl (by decide) [.int (nI n6), .int (nI (m2 - n6)), .int (nI (n6 / 2))] rfl rfl (Nat.le_of_ble_eq_true rfl) (Nat.le_of_ble_eq_true rfl) (e_J14_newLength hS (m3 := (n6 / 2)) (m2 := (m2 - n6)) (m1 := n6) (b1 := (b5 c1)) (b2 := (by omega)) (bd3 := (b6 c1)) (f4 := (f7 c1)) (bd6 := (b8 c1)) (f7 := (f9 c1)) (f8 := (f10 c1)) (k5 := fun z1_0 => ?_) (k9 := fun z1_0 => ?_)) (fun _ _ h => h)
    · show Rn G mJ6_grow_2 30 [(2, .int (nI n6)), (0, .ref a1), (1, .int (nI m2))] [.int (nI (n6 + (n6 / 2)))] w _
      refine r_istore_n (lv' := [(3, .int (nI (n6 + (n6 / 2)))), (2, .int (nI n6)), (0, .ref a1), (1, .int (nI m2))]) 18 31 rfl rfl (Nat.le_of_ble_eq_true rfl) rfl ?_
      refine r_aload_n 19 32 2 rfl rfl rfl ?_
      refine r_aload_n 20 33 2 rfl rfl rfl ?_
      refine r_get (v := .ref a4) fl_J6_9_J6 21 36 rfl rfl (Or.inl o1) rfl ?_
      refine r_iload_n 22 37 0 rfl rfl rfl ?_
      refine r_callS lkS_J6_66 23 40 rfl rfl (by decide) [.ref a4, .int (nI (n6 + (n6 / 2)))] rfl rfl (Nat.le_of_ble_eq_true rfl) (Nat.le_of_ble_eq_true rfl) (e_J16_copyOf_3 hS (m2 := (n6 + (n6 / 2))) (o1 := o2) (b2 := (b11 c1 z1_0)) (hg3 := (hg12 c1 z1_0)) (b4 := (by omega)) (q5 := (q13 c1 z1_0)) (q6 := (q14 c1 z1_0)) (k7 := fun z2_0 => absurd z2_0 (by omega)) (k8 := fun z2_0 => ?_)) (fun _ _ h => h)
      show Rn G mJ6_grow_2 40 [(3, .int (nI (n6 + (n6 / 2)))), (2, .int (nI n6)), (0, .ref a1), (1, .int (nI m2))] [.ref w.2.1, .ref a1] (wnew w (arR "java/lang/Object" (n6 + (n6 / 2)) (va_cpy g7 (fun _ => none) 0 0 n6)) (n6 + (n6 / 2))) _
      refine r_dup_x1 24 41 rfl rfl rfl rfl ?_
      refine r_put (i := 1) fl_J6_9_J6 in_J6 q147 (ty0 := tyJ6) tyJ6_ok nmJ6 25 44 rfl rfl (wnew_n o1 (by have := (hwk.1 _ _ o1).2; show a1 < w.2.1; omega)) rfl rfl rfl (Nat.le_of_ble_eq_true rfl) ?_
      show Rn G mJ6_grow_2 44 [(3, .int (nI (n6 + (n6 / 2)))), (2, .int (nI n6)), (0, .ref a1), (1, .int (nI m2))] [.ref w.2.1] (wset (wnew w (arR "java/lang/Object" (n6 + (n6 / 2)) (va_cpy g7 (fun _ => none) 0 0 n6)) (n6 + (n6 / 2))) a1 (.inl (nJ6, [.int x3, .ref w.2.1, .int (nI m5)]))) _
      exact r_aret 26 rfl rfl (Or.inr ⟨_, rfl⟩) (Or.inr ⟨_, rfl⟩) (k15 c1 z1_0)
    · show Rn G mJ6_grow_2 30 [(2, .int (nI n6)), (0, .ref a1), (1, .int (nI m2))] [.int (nI (n6 + (m2 - n6)))] w _
      refine r_istore_n (lv' := [(3, .int (nI (n6 + (m2 - n6)))), (2, .int (nI n6)), (0, .ref a1), (1, .int (nI m2))]) 18 31 rfl rfl (Nat.le_of_ble_eq_true rfl) rfl ?_
      refine r_aload_n 19 32 2 rfl rfl rfl ?_
      refine r_aload_n 20 33 2 rfl rfl rfl ?_
      refine r_get (v := .ref a4) fl_J6_9_J6 21 36 rfl rfl (Or.inl o1) rfl ?_
      refine r_iload_n 22 37 0 rfl rfl rfl ?_
      refine r_callS lkS_J6_66 23 40 rfl rfl (by decide) [.ref a4, .int (nI (n6 + (m2 - n6)))] rfl rfl (Nat.le_of_ble_eq_true rfl) (Nat.le_of_ble_eq_true rfl) (e_J16_copyOf_3 hS (m2 := (n6 + (m2 - n6))) (o1 := o2) (b2 := (b16 c1 z1_0)) (hg3 := (hg17 c1 z1_0)) (b4 := (by omega)) (q5 := (q18 c1 z1_0)) (q6 := (q19 c1 z1_0)) (k7 := fun z2_0 => absurd z2_0 (by omega)) (k8 := fun z2_0 => ?_)) (fun _ _ h => h)
      show Rn G mJ6_grow_2 40 [(3, .int (nI (n6 + (m2 - n6)))), (2, .int (nI n6)), (0, .ref a1), (1, .int (nI m2))] [.ref w.2.1, .ref a1] (wnew w (arR "java/lang/Object" (n6 + (m2 - n6)) (va_cpy g7 (fun _ => none) 0 0 n6)) (n6 + (m2 - n6))) _
      refine r_dup_x1 24 41 rfl rfl rfl rfl ?_
      refine r_put (i := 1) fl_J6_9_J6 in_J6 q147 (ty0 := tyJ6) tyJ6_ok nmJ6 25 44 rfl rfl (wnew_n o1 (by have := (hwk.1 _ _ o1).2; show a1 < w.2.1; omega)) rfl rfl rfl (Nat.le_of_ble_eq_true rfl) ?_
      show Rn G mJ6_grow_2 44 [(3, .int (nI (n6 + (m2 - n6)))), (2, .int (nI n6)), (0, .ref a1), (1, .int (nI m2))] [.ref w.2.1] (wset (wnew w (arR "java/lang/Object" (n6 + (m2 - n6)) (va_cpy g7 (fun _ => none) 0 0 n6)) (n6 + (m2 - n6))) a1 (.inl (nJ6, [.int x3, .ref w.2.1, .int (nI m5)]))) _
      exact r_aret 26 rfl rfl (Or.inr ⟨_, rfl⟩) (Or.inr ⟨_, rfl⟩) (k20 c1 z1_0)
  · refine r_aload_n 6 11 1 rfl rfl rfl ?_
    refine r_get (v := .ref a4) fl_J6_9_J6 7 14 rfl rfl (Or.inl o1) rfl ?_
    refine r_gets (v := .ref (κ 1)) (hS 1).1 q158 8 17 rfl rfl ?_
    refine r_acmp_eq (rx := (some a4)) (ry := (some (κ 1))) 9 20 45 rfl rfl rfl rfl rfl (fun c2 => ?_) (fun c2 => ?_)
    · refine r_aload_n 27 46 1 rfl rfl rfl ?_
      refine r_bipush 28 48 rfl rfl db_10 ?_
      refine r_iload_n 29 49 2 rfl rfl rfl ?_
      refine r_callS lkS_J6_79 30 52 rfl rfl (by decide) [.int 10, .int (nI m2)] rfl rfl (Nat.le_of_ble_eq_true rfl) (Nat.le_of_ble_eq_true rfl) (e_J15_max hS (m2 := m2) (m1 := 10) (bd1 := (b21 c1 (Option.some.inj c2))) (bd2 := (b22 c1 (Option.some.inj c2))) (k3 := fun z2_0 => ?_) (k4 := fun z2_0 => ?_)) (fun _ _ h => h)
      · show Rn G mJ6_grow_2 52 [(2, .int (nI n6)), (0, .ref a1), (1, .int (nI m2))] [.int (nI m2), .ref a1] w _
        refine y_newR (n := m2) 31 55 rfl rfl q890 q887 (by decide) (b23 c1 (Option.some.inj c2) z2_0) (by have := hg24; show 12 + m2 ≤ w.2.2; omega) ?_
        show Rn G mJ6_grow_2 55 [(2, .int (nI n6)), (0, .ref a1), (1, .int (nI m2))] [.ref w.2.1, .ref a1] (wnew w (arR "java/lang/Object" m2 (fun _ => none)) m2) _
        refine r_dup_x1 32 56 rfl rfl rfl rfl ?_
        refine r_put (i := 1) fl_J6_9_J6 in_J6 q147 (ty0 := tyJ6) tyJ6_ok nmJ6 33 59 rfl rfl (wnew_n o1 (by have := (hwk.1 _ _ o1).2; show a1 < w.2.1; omega)) rfl rfl rfl (Nat.le_of_ble_eq_true rfl) ?_
        show Rn G mJ6_grow_2 59 [(2, .int (nI n6)), (0, .ref a1), (1, .int (nI m2))] [.ref w.2.1] (wset (wnew w (arR "java/lang/Object" m2 (fun _ => none)) m2) a1 (.inl (nJ6, [.int x3, .ref w.2.1, .int (nI m5)]))) _
        exact r_aret 34 rfl rfl (Or.inr ⟨_, rfl⟩) (Or.inr ⟨_, rfl⟩) (k25 c1 (Option.some.inj c2) z2_0)
      · show Rn G mJ6_grow_2 52 [(2, .int (nI n6)), (0, .ref a1), (1, .int (nI m2))] [.int 10, .ref a1] w _
        refine y_newR (n := 10) 31 55 rfl rfl q890 q887 (by decide) (by decide) (by show 12 + 10 ≤ w.2.2; omega) ?_
        show Rn G mJ6_grow_2 55 [(2, .int (nI n6)), (0, .ref a1), (1, .int (nI m2))] [.ref w.2.1, .ref a1] (wnew w (arR "java/lang/Object" 10 (fun _ => none)) 10) _
        refine r_dup_x1 32 56 rfl rfl rfl rfl ?_
        refine r_put (i := 1) fl_J6_9_J6 in_J6 q147 (ty0 := tyJ6) tyJ6_ok nmJ6 33 59 rfl rfl (wnew_n o1 (by have := (hwk.1 _ _ o1).2; show a1 < w.2.1; omega)) rfl rfl rfl (Nat.le_of_ble_eq_true rfl) ?_
        show Rn G mJ6_grow_2 59 [(2, .int (nI n6)), (0, .ref a1), (1, .int (nI m2))] [.ref w.2.1] (wset (wnew w (arR "java/lang/Object" 10 (fun _ => none)) 10) a1 (.inl (nJ6, [.int x3, .ref w.2.1, .int (nI m5)]))) _
        exact r_aret 34 rfl rfl (Or.inr ⟨_, rfl⟩) (Or.inr ⟨_, rfl⟩) (k26 c1 (Option.some.inj c2) z2_0)
    · refine r_iload_n 10 21 0 rfl rfl rfl ?_
      refine r_iload_n 11 22 2 rfl rfl rfl ?_
      refine r_iload_n 12 23 0 rfl rfl rfl ?_
      refine r_isub 13 24 rfl rfl ?_
      refine x_eq (y := (nI (m2 - n6))) (pk_sub (a := m2) (b := n6) (b27 c1 (fun h => c2 (congrArg some h)))) ?_
      refine r_iload_n 14 25 0 rfl rfl rfl ?_
      refine r_iconst 15 26 rfl rfl di_1 ?_
      refine r_ishr 16 27 rfl rfl ?_
      refine x_eq (y := (nI (n6 / 2))) (n_shr1 (by omega)) ?_
      refine r_callS lkS_J6_73 17 30 rfl rfl (by decide) [.int (nI n6), .int (nI (m2 - n6)), .int (nI (n6 / 2))] rfl rfl (Nat.le_of_ble_eq_true rfl) (Nat.le_of_ble_eq_true rfl) (e_J14_newLength hS (m3 := (n6 / 2)) (m2 := (m2 - n6)) (m1 := n6) (b1 := (b28 c1 (fun h => c2 (congrArg some h)))) (b2 := (b29 c1 (fun h => c2 (congrArg some h)))) (bd3 := (b30 c1 (fun h => c2 (congrArg some h)))) (f4 := (f31 c1 (fun h => c2 (congrArg some h)))) (bd6 := (b32 c1 (fun h => c2 (congrArg some h)))) (f7 := (f33 c1 (fun h => c2 (congrArg some h)))) (f8 := (f34 c1 (fun h => c2 (congrArg some h)))) (k5 := fun z2_0 => ?_) (k9 := fun z2_0 => ?_)) (fun _ _ h => h)
      · show Rn G mJ6_grow_2 30 [(2, .int (nI n6)), (0, .ref a1), (1, .int (nI m2))] [.int (nI (n6 + (n6 / 2)))] w _
        refine r_istore_n (lv' := [(3, .int (nI (n6 + (n6 / 2)))), (2, .int (nI n6)), (0, .ref a1), (1, .int (nI m2))]) 18 31 rfl rfl (Nat.le_of_ble_eq_true rfl) rfl ?_
        refine r_aload_n 19 32 2 rfl rfl rfl ?_
        refine r_aload_n 20 33 2 rfl rfl rfl ?_
        refine r_get (v := .ref a4) fl_J6_9_J6 21 36 rfl rfl (Or.inl o1) rfl ?_
        refine r_iload_n 22 37 0 rfl rfl rfl ?_
        refine r_callS lkS_J6_66 23 40 rfl rfl (by decide) [.ref a4, .int (nI (n6 + (n6 / 2)))] rfl rfl (Nat.le_of_ble_eq_true rfl) (Nat.le_of_ble_eq_true rfl) (e_J16_copyOf_3 hS (m2 := (n6 + (n6 / 2))) (o1 := o2) (b2 := (b35 c1 (fun h => c2 (congrArg some h)) z2_0)) (hg3 := (hg36 c1 (fun h => c2 (congrArg some h)) z2_0)) (b4 := bd3) (q5 := (q37 c1 (fun h => c2 (congrArg some h)) z2_0)) (q6 := (q38 c1 (fun h => c2 (congrArg some h)) z2_0)) (k7 := fun z3_0 => absurd z3_0 (f39 c1 (fun h => c2 (congrArg some h)) z2_0)) (k8 := fun z3_0 => ?_)) (fun _ _ h => h)
        show Rn G mJ6_grow_2 40 [(3, .int (nI (n6 + (n6 / 2)))), (2, .int (nI n6)), (0, .ref a1), (1, .int (nI m2))] [.ref w.2.1, .ref a1] (wnew w (arR "java/lang/Object" (n6 + (n6 / 2)) (va_cpy g7 (fun _ => none) 0 0 n6)) (n6 + (n6 / 2))) _
        refine r_dup_x1 24 41 rfl rfl rfl rfl ?_
        refine r_put (i := 1) fl_J6_9_J6 in_J6 q147 (ty0 := tyJ6) tyJ6_ok nmJ6 25 44 rfl rfl (wnew_n o1 (by have := (hwk.1 _ _ o1).2; show a1 < w.2.1; omega)) rfl rfl rfl (Nat.le_of_ble_eq_true rfl) ?_
        show Rn G mJ6_grow_2 44 [(3, .int (nI (n6 + (n6 / 2)))), (2, .int (nI n6)), (0, .ref a1), (1, .int (nI m2))] [.ref w.2.1] (wset (wnew w (arR "java/lang/Object" (n6 + (n6 / 2)) (va_cpy g7 (fun _ => none) 0 0 n6)) (n6 + (n6 / 2))) a1 (.inl (nJ6, [.int x3, .ref w.2.1, .int (nI m5)]))) _
        exact r_aret 26 rfl rfl (Or.inr ⟨_, rfl⟩) (Or.inr ⟨_, rfl⟩) (k40 c1 (fun h => c2 (congrArg some h)) z2_0)
      · show Rn G mJ6_grow_2 30 [(2, .int (nI n6)), (0, .ref a1), (1, .int (nI m2))] [.int (nI (n6 + (m2 - n6)))] w _
        refine r_istore_n (lv' := [(3, .int (nI (n6 + (m2 - n6)))), (2, .int (nI n6)), (0, .ref a1), (1, .int (nI m2))]) 18 31 rfl rfl (Nat.le_of_ble_eq_true rfl) rfl ?_
        refine r_aload_n 19 32 2 rfl rfl rfl ?_
        refine r_aload_n 20 33 2 rfl rfl rfl ?_
        refine r_get (v := .ref a4) fl_J6_9_J6 21 36 rfl rfl (Or.inl o1) rfl ?_
        refine r_iload_n 22 37 0 rfl rfl rfl ?_
        refine r_callS lkS_J6_66 23 40 rfl rfl (by decide) [.ref a4, .int (nI (n6 + (m2 - n6)))] rfl rfl (Nat.le_of_ble_eq_true rfl) (Nat.le_of_ble_eq_true rfl) (e_J16_copyOf_3 hS (m2 := (n6 + (m2 - n6))) (o1 := o2) (b2 := (b41 c1 (fun h => c2 (congrArg some h)) z2_0)) (hg3 := (hg42 c1 (fun h => c2 (congrArg some h)) z2_0)) (b4 := bd3) (q5 := (q43 c1 (fun h => c2 (congrArg some h)) z2_0)) (q6 := (q44 c1 (fun h => c2 (congrArg some h)) z2_0)) (k7 := fun z3_0 => absurd z3_0 (f45 c1 (fun h => c2 (congrArg some h)) z2_0)) (k8 := fun z3_0 => ?_)) (fun _ _ h => h)
        show Rn G mJ6_grow_2 40 [(3, .int (nI (n6 + (m2 - n6)))), (2, .int (nI n6)), (0, .ref a1), (1, .int (nI m2))] [.ref w.2.1, .ref a1] (wnew w (arR "java/lang/Object" (n6 + (m2 - n6)) (va_cpy g7 (fun _ => none) 0 0 n6)) (n6 + (m2 - n6))) _
        refine r_dup_x1 24 41 rfl rfl rfl rfl ?_
        refine r_put (i := 1) fl_J6_9_J6 in_J6 q147 (ty0 := tyJ6) tyJ6_ok nmJ6 25 44 rfl rfl (wnew_n o1 (by have := (hwk.1 _ _ o1).2; show a1 < w.2.1; omega)) rfl rfl rfl (Nat.le_of_ble_eq_true rfl) ?_
        show Rn G mJ6_grow_2 44 [(3, .int (nI (n6 + (m2 - n6)))), (2, .int (nI n6)), (0, .ref a1), (1, .int (nI m2))] [.ref w.2.1] (wset (wnew w (arR "java/lang/Object" (n6 + (m2 - n6)) (va_cpy g7 (fun _ => none) 0 0 n6)) (n6 + (m2 - n6))) a1 (.inl (nJ6, [.int x3, .ref w.2.1, .int (nI m5)]))) _
        exact r_aret 26 rfl rfl (Or.inr ⟨_, rfl⟩) (Or.inr ⟨_, rfl⟩) (k46 c1 (fun h => c2 (congrArg some h)) z2_0)
theorem e_J6_grow {G : Gm} {κ : Nat → Nat} {φ : Nat → Option Nat} (hS : GS G κ φ) {w : Wd} {Q : Rs → Wd → Prop} {a1 : Nat} {x2 : Int32} {a3 : Nat} {m4 : Nat} {n5 : Nat} {g6 : Nat → Option Nat} (o1 : w.1 a1 = some (.inl (nJ6, [.int x2, .ref a3, .int (nI m4)]))) (o2 : Lk G w a3 (arR "java/lang/Object" n5 g6)) (b3 : n5 < 2 ^ 31) (b4 : 0 < n5 → n5 ≤ (m4 + 1)) (b5 : 0 < n5 → ((m4 + 1) - n5) < 2 ^ 31) (b6 : 0 < n5 → (n5 + (n5 / 2)) < 2 ^ 31) (f7 : 0 < n5 → ((m4 + 1) - n5) < (n5 / 2) → ¬ 2147483639 < (n5 + (n5 / 2))) (b8 : 0 < n5 → (n5 + ((m4 + 1) - n5)) < 2 ^ 31) (f9 : 0 < n5 → ¬ ((m4 + 1) - n5) < (n5 / 2) → ¬ (n5 + ((m4 + 1) - n5)) ≤ 0) (f10 : 0 < n5 → ¬ ((m4 + 1) - n5) < (n5 / 2) → ¬ 2147483639 < (n5 + ((m4 + 1) - n5))) (b11 : 0 < n5 → ((m4 + 1) - n5) < (n5 / 2) → (n5 + (n5 / 2)) ≤ 100000000) (hg12 : 0 < n5 → ((m4 + 1) - n5) < (n5 / 2) → (12 + (n5 + (n5 / 2))) ≤ w.2.2) (q13 : 0 < n5 → ((m4 + 1) - n5) < (n5 / 2) → (n5 + (n5 / 2)) < n5 → ∀ i, i < (n5 + (n5 / 2)) → OkO G (wnew w (arR "java/lang/Object" (n5 + (n5 / 2)) (fun _ => none)) (n5 + (n5 / 2))) (va_rf (g6 (0 + i)))) (q14 : 0 < n5 → ((m4 + 1) - n5) < (n5 / 2) → ¬ (n5 + (n5 / 2)) < n5 → ∀ i, i < n5 → OkO G (wnew w (arR "java/lang/Object" (n5 + (n5 / 2)) (fun _ => none)) (n5 + (n5 / 2))) (va_rf (g6 (0 + i)))) (b15 : 0 < n5 → ¬ ((m4 + 1) - n5) < (n5 / 2) → (n5 + ((m4 + 1) - n5)) ≤ 100000000) (hg16 : 0 < n5 → ¬ ((m4 + 1) - n5) < (n5 / 2) → (12 + (n5 + ((m4 + 1) - n5))) ≤ w.2.2) (q17 : 0 < n5 → ¬ ((m4 + 1) - n5) < (n5 / 2) → (n5 + ((m4 + 1) - n5)) < n5 → ∀ i, i < (n5 + ((m4 + 1) - n5)) → OkO G (wnew w (arR "java/lang/Object" (n5 + ((m4 + 1) - n5)) (fun _ => none)) (n5 + ((m4 + 1) - n5))) (va_rf (g6 (0 + i)))) (q18 : 0 < n5 → ¬ ((m4 + 1) - n5) < (n5 / 2) → ¬ (n5 + ((m4 + 1) - n5)) < n5 → ∀ i, i < n5 → OkO G (wnew w (arR "java/lang/Object" (n5 + ((m4 + 1) - n5)) (fun _ => none)) (n5 + ((m4 + 1) - n5))) (va_rf (g6 (0 + i)))) (b19 : ¬ 0 < n5 → a3 = (κ 1) → 10 < 2 ^ 31) (b20 : ¬ 0 < n5 → a3 = (κ 1) → (m4 + 1) < 2 ^ 31) (b21 : ¬ 0 < n5 → a3 = (κ 1) → 10 < (m4 + 1) → (m4 + 1) ≤ 100000000) (hg22 : (12 + (m4 + 1)) ≤ w.2.2) (hg : 22 ≤ w.2.2) (b23 : ¬ 0 < n5 → ¬ a3 = (κ 1) → n5 ≤ (m4 + 1)) (b24 : ¬ 0 < n5 → ¬ a3 = (κ 1) → ((m4 + 1) - n5) < 2 ^ 31) (b25 : ¬ 0 < n5 → ¬ a3 = (κ 1) → (n5 / 2) < 2 ^ 31) (b26 : ¬ 0 < n5 → ¬ a3 = (κ 1) → (n5 + (n5 / 2)) < 2 ^ 31) (f27 : ¬ 0 < n5 → ¬ a3 = (κ 1) → ((m4 + 1) - n5) < (n5 / 2) → ¬ 2147483639 < (n5 + (n5 / 2))) (b28 : ¬ 0 < n5 → ¬ a3 = (κ 1) → (n5 + ((m4 + 1) - n5)) < 2 ^ 31) (f29 : ¬ 0 < n5 → ¬ a3 = (κ 1) → ¬ ((m4 + 1) - n5) < (n5 / 2) → ¬ (n5 + ((m4 + 1) - n5)) ≤ 0) (f30 : ¬ 0 < n5 → ¬ a3 = (κ 1) → ¬ ((m4 + 1) - n5) < (n5 / 2) → ¬ 2147483639 < (n5 + ((m4 + 1) - n5))) (b31 : ¬ 0 < n5 → ¬ a3 = (κ 1) → ((m4 + 1) - n5) < (n5 / 2) → (n5 + (n5 / 2)) ≤ 100000000) (hg32 : ¬ 0 < n5 → ¬ a3 = (κ 1) → ((m4 + 1) - n5) < (n5 / 2) → (12 + (n5 + (n5 / 2))) ≤ w.2.2) (q33 : ¬ 0 < n5 → ¬ a3 = (κ 1) → ((m4 + 1) - n5) < (n5 / 2) → (n5 + (n5 / 2)) < n5 → ∀ i, i < (n5 + (n5 / 2)) → OkO G (wnew w (arR "java/lang/Object" (n5 + (n5 / 2)) (fun _ => none)) (n5 + (n5 / 2))) (va_rf (g6 (0 + i)))) (q34 : ¬ 0 < n5 → ¬ a3 = (κ 1) → ((m4 + 1) - n5) < (n5 / 2) → ¬ (n5 + (n5 / 2)) < n5 → ∀ i, i < n5 → OkO G (wnew w (arR "java/lang/Object" (n5 + (n5 / 2)) (fun _ => none)) (n5 + (n5 / 2))) (va_rf (g6 (0 + i)))) (f35 : ¬ 0 < n5 → ¬ a3 = (κ 1) → ((m4 + 1) - n5) < (n5 / 2) → ¬ (n5 + (n5 / 2)) < n5) (b36 : ¬ 0 < n5 → ¬ a3 = (κ 1) → ¬ ((m4 + 1) - n5) < (n5 / 2) → (n5 + ((m4 + 1) - n5)) ≤ 100000000) (hg37 : ¬ 0 < n5 → ¬ a3 = (κ 1) → ¬ ((m4 + 1) - n5) < (n5 / 2) → (12 + (n5 + ((m4 + 1) - n5))) ≤ w.2.2) (q38 : ¬ 0 < n5 → ¬ a3 = (κ 1) → ¬ ((m4 + 1) - n5) < (n5 / 2) → (n5 + ((m4 + 1) - n5)) < n5 → ∀ i, i < (n5 + ((m4 + 1) - n5)) → OkO G (wnew w (arR "java/lang/Object" (n5 + ((m4 + 1) - n5)) (fun _ => none)) (n5 + ((m4 + 1) - n5))) (va_rf (g6 (0 + i)))) (q39 : ¬ 0 < n5 → ¬ a3 = (κ 1) → ¬ ((m4 + 1) - n5) < (n5 / 2) → ¬ (n5 + ((m4 + 1) - n5)) < n5 → ∀ i, i < n5 → OkO G (wnew w (arR "java/lang/Object" (n5 + ((m4 + 1) - n5)) (fun _ => none)) (n5 + ((m4 + 1) - n5))) (va_rf (g6 (0 + i)))) (f40 : ¬ 0 < n5 → ¬ a3 = (κ 1) → ¬ ((m4 + 1) - n5) < (n5 / 2) → ¬ (n5 + ((m4 + 1) - n5)) < n5) (k41 : 0 < n5 → ((m4 + 1) - n5) < (n5 / 2) → Q (.inl (some (.ref w.2.1))) (wset (wnew w (arR "java/lang/Object" (n5 + (n5 / 2)) (va_cpy g6 (fun _ => none) 0 0 n5)) (n5 + (n5 / 2))) a1 (.inl (nJ6, [.int x2, .ref w.2.1, .int (nI m4)])))) (k42 : 0 < n5 → ¬ ((m4 + 1) - n5) < (n5 / 2) → Q (.inl (some (.ref w.2.1))) (wset (wnew w (arR "java/lang/Object" (n5 + ((m4 + 1) - n5)) (va_cpy g6 (fun _ => none) 0 0 n5)) (n5 + ((m4 + 1) - n5))) a1 (.inl (nJ6, [.int x2, .ref w.2.1, .int (nI m4)])))) (k43 : ¬ 0 < n5 → a3 = (κ 1) → 10 < (m4 + 1) → Q (.inl (some (.ref w.2.1))) (wset (wnew w (arR "java/lang/Object" (m4 + 1) (fun _ => none)) (m4 + 1)) a1 (.inl (nJ6, [.int x2, .ref w.2.1, .int (nI m4)])))) (k44 : ¬ 0 < n5 → a3 = (κ 1) → ¬ 10 < (m4 + 1) → Q (.inl (some (.ref w.2.1))) (wset (wnew w (arR "java/lang/Object" 10 (fun _ => none)) 10) a1 (.inl (nJ6, [.int x2, .ref w.2.1, .int (nI m4)])))) (k45 : ¬ 0 < n5 → ¬ a3 = (κ 1) → ((m4 + 1) - n5) < (n5 / 2) → Q (.inl (some (.ref w.2.1))) (wset (wnew w (arR "java/lang/Object" (n5 + (n5 / 2)) (va_cpy g6 (fun _ => none) 0 0 n5)) (n5 + (n5 / 2))) a1 (.inl (nJ6, [.int x2, .ref w.2.1, .int (nI m4)])))) (k46 : ¬ 0 < n5 → ¬ a3 = (κ 1) → ¬ ((m4 + 1) - n5) < (n5 / 2) → Q (.inl (some (.ref w.2.1))) (wset (wnew w (arR "java/lang/Object" (n5 + ((m4 + 1) - n5)) (va_cpy g6 (fun _ => none) 0 0 n5)) (n5 + ((m4 + 1) - n5))) a1 (.inl (nJ6, [.int x2, .ref w.2.1, .int (nI m4)])))) : Ev G mJ6_grow [.ref a1] w Q := by
  show Rn G mJ6_grow 0 [(0, .ref a1)] [] w Q
  refine r_aload_n 0 1 0 rfl rfl rfl ?_
  refine r_aload_n 1 2 0 rfl rfl rfl ?_
  refine r_get (v := .int (nI m4)) fl_J6_48_J6 2 5 rfl rfl (Or.inl o1) rfl ?_
  refine r_iconst 3 6 rfl rfl di_1 ?_
  refine r_iadd 4 7 rfl rfl ?_
  refine x_eq (y := (nI (m4 + 1))) (nI_add _ _) ?_
  refine r_callV lkV_J6_69_J6 (C := RJ6) (TT := TJ6) (NN := 3) rfl (Or.inl o1) 5 10 rfl rfl (by decide) [.int (nI (m4 + 1))] rfl rfl (Nat.le_of_ble_eq_true rfl) (Nat.le_of_ble_eq_true rfl) (e_J6_grow_2 hS (m5 := m4) (m2 := (m4 + 1)) (o1 := o1) (o2 := o2) (bd3 := b3) (b4 := b4) (b5 := b5) (b6 := b6) (f7 := f7) (b8 := b8) (f9 := f9) (f10 := f10) (b11 := b11) (hg12 := hg12) (q13 := q13) (q14 := q14) (b16 := b15) (hg17 := hg16) (q18 := q17) (q19 := q18) (b21 := b19) (b22 := b20) (b23 := b21) (hg24 := hg22) (hg := by show 22 ≤ w.2.2; omega) (b27 := b23) (b28 := b24) (b29 := b25) (b30 := b26) (f31 := f27) (b32 := b28) (f33 := f29) (f34 := f30) (b35 := b31) (hg36 := hg32) (q37 := q33) (q38 := q34) (f39 := f35) (b41 := b36) (hg42 := hg37) (q43 := q38) (q44 := q39) (f45 := f40) (k15 := fun z0_0 => fun z0_1 => ?_) (k20 := fun z0_0 => fun z0_1 => ?_) (k25 := fun z0_0 => fun z0_1 => fun z0_2 => ?_) (k26 := fun z0_0 => fun z0_1 => fun z0_2 => ?_) (k40 := fun z0_0 => fun z0_1 => fun z0_2 => ?_) (k46 := fun z0_0 => fun z0_1 => fun z0_2 => ?_)) (fun _ _ h => h)
  · show Rn G mJ6_grow 10 [(0, .ref a1)] [.ref w.2.1] (wset (wnew w (arR "java/lang/Object" (n5 + (n5 / 2)) (va_cpy g6 (fun _ => none) 0 0 n5)) (n5 + (n5 / 2))) a1 (.inl (nJ6, [.int x2, .ref w.2.1, .int (nI m4)]))) _
    exact r_aret 6 rfl rfl (Or.inr ⟨_, rfl⟩) (Or.inr ⟨_, rfl⟩) (k41 z0_0 z0_1)
  · show Rn G mJ6_grow 10 [(0, .ref a1)] [.ref w.2.1] (wset (wnew w (arR "java/lang/Object" (n5 + ((m4 + 1) - n5)) (va_cpy g6 (fun _ => none) 0 0 n5)) (n5 + ((m4 + 1) - n5))) a1 (.inl (nJ6, [.int x2, .ref w.2.1, .int (nI m4)]))) _
    exact r_aret 6 rfl rfl (Or.inr ⟨_, rfl⟩) (Or.inr ⟨_, rfl⟩) (k42 z0_0 z0_1)
  · show Rn G mJ6_grow 10 [(0, .ref a1)] [.ref w.2.1] (wset (wnew w (arR "java/lang/Object" (m4 + 1) (fun _ => none)) (m4 + 1)) a1 (.inl (nJ6, [.int x2, .ref w.2.1, .int (nI m4)]))) _
    exact r_aret 6 rfl rfl (Or.inr ⟨_, rfl⟩) (Or.inr ⟨_, rfl⟩) (k43 z0_0 z0_1 z0_2)
  · show Rn G mJ6_grow 10 [(0, .ref a1)] [.ref w.2.1] (wset (wnew w (arR "java/lang/Object" 10 (fun _ => none)) 10) a1 (.inl (nJ6, [.int x2, .ref w.2.1, .int (nI m4)]))) _
    exact r_aret 6 rfl rfl (Or.inr ⟨_, rfl⟩) (Or.inr ⟨_, rfl⟩) (k44 z0_0 z0_1 z0_2)
  · show Rn G mJ6_grow 10 [(0, .ref a1)] [.ref w.2.1] (wset (wnew w (arR "java/lang/Object" (n5 + (n5 / 2)) (va_cpy g6 (fun _ => none) 0 0 n5)) (n5 + (n5 / 2))) a1 (.inl (nJ6, [.int x2, .ref w.2.1, .int (nI m4)]))) _
    exact r_aret 6 rfl rfl (Or.inr ⟨_, rfl⟩) (Or.inr ⟨_, rfl⟩) (k45 z0_0 z0_1 z0_2)
  · show Rn G mJ6_grow 10 [(0, .ref a1)] [.ref w.2.1] (wset (wnew w (arR "java/lang/Object" (n5 + ((m4 + 1) - n5)) (va_cpy g6 (fun _ => none) 0 0 n5)) (n5 + ((m4 + 1) - n5))) a1 (.inl (nJ6, [.int x2, .ref w.2.1, .int (nI m4)]))) _
    exact r_aret 6 rfl rfl (Or.inr ⟨_, rfl⟩) (Or.inr ⟨_, rfl⟩) (k46 z0_0 z0_1 z0_2)
theorem e_J6_toArray {G : Gm} {κ : Nat → Nat} {φ : Nat → Option Nat} (hS : GS G κ φ) {w : Wd} {Q : Rs → Wd → Prop} {a1 : Nat} {x2 : Int32} {a3 : Nat} {m4 : Nat} {n5 : Nat} {g6 : Nat → Option Nat} (o1 : Lk G w a1 (.inl (nJ6, [.int x2, .ref a3, .int (nI m4)]))) (o2 : Lk G w a3 (arR "java/lang/Object" n5 g6)) (b3 : m4 ≤ 100000000) (hg4 : (12 + m4) ≤ w.2.2) (b5 : n5 < 2 ^ 31) (q6 : m4 < n5 → ∀ i, i < m4 → OkO G (wnew w (arR "java/lang/Object" m4 (fun _ => none)) m4) (va_rf (g6 (0 + i)))) (q7 : ¬ m4 < n5 → ∀ i, i < n5 → OkO G (wnew w (arR "java/lang/Object" m4 (fun _ => none)) m4) (va_rf (g6 (0 + i)))) (k8 : m4 < n5 → Q (.inl (some (.ref w.2.1))) (wnew w (arR "java/lang/Object" m4 (va_cpy g6 (fun _ => none) 0 0 m4)) m4)) (k9 : ¬ m4 < n5 → Q (.inl (some (.ref w.2.1))) (wnew w (arR "java/lang/Object" m4 (va_cpy g6 (fun _ => none) 0 0 n5)) m4)) : Ev G mJ6_toArray [.ref a1] w Q := by
  show Rn G mJ6_toArray 0 [(0, .ref a1)] [] w Q
  refine r_aload_n 0 1 0 rfl rfl rfl ?_
  refine r_get (v := .ref a3) fl_J6_9_J6 1 4 rfl rfl o1 rfl ?_
  refine r_aload_n 2 5 0 rfl rfl rfl ?_
  refine r_get (v := .int (nI m4)) fl_J6_48_J6 3 8 rfl rfl o1 rfl ?_
  refine r_callS lkS_J6_66 4 11 rfl rfl (by decide) [.ref a3, .int (nI m4)] rfl rfl (Nat.le_of_ble_eq_true rfl) (Nat.le_of_ble_eq_true rfl) (e_J16_copyOf_3 hS (m2 := m4) (o1 := o2) (b2 := b3) (hg3 := hg4) (b4 := b5) (q5 := q6) (q6 := q7) (k7 := fun z0_0 => ?_) (k8 := fun z0_0 => ?_)) (fun _ _ h => h)
  · show Rn G mJ6_toArray 11 [(0, .ref a1)] [.ref w.2.1] (wnew w (arR "java/lang/Object" m4 (va_cpy g6 (fun _ => none) 0 0 m4)) m4) _
    exact r_aret 5 rfl rfl (Or.inr ⟨_, rfl⟩) (Or.inr ⟨_, rfl⟩) (k8 z0_0)
  · show Rn G mJ6_toArray 11 [(0, .ref a1)] [.ref w.2.1] (wnew w (arR "java/lang/Object" m4 (va_cpy g6 (fun _ => none) 0 0 n5)) m4) _
    exact r_aret 5 rfl rfl (Or.inr ⟨_, rfl⟩) (Or.inr ⟨_, rfl⟩) (k9 z0_0)
theorem e_J19_init {G : Gm} {κ : Nat → Nat} {φ : Nat → Option Nat} (hS : GS G κ φ) {w : Wd} {Q : Rs → Wd → Prop} {a1 : Nat} (k1 : Q (.inl none) w) : Ev G mJ19_init [.ref a1] w Q := by
  show Rn G mJ19_init 0 [(0, .ref a1)] [] w Q
  refine r_aload_n 0 1 0 rfl rfl rfl ?_
  refine r_objInit q950 q111 q112 1 4 rfl rfl (by decide) (Nat.le_of_ble_eq_true rfl) ?_
  exact r_vret 2 rfl rfl k1
theorem e_J20_init {G : Gm} {κ : Nat → Nat} {φ : Nat → Option Nat} (hS : GS G κ φ) {w : Wd} {Q : Rs → Wd → Prop} {a1 : Nat} {x2 : Int32} (o1 : w.1 a1 = some (.inl (nJ20, [.int 0]))) (k2 : Q (.inl none) (wset w a1 (.inl (nJ20, [.int x2])))) : Ev G mJ20_init [.ref a1, .int x2] w Q := by
  show Rn G mJ20_init 0 [(0, .ref a1), (1, .int x2)] [] w Q
  refine r_aload_n 0 1 0 rfl rfl rfl ?_
  refine r_callI lkI_J20_202 1 4 rfl rfl (by decide) [] rfl rfl (Nat.le_of_ble_eq_true rfl) (Nat.le_of_ble_eq_true rfl) (e_J19_init hS (k1 := ?_)) (fun _ _ h => h)
  show Rn G mJ20_init 4 [(0, .ref a1), (1, .int x2)] [] w _
  refine r_aload_n 2 5 0 rfl rfl rfl ?_
  refine r_iload_n 3 6 1 rfl rfl rfl ?_
  refine r_putF (i := 0) fl_J20_205_J20 in_J20 q943 (ty0 := tyJ20) tyJ20_ok nmJ20 4 9 rfl rfl o1 rfl rfl rfl rfl rfl (Nat.le_of_ble_eq_true rfl) ?_
  show Rn G mJ20_init 9 [(0, .ref a1), (1, .int x2)] [] (wset w a1 (.inl (nJ20, [.int x2]))) _
  exact r_vret 5 rfl rfl k2
theorem e_J20_valueOf {G : Gm} {κ : Nat → Nat} {φ : Nat → Option Nat} (hS : GS G κ φ) {w : Wd} {Q : Rs → Wd → Prop} {x1 : Int32} {a2 : Nat} (hg : 13 ≤ w.2.2) (k1 : x1 < (-128) → Q (.inl (some (.ref w.2.1))) (wset (wnew w (.inl (nJ20, [.int 0])) 1) w.2.1 (.inl (nJ20, [.int x1])))) (k2 : ¬ x1 < (-128) → (127 : Int32) < x1 → Q (.inl (some (.ref w.2.1))) (wset (wnew w (.inl (nJ20, [.int 0])) 1) w.2.1 (.inl (nJ20, [.int x1])))) (b3 : ¬ x1 < (-128) → ¬ (127 : Int32) < x1 → vp_in (x1 + (128 : Int32)) 256) (q4 : ¬ x1 < (-128) → ¬ (127 : Int32) < x1 → ((fun j => some (κ (1000 + j))) ((x1 + (128 : Int32)) : Int32).toNatClampNeg) = some a2) (k5 : ¬ x1 < (-128) → ¬ (127 : Int32) < x1 → Q (.inl (some (.ref a2))) w) : Ev G mJ20_valueOf [.int x1] w Q := by
  show Rn G mJ20_valueOf 0 [(0, .int x1)] [] w Q
  refine r_iload_n 0 1 0 rfl rfl rfl ?_
  refine r_bipush 1 3 rfl rfl db_m128 ?_
  refine r_icmp_lt 2 6 23 rfl rfl rfl (fun c1 => ?_) (fun c1 => ?_)
  · refine r_new (fs := [.int 0]) (ty := tyJ20) (T := TJ20) (C := RJ20) (N := 1) (ci := nJ20) (n := 1) 12 26 rfl rfl rfl in_J20 tyJ20_ok q942 q943 q83 rfl (by decide) (by show 12 + 1 ≤ w.2.2; omega) ?_
    show Rn G mJ20_valueOf 26 [(0, .int x1)] [.ref w.2.1] (wnew w (.inl (nJ20, [.int 0])) 1) _
    refine r_dup 13 27 rfl rfl rfl ?_
    refine r_iload_n 14 28 0 rfl rfl rfl ?_
    refine r_callI lkI_J20_199 15 31 rfl rfl (by decide) [.int x1] rfl rfl (Nat.le_of_ble_eq_true rfl) (Nat.le_of_ble_eq_true rfl) (e_J20_init hS (o1 := wnew_s) (k2 := ?_)) (fun _ _ h => h)
    show Rn G mJ20_valueOf 31 [(0, .int x1)] [.ref w.2.1] (wset (wnew w (.inl (nJ20, [.int 0])) 1) w.2.1 (.inl (nJ20, [.int x1]))) _
    exact r_aret 16 rfl rfl (Or.inl ⟨_, rfl⟩) (Or.inr ⟨_, rfl⟩) (k1 c1)
  · refine r_iload_n 3 7 0 rfl rfl rfl ?_
    refine r_gets (v := .int 127) (hS 52) q938 4 10 rfl rfl ?_
    refine r_icmp_gt 5 13 23 rfl rfl rfl (fun c2 => ?_) (fun c2 => ?_)
    · refine r_new (fs := [.int 0]) (ty := tyJ20) (T := TJ20) (C := RJ20) (N := 1) (ci := nJ20) (n := 1) 12 26 rfl rfl rfl in_J20 tyJ20_ok q942 q943 q83 rfl (by decide) (by show 12 + 1 ≤ w.2.2; omega) ?_
      show Rn G mJ20_valueOf 26 [(0, .int x1)] [.ref w.2.1] (wnew w (.inl (nJ20, [.int 0])) 1) _
      refine r_dup 13 27 rfl rfl rfl ?_
      refine r_iload_n 14 28 0 rfl rfl rfl ?_
      refine r_callI lkI_J20_199 15 31 rfl rfl (by decide) [.int x1] rfl rfl (Nat.le_of_ble_eq_true rfl) (Nat.le_of_ble_eq_true rfl) (e_J20_init hS (o1 := wnew_s) (k2 := ?_)) (fun _ _ h => h)
      show Rn G mJ20_valueOf 31 [(0, .int x1)] [.ref w.2.1] (wset (wnew w (.inl (nJ20, [.int 0])) 1) w.2.1 (.inl (nJ20, [.int x1]))) _
      exact r_aret 16 rfl rfl (Or.inl ⟨_, rfl⟩) (Or.inr ⟨_, rfl⟩) (k2 c1 c2)
    · refine r_gets (v := .ref (κ 0)) (hS 0).1 q940 6 16 rfl rfl ?_
      refine r_iload_n 7 17 0 rfl rfl rfl ?_
      refine r_sipush 8 20 rfl rfl ds_128 ?_
      refine r_iadd 9 21 rfl rfl ?_
      refine x_aald 10 22 rfl rfl ((hS 0).2 w) (b3 c1 c2) (q4 c1 c2) ?_
      show Rn G mJ20_valueOf 22 [(0, .int x1)] [.ref a2] w _
      exact r_aret 11 rfl rfl (Or.inl ⟨_, rfl⟩) (Or.inr ⟨_, rfl⟩) (k5 c1 c2)
theorem e_J0_append_3 {G : Gm} {κ : Nat → Nat} {φ : Nat → Option Nat} (hS : GS G κ φ) {w : Wd} {Q : Rs → Wd → Prop} {a1 : Nat} {m2 : Nat} {a3 : Nat} {x4 : Int32} {m5 : Nat} (o1 : Lk G w a1 (.inl (nJ1, [.ref a3, .int 0, .int x4, .int (nI m5)]))) {Q2 : Rs → Wd → Prop} (e2 : Ev G mJ0_ensureCapacityInternal [.ref a1, .int (nI (m5 + 1))] w Q2) (k2 : ∀ r w', Q2 r w' → Af G mJ0_append_3 7 10 [(0, .ref a1), (1, .int (nI m2))] [] r w' Q) : Ev G mJ0_append_3 [.ref a1, .int (nI m2)] w Q := by
  show Rn G mJ0_append_3 0 [(0, .ref a1), (1, .int (nI m2))] [] w Q
  refine r_aload_n 0 1 0 rfl rfl rfl ?_
  refine r_aload_n 1 2 0 rfl rfl rfl ?_
  refine r_get (v := .int (nI m5)) fl_J0_79_J1 2 5 rfl rfl o1 rfl ?_
  refine r_iconst 3 6 rfl rfl di_1 ?_
  refine r_iadd 4 7 rfl rfl ?_
  refine x_eq (y := (nI (m5 + 1))) (nI_add _ _) ?_
  exact r_callR lkR_J0_100 (C := RJ1) (TT := TJ1) (NN := 4) rfl o1 5 10 rfl rfl (by decide) [.int (nI (m5 + 1))] rfl rfl (Nat.le_of_ble_eq_true rfl) (Nat.le_of_ble_eq_true rfl) e2 (fun r w' h => Af.sub [0, 1] rfl (k2 r w' h))
theorem e_J0_append_3_10 {G : Gm} {κ : Nat → Nat} {φ : Nat → Option Nat} (hS : GS G κ φ) {w : Wd} {Q : Rs → Wd → Prop} {a1 : Nat} {m2 : Nat} {a3 : Nat} {x4 : Int32} {m5 : Nat} {n6 : Nat} {g7 : Nat → Nat} (o1 : w.1 a1 = some (.inl (nJ1, [.ref a3, .int 0, .int x4, .int (nI m5)]))) (b2 : m2 < 2 ^ 31) (f3 : ¬ 255 < m2) (q4 : m2 < 128) (o5 : w.1 a3 = some (arB n6 g7)) (b6 : m5 < n6) (bd7 : n6 < 2 ^ 31) (k8 : Q (.inl (some (.ref a1))) (wset (wset w a1 (.inl (nJ1, [.ref a3, .int 0, .int x4, .int (nI (m5 + 1))]))) a3 (arB n6 (upF g7 m5 m2)))) : Rn G mJ0_append_3 10 [(0, .ref a1), (1, .int (nI m2))] [] w Q := by
  refine Rn.wok fun hwk => ?_
  refine r_aload_n 6 11 0 rfl rfl rfl ?_
  refine r_callV lkV_J0_83_J1 (C := RJ1) (TT := TJ1) (NN := 4) rfl (Or.inl o1) 7 14 rfl rfl (by decide) [] rfl rfl (Nat.le_of_ble_eq_true rfl) (Nat.le_of_ble_eq_true rfl) (e_J0_isLatin1 hS (m4 := m5) (o1 := (Or.inl o1)) (k2 := ?_)) (fun _ _ h => h)
  show Rn G mJ0_append_3 14 [(0, .ref a1), (1, .int (nI m2))] [.int 1] w _
  refine r_if_eq 8 17 45 rfl rfl rfl (fun c => absurd c (by decide)) (fun _ => ?_)
  refine r_iload_n 9 18 1 rfl rfl rfl ?_
  refine r_callS lkS_J0_191 10 21 rfl rfl (by decide) [.int (nI m2)] rfl rfl (Nat.le_of_ble_eq_true rfl) (Nat.le_of_ble_eq_true rfl) (e_J17_canEncode_2 hS (m1 := m2) (bd1 := b2) (k2 := fun z0_0 => absurd z0_0 f3) (k3 := fun z0_0 => ?_)) (fun _ _ h => h)
  show Rn G mJ0_append_3 21 [(0, .ref a1), (1, .int (nI m2))] [.int 1] w _
  refine r_if_eq 11 24 45 rfl rfl rfl (fun c => absurd c (by decide)) (fun _ => ?_)
  refine r_aload_n 12 25 0 rfl rfl rfl ?_
  refine r_get (v := .ref a3) fl_J0_15_J1 13 28 rfl rfl (Or.inl o1) rfl ?_
  refine r_aload_n 14 29 0 rfl rfl rfl ?_
  refine r_dup 15 30 rfl rfl rfl ?_
  refine r_get (v := .int (nI m5)) fl_J0_79_J1 16 33 rfl rfl (Or.inl o1) rfl ?_
  refine r_dup_x1 17 34 rfl rfl rfl rfl ?_
  refine r_iconst 18 35 rfl rfl di_1 ?_
  refine r_iadd 19 36 rfl rfl ?_
  refine x_eq (y := (nI (m5 + 1))) (nI_add _ _) ?_
  refine r_put (i := 3) fl_J0_79_J1 in_J1 q114 (ty0 := tyJ1) tyJ1_ok nmJ1 20 39 rfl rfl o1 rfl rfl rfl (Nat.le_of_ble_eq_true rfl) ?_
  show Rn G mJ0_append_3 39 [(0, .ref a1), (1, .int (nI m2))] [.int (nI m5), .ref a3] (wset w a1 (.inl (nJ1, [.ref a3, .int 0, .int x4, .int (nI (m5 + 1))]))) _
  refine r_iload_n 21 40 1 rfl rfl rfl ?_
  refine x_i2b 22 41 rfl rfl (n_toB q4) ?_
  refine y_bast (i := m5) (e := m2) 23 42 rfl rfl (wset_n o5 (Lk.ne (Or.inl o5) o1 hwk (by intro h; simp at h))) b6 bd7 q4 ?_
  show Rn G mJ0_append_3 42 [(0, .ref a1), (1, .int (nI m2))] [] (wset (wset w a1 (.inl (nJ1, [.ref a3, .int 0, .int x4, .int (nI (m5 + 1))]))) a3 (arB n6 (upF g7 m5 m2))) _
  refine r_goto 24 75 rfl rfl ?_
  refine r_aload_n 41 76 0 rfl rfl rfl ?_
  exact r_aret 42 rfl rfl (Or.inl ⟨_, rfl⟩) (Or.inr ⟨_, rfl⟩) k8
theorem e_J0_append_2 {G : Gm} {κ : Nat → Nat} {φ : Nat → Option Nat} (hS : GS G κ φ) {w : Wd} {Q : Rs → Wd → Prop} {a1 : Nat} {a2 : Nat} {a3 : Nat} {x4 : Int32} {x5 : Int32} {n6 : Nat} {g7 : Nat → Nat} {a8 : Nat} {x9 : Int32} {m10 : Nat} (o1 : Lk G w a2 (.inl (nJ2, [.ref a3, .int 0, .int x4, .int x5]))) (o2 : Lk G w a3 (arB n6 g7)) (o3 : Lk G w a1 (.inl (nJ1, [.ref a8, .int 0, .int x9, .int (nI m10)]))) {Q4 : Rs → Wd → Prop} (e4 : Ev G mJ0_ensureCapacityInternal [.ref a1, .int (nI (m10 + n6))] w Q4) (k4 : ∀ r w', Q4 r w' → Af G mJ0_append_2 21 24 [(0, .ref a1), (1, .ref a2), (2, .int (nI n6))] [] r w' Q) : Ev G mJ0_append_2 [.ref a1, .ref a2] w Q := by
  show Rn G mJ0_append_2 0 [(0, .ref a1), (1, .ref a2)] [] w Q
  refine r_aload_n 0 1 1 rfl rfl rfl ?_
  refine r_ifnonnull 1 9 rfl rfl ?_
  refine r_aload_n 5 10 1 rfl rfl rfl ?_
  refine r_callV lkV_J0_32_J2 (C := RJ2) (TT := TJ2) (NN := 4) rfl o1 6 13 rfl rfl (by decide) [] rfl rfl (Nat.le_of_ble_eq_true rfl) (Nat.le_of_ble_eq_true rfl) (e_J2_length hS (o1 := o1) (o2 := o2) (k3 := ?_)) (fun _ _ h => h)
  show Rn G mJ0_append_2 13 [(0, .ref a1), (1, .ref a2)] [.int (nI n6)] w _
  refine r_istore_n (lv' := [(2, .int (nI n6)), (0, .ref a1), (1, .ref a2)]) 7 14 rfl rfl (Nat.le_of_ble_eq_true rfl) rfl ?_
  refine r_aload_n 8 15 1 rfl rfl rfl ?_
  refine r_aload_n 9 16 1 rfl rfl rfl ?_
  refine r_get (v := .int (nI m10)) fl_J0_79_J1 10 19 rfl rfl o3 rfl ?_
  refine r_iload_n 11 20 0 rfl rfl rfl ?_
  refine r_iadd 12 21 rfl rfl ?_
  refine x_eq (y := (nI (m10 + n6))) (nI_add _ _) ?_
  exact r_callR lkR_J0_100 (C := RJ1) (TT := TJ1) (NN := 4) rfl o3 13 24 rfl rfl (by decide) [.int (nI (m10 + n6))] rfl rfl (Nat.le_of_ble_eq_true rfl) (Nat.le_of_ble_eq_true rfl) e4 (fun r w' h => Af.sub [1, 2, 0] rfl (k4 r w' h))
theorem e_J0_append_2_24 {G : Gm} {κ : Nat → Nat} {φ : Nat → Option Nat} (hS : GS G κ φ) {w : Wd} {Q : Rs → Wd → Prop} {a1 : Nat} {a2 : Nat} {m3 : Nat} {a4 : Nat} {x5 : Int32} {m6 : Nat} {a7 : Nat} {x8 : Int32} {x9 : Int32} {n10 : Nat} {g11 : Nat → Nat} {n12 : Nat} {g13 : Nat → Nat} (o1 : w.1 a1 = some (.inl (nJ1, [.ref a4, .int 0, .int x5, .int (nI m6)]))) (o2 : Lk G w a2 (.inl (nJ2, [.ref a7, .int 0, .int x8, .int x9]))) (o3 : Lk G w a7 (arB n10 g11)) (o4 : w.1 a4 = some (arB n12 g13)) (b5 : m6 + n10 ≤ n12) (q6 : ∀ i, i < n10 → g11 (0 + i) < 128) (b7 : n12 < 2 ^ 31) (k8 : Q (.inl (some (.ref a1))) (wset (wset w a4 (arB n12 (va_cpy g11 g13 0 m6 n10))) a1 (.inl (nJ1, [.ref a4, .int 0, .int x5, .int (nI (m6 + m3))])))) : Rn G mJ0_append_2 24 [(0, .ref a1), (1, .ref a2), (2, .int (nI m3))] [] w Q := by
  refine Rn.wok fun hwk => ?_
  refine r_aload_n 14 25 0 rfl rfl rfl ?_
  refine r_aload_n 15 26 0 rfl rfl rfl ?_
  refine r_get (v := .int (nI m6)) fl_J0_79_J1 16 29 rfl rfl (Or.inl o1) rfl ?_
  refine r_aload_n 17 30 1 rfl rfl rfl ?_
  refine r_callR lkR_J0_208 (C := RJ1) (TT := TJ1) (NN := 4) rfl (Or.inl o1) 18 33 rfl rfl (by decide) [.int (nI m6), .ref a2] rfl rfl (Nat.le_of_ble_eq_true rfl) (Nat.le_of_ble_eq_true rfl) (e_J0_putStringAt hS (m6 := m6) (m2 := m6) (o1 := (Or.inl o1)) (o2 := o2) (o3 := o3) (o4 := o4) (b5 := b5) (q6 := q6) (b7 := b7) (k8 := ?_)) (fun _ _ h => h)
  show Rn G mJ0_append_2 33 [(0, .ref a1), (1, .ref a2), (2, .int (nI m3))] [] (wset w a4 (arB n12 (va_cpy g11 g13 0 m6 n10))) _
  refine r_aload_n 19 34 0 rfl rfl rfl ?_
  refine r_dup 20 35 rfl rfl rfl ?_
  refine r_get (v := .int (nI m6)) fl_J0_79_J1 21 38 rfl rfl (Or.inl (wset_n o1 (Lk.ne (Or.inl o1) o4 hwk (by intro h; simp at h)))) rfl ?_
  refine r_iload_n 22 39 2 rfl rfl rfl ?_
  refine r_iadd 23 40 rfl rfl ?_
  refine x_eq (y := (nI (m6 + m3))) (nI_add _ _) ?_
  refine r_put (i := 3) fl_J0_79_J1 in_J1 q114 (ty0 := tyJ1) tyJ1_ok nmJ1 24 43 rfl rfl (wset_n o1 (Lk.ne (Or.inl o1) o4 hwk (by intro h; simp at h))) rfl rfl rfl (Nat.le_of_ble_eq_true rfl) ?_
  show Rn G mJ0_append_2 43 [(0, .ref a1), (1, .ref a2), (2, .int (nI m3))] [] (wset (wset w a4 (arB n12 (va_cpy g11 g13 0 m6 n10))) a1 (.inl (nJ1, [.ref a4, .int 0, .int x5, .int (nI (m6 + m3))]))) _
  refine r_aload_n 25 44 0 rfl rfl rfl ?_
  exact r_aret 26 rfl rfl (Or.inl ⟨_, rfl⟩) (Or.inr ⟨_, rfl⟩) k8
theorem e_J0_append_5 {G : Gm} {κ : Nat → Nat} {φ : Nat → Option Nat} (hS : GS G κ φ) {w : Wd} {Q : Rs → Wd → Prop} {a1 : Nat} {a2 : Nat} {a3 : Nat} {x4 : Int32} {m5 : Nat} {a6 : Nat} {x7 : Int32} {m8 : Nat} (o1 : Lk G w a2 (.inl (nJ1, [.ref a3, .int 0, .int x4, .int (nI m5)]))) (o2 : Lk G w a1 (.inl (nJ1, [.ref a6, .int 0, .int x7, .int (nI m8)]))) {Q3 : Rs → Wd → Prop} (e3 : Ev G mJ0_ensureCapacityInternal [.ref a1, .int (nI (m8 + m5))] w Q3) (k3 : ∀ r w', Q3 r w' → Af G mJ0_append_5 21 24 [(0, .ref a1), (1, .ref a2), (2, .int (nI m5))] [] r w' Q) : Ev G mJ0_append_5 [.ref a1, .ref a2] w Q := by
  show Rn G mJ0_append_5 0 [(0, .ref a1), (1, .ref a2)] [] w Q
  refine r_aload_n 0 1 1 rfl rfl rfl ?_
  refine r_ifnonnull 1 9 rfl rfl ?_
  refine r_aload_n 5 10 1 rfl rfl rfl ?_
  refine r_callU lkU_J0_160_J1 (C := RJ1) (TT := TJ1) (NN := 4) rfl o1 6 13 rfl rfl (by decide) [] rfl rfl (Nat.le_of_ble_eq_true rfl) (Nat.le_of_ble_eq_true rfl) (e_J1_length hS (m4 := m5) (o1 := o1) (k2 := ?_)) (fun _ _ h => h)
  show Rn G mJ0_append_5 13 [(0, .ref a1), (1, .ref a2)] [.int (nI m5)] w _
  refine r_istore_n (lv' := [(2, .int (nI m5)), (0, .ref a1), (1, .ref a2)]) 7 14 rfl rfl (Nat.le_of_ble_eq_true rfl) rfl ?_
  refine r_aload_n 8 15 1 rfl rfl rfl ?_
  refine r_aload_n 9 16 1 rfl rfl rfl ?_
  refine r_get (v := .int (nI m8)) fl_J0_79_J1 10 19 rfl rfl o2 rfl ?_
  refine r_iload_n 11 20 0 rfl rfl rfl ?_
  refine r_iadd 12 21 rfl rfl ?_
  refine x_eq (y := (nI (m8 + m5))) (nI_add _ _) ?_
  exact r_callR lkR_J0_100 (C := RJ1) (TT := TJ1) (NN := 4) rfl o2 13 24 rfl rfl (by decide) [.int (nI (m8 + m5))] rfl rfl (Nat.le_of_ble_eq_true rfl) (Nat.le_of_ble_eq_true rfl) e3 (fun r w' h => Af.sub [1, 2, 0] rfl (k3 r w' h))
theorem e_J0_append_5_24 {G : Gm} {κ : Nat → Nat} {φ : Nat → Option Nat} (hS : GS G κ φ) {w : Wd} {Q : Rs → Wd → Prop} {a1 : Nat} {a2 : Nat} {m3 : Nat} {a4 : Nat} {x5 : Int32} {m6 : Nat} {a7 : Nat} {x8 : Int32} {m9 : Nat} {n10 : Nat} {g11 : Nat → Nat} {n12 : Nat} {g13 : Nat → Nat} (o1 : w.1 a1 = some (.inl (nJ1, [.ref a4, .int 0, .int x5, .int (nI m6)]))) (o2 : Lk G w a2 (.inl (nJ1, [.ref a7, .int 0, .int x8, .int (nI m9)]))) (o3 : Lk G w a7 (arB n10 g11)) (o4 : w.1 a4 = some (arB n12 g13)) (b5 : 0 + m9 ≤ n10) (b6 : m6 + m9 ≤ n12) (q7 : ∀ i, i < m9 → g11 (0 + i) < 128) (b8 : n10 < 2 ^ 31) (b9 : n12 < 2 ^ 31) (ne10 : a2 ≠ a1) (q11 : narrow .boolean (.int (x5 ||| x8)) = .int (x5 ||| x8)) (q12 : fits .boolean (.int (x5 ||| x8)) = true) (k13 : Q (.inl (some (.ref a1))) (wset (wset w a4 (arB n12 (va_cpy g11 g13 0 m6 m9))) a1 (.inl (nJ1, [.ref a4, .int 0, .int (x5 ||| x8), .int (nI (m6 + m3))])))) : Rn G mJ0_append_5 24 [(0, .ref a1), (1, .ref a2), (2, .int (nI m3))] [] w Q := by
  refine Rn.wok fun hwk => ?_
  refine r_aload_n 14 25 0 rfl rfl rfl ?_
  refine r_aload_n 15 26 1 rfl rfl rfl ?_
  refine r_callR lkR_J0_215 (C := RJ1) (TT := TJ1) (NN := 4) rfl (Or.inl o1) 16 29 rfl rfl (by decide) [.ref a2] rfl rfl (Nat.le_of_ble_eq_true rfl) (Nat.le_of_ble_eq_true rfl) (e_J0_inflateIfNeededFor_2 hS (m8 := m9) (m5 := m6) (o1 := (Or.inl o1)) (o2 := o2) (k3 := ?_)) (fun _ _ h => h)
  show Rn G mJ0_append_5 29 [(0, .ref a1), (1, .ref a2), (2, .int (nI m3))] [] w _
  refine r_aload_n 17 30 1 rfl rfl rfl ?_
  refine r_aload_n 18 31 0 rfl rfl rfl ?_
  refine r_get (v := .ref a4) fl_J0_15_J1 19 34 rfl rfl (Or.inl o1) rfl ?_
  refine r_aload_n 20 35 0 rfl rfl rfl ?_
  refine r_get (v := .int (nI m6)) fl_J0_79_J1 21 38 rfl rfl (Or.inl o1) rfl ?_
  refine r_aload_n 22 39 0 rfl rfl rfl ?_
  refine r_get (v := .int 0) fl_J0_22_J1 23 42 rfl rfl (Or.inl o1) rfl ?_
  refine r_callV lkV_J0_219_J1 (C := RJ1) (TT := TJ1) (NN := 4) rfl o2 24 45 rfl rfl (by decide) [.ref a4, .int (nI m6), .int 0] rfl rfl (Nat.le_of_ble_eq_true rfl) (Nat.le_of_ble_eq_true rfl) (e_J0_getBytes hS (m6 := m9) (m3 := m6) (o1 := o2) (o2 := o3) (o3 := o4) (b4 := b5) (b5 := b6) (q6 := q7) (bd7 := b8) (bd8 := b9) (k9 := ?_)) (fun _ _ h => h)
  show Rn G mJ0_append_5 45 [(0, .ref a1), (1, .ref a2), (2, .int (nI m3))] [] (wset w a4 (arB n12 (va_cpy g11 g13 0 m6 m9))) _
  refine r_aload_n 25 46 0 rfl rfl rfl ?_
  refine r_dup 26 47 rfl rfl rfl ?_
  refine r_get (v := .int (nI m6)) fl_J0_79_J1 27 50 rfl rfl (Or.inl (wset_n o1 (Lk.ne (Or.inl o1) o4 hwk (by intro h; simp at h)))) rfl ?_
  refine r_iload_n 28 51 2 rfl rfl rfl ?_
  refine r_iadd 29 52 rfl rfl ?_
  refine x_eq (y := (nI (m6 + m3))) (nI_add _ _) ?_
  refine r_put (i := 3) fl_J0_79_J1 in_J1 q114 (ty0 := tyJ1) tyJ1_ok nmJ1 30 55 rfl rfl (wset_n o1 (Lk.ne (Or.inl o1) o4 hwk (by intro h; simp at h))) rfl rfl rfl (Nat.le_of_ble_eq_true rfl) ?_
  show Rn G mJ0_append_5 55 [(0, .ref a1), (1, .ref a2), (2, .int (nI m3))] [] (wset (wset w a4 (arB n12 (va_cpy g11 g13 0 m6 m9))) a1 (.inl (nJ1, [.ref a4, .int 0, .int x5, .int (nI (m6 + m3))]))) _
  refine r_aload_n 31 56 0 rfl rfl rfl ?_
  refine r_dup 32 57 rfl rfl rfl ?_
  refine r_get (v := .int x5) fl_J0_73_J1 33 60 rfl rfl (Or.inl wset_s) rfl ?_
  refine r_aload_n 34 61 1 rfl rfl rfl ?_
  refine r_get (v := .int x8) fl_J0_73_J1 35 64 rfl rfl (Lk.set_n (Lk.set_n o2 (Lk.ne o2 o4 hwk (by intro h; simp at h))) ne10) rfl ?_
  refine r_ior 36 65 rfl rfl ?_
  refine r_put (i := 2) fl_J0_73_J1 in_J1 q114 (ty0 := tyJ1) tyJ1_ok nmJ1 37 68 rfl rfl wset_s rfl q11 q12 (Nat.le_of_ble_eq_true rfl) ?_
  rw [wset_wset]
  show Rn G mJ0_append_5 68 [(0, .ref a1), (1, .ref a2), (2, .int (nI m3))] [] (wset (wset w a4 (arB n12 (va_cpy g11 g13 0 m6 m9))) a1 (.inl (nJ1, [.ref a4, .int 0, .int (x5 ||| x8), .int (nI (m6 + m3))]))) _
  refine r_aload_n 38 69 0 rfl rfl rfl ?_
  exact r_aret 39 rfl rfl (Or.inl ⟨_, rfl⟩) (Or.inr ⟨_, rfl⟩) k13
theorem e_J0_setLength {G : Gm} {κ : Nat → Nat} {φ : Nat → Option Nat} (hS : GS G κ φ) {w : Wd} {Q : Rs → Wd → Prop} {a1 : Nat} {m2 : Nat} {a3 : Nat} {x4 : Int32} {m5 : Nat} (bd1 : m2 < 2 ^ 31) (o2 : Lk G w a1 (.inl (nJ1, [.ref a3, .int 0, .int x4, .int (nI m5)]))) {Q3 : Rs → Wd → Prop} (e3 : Ev G mJ0_ensureCapacityInternal [.ref a1, .int (nI m2)] w Q3) (k3 : ∀ r w', Q3 r w' → Af G mJ0_setLength 15 18 [(0, .ref a1), (1, .int (nI m2))] [] r w' Q) : Ev G mJ0_setLength [.ref a1, .int (nI m2)] w Q := by
  show Rn G mJ0_setLength 0 [(0, .ref a1), (1, .int (nI m2))] [] w Q
  refine r_iload_n 0 1 1 rfl rfl rfl ?_
  refine y_if_ge (a := m2) bd1 1 4 13 rfl rfl rfl (fun _ => ?_) (fun c => absurd (by omega) c)
  refine r_aload_n 7 14 0 rfl rfl rfl ?_
  refine r_iload_n 8 15 1 rfl rfl rfl ?_
  exact r_callR lkR_J0_100 (C := RJ1) (TT := TJ1) (NN := 4) rfl o2 9 18 rfl rfl (by decide) [.int (nI m2)] rfl rfl (Nat.le_of_ble_eq_true rfl) (Nat.le_of_ble_eq_true rfl) e3 (fun r w' h => Af.sub [0, 1] rfl (k3 r w' h))
theorem e_J0_setLength_18 {G : Gm} {κ : Nat → Nat} {φ : Nat → Option Nat} (hS : GS G κ φ) {w : Wd} {Q : Rs → Wd → Prop} {a1 : Nat} {m2 : Nat} {a3 : Nat} {x4 : Int32} {m5 : Nat} (o1 : w.1 a1 = some (.inl (nJ1, [.ref a3, .int 0, .int x4, .int (nI m5)]))) (bd2 : m5 < 2 ^ 31) (bd3 : m2 < 2 ^ 31) (f4 : m2 ≤ m5) (k5 : m5 ≤ m2 → Q (.inl none) (wset w a1 (.inl (nJ1, [.ref a3, .int 0, .int x4, .int (nI m2)])))) (k6 : ¬ m5 ≤ m2 → Q (.inl none) (wset w a1 (.inl (nJ1, [.ref a3, .int 0, .int 1, .int (nI m2)])))) : Rn G mJ0_setLength 18 [(0, .ref a1), (1, .int (nI m2))] [] w Q := by
  refine r_aload_n 10 19 0 rfl rfl rfl ?_
  refine r_get (v := .int (nI m5)) fl_J0_79_J1 11 22 rfl rfl (Or.inl o1) rfl ?_
  refine r_iload_n 12 23 1 rfl rfl rfl ?_
  refine y_icmp_ge (a := m5) (b := m2) bd2 bd3 13 26 63 rfl rfl rfl (fun _ => ?_) (fun c => absurd f4 c)
  refine r_aload_n 31 64 0 rfl rfl rfl ?_
  refine r_get (v := .int (nI m5)) fl_J0_79_J1 32 67 rfl rfl (Or.inl o1) rfl ?_
  refine r_iload_n 33 68 1 rfl rfl rfl ?_
  refine y_icmp_le (a := m5) (b := m2) (by omega) (by omega) 34 71 76 rfl rfl rfl (fun c1 => ?_) (fun c1 => ?_)
  · refine r_aload_n 38 77 0 rfl rfl rfl ?_
    refine r_iload_n 39 78 1 rfl rfl rfl ?_
    refine r_put (i := 3) fl_J0_79_J1 in_J1 q114 (ty0 := tyJ1) tyJ1_ok nmJ1 40 81 rfl rfl o1 rfl rfl rfl (Nat.le_of_ble_eq_true rfl) ?_
    show Rn G mJ0_setLength 81 [(0, .ref a1), (1, .int (nI m2))] [] (wset w a1 (.inl (nJ1, [.ref a3, .int 0, .int x4, .int (nI m2)]))) _
    exact r_vret 41 rfl rfl (k5 c1)
  · refine r_aload_n 35 72 0 rfl rfl rfl ?_
    refine r_iconst 36 73 rfl rfl di_1 ?_
    refine r_put (i := 2) fl_J0_73_J1 in_J1 q114 (ty0 := tyJ1) tyJ1_ok nmJ1 37 76 rfl rfl o1 rfl rfl rfl (Nat.le_of_ble_eq_true rfl) ?_
    show Rn G mJ0_setLength 76 [(0, .ref a1), (1, .int (nI m2))] [] (wset w a1 (.inl (nJ1, [.ref a3, .int 0, .int 1, .int (nI m5)]))) _
    refine r_aload_n 38 77 0 rfl rfl rfl ?_
    refine r_iload_n 39 78 1 rfl rfl rfl ?_
    refine r_put (i := 3) fl_J0_79_J1 in_J1 q114 (ty0 := tyJ1) tyJ1_ok nmJ1 40 81 rfl rfl wset_s rfl rfl rfl (Nat.le_of_ble_eq_true rfl) ?_
    rw [wset_wset]
    show Rn G mJ0_setLength 81 [(0, .ref a1), (1, .int (nI m2))] [] (wset w a1 (.inl (nJ1, [.ref a3, .int 0, .int 1, .int (nI m2)]))) _
    exact r_vret 41 rfl rfl (k6 c1)
