/-! the constructors on the law's own heap (written by genI.py) -/
set_option maxRecDepth 100000
/-- all is 0 but what the signs' cells hold -/
def zZs (h : zH) : Prop := ∀ b j, b ≠ 0 → (b ≠ 28 → b ≠ 109 → zI h b j = 0) ∧ zL h b j = 0
theorem zZs_zmk {h : zH} {kd : Nat × Nat} {n : Nat} (x : zZs h) : zZs (zmk h kd n) := by
  intro b j h1
  rw [mk_I, mk_L]
  split
  · exact ⟨fun _ _ => rfl, rfl⟩
  · exact x b j h1
theorem zZs_zsP {h : zH} {a k : Nat} {v : Option Nat} (x : zZs h) : zZs (zsP h a k v) := x
theorem zZs_zsI {h : zH} {a k : Nat} {v : Int32} (x : zZs h) (ha : a = 28 ∨ a = 109) : zZs (zsI h a k v) := by
  intro b j h1
  refine ⟨fun h2 h3 => ?_, (x b j h1).2⟩
  rw [rI_sI, if_neg (by omega)]
  exact (x b j h1).1 h2 h3
theorem zZs_zmm {h : zH} (x : zZs h) : zZs (zmm h) := by
  intro b j h1
  rw [mm_I, mm_L]
  split
  · exact ⟨fun _ _ => rfl, rfl⟩
  · exact x b j h1
def ix0 (L : Nat) (xs : Nat → Int32) : zH := zmk (zh0 L xs) (1, 0) 33
theorem iz_ix0 (L : Nat) (xs : Nat → Int32) : zZs (ix0 L xs) := zZs_zmk (fun b j h => ⟨fun _ _ => if_neg h, rfl⟩)
def ix1 (L : Nat) (xs : Nat → Int32) : zH := zmk (ix0 L xs) (2, 0) 7
theorem iz_ix1 (L : Nat) (xs : Nat → Int32) : zZs (ix1 L xs) := zZs_zmk (iz_ix0 L xs)
theorem ic_1 (L : Nat) (xs : Nat → Int32) : fX1_init (ix1 L xs) 2 = some (ix1 L xs) := by
  refine zw_eq ?_
  unfold fX1_init
  refine zw_cm (fun k _ => rfl) ?_
  exact zw_some.mpr rfl
def ix2 (L : Nat) (xs : Nat → Int32) : zH := zsP (ix1 L xs) 1 0 (some 2)
theorem iz_ix2 (L : Nat) (xs : Nat → Int32) : zZs (ix2 L xs) := zZs_zsP (iz_ix1 L xs)
def ix3 (L : Nat) (xs : Nat → Int32) : zH := zmk (ix2 L xs) (103, 10) 10
theorem iz_ix3 (L : Nat) (xs : Nat → Int32) : zZs (ix3 L xs) := zZs_zmk (iz_ix2 L xs)
def ix4 (L : Nat) (xs : Nat → Int32) : zH := zsP (ix3 L xs) 1 1 (some 3)
theorem iz_ix4 (L : Nat) (xs : Nat → Int32) : zZs (ix4 L xs) := zZs_zsP (iz_ix3 L xs)
def ix5 (L : Nat) (xs : Nat → Int32) : zH := zmk (ix4 L xs) (3, 0) 27
theorem iz_ix5 (L : Nat) (xs : Nat → Int32) : zZs (ix5 L xs) := zZs_zmk (iz_ix4 L xs)
theorem ic_2 (L : Nat) (xs : Nat → Int32) : fX2_init_2 (ix5 L xs) 4 = some (ix5 L xs) := by
  refine zw_eq ?_
  unfold fX2_init_2
  exact zw_some.mpr rfl
def ix6 (L : Nat) (xs : Nat → Int32) : zH := zmk (ix5 L xs) (100, 100) 100
theorem iz_ix6 (L : Nat) (xs : Nat → Int32) : zZs (ix6 L xs) := zZs_zmk (iz_ix5 L xs)
def ix7 (L : Nat) (xs : Nat → Int32) : zH := zsP (ix6 L xs) 4 5 (some 5)
theorem iz_ix7 (L : Nat) (xs : Nat → Int32) : zZs (ix7 L xs) := zZs_zsP (iz_ix6 L xs)
def ix8 (L : Nat) (xs : Nat → Int32) : zH := zmk (ix7 L xs) (100, 100) 100
theorem iz_ix8 (L : Nat) (xs : Nat → Int32) : zZs (ix8 L xs) := zZs_zmk (iz_ix7 L xs)
def ix9 (L : Nat) (xs : Nat → Int32) : zH := zsP (ix8 L xs) 4 6 (some 6)
theorem iz_ix9 (L : Nat) (xs : Nat → Int32) : zZs (ix9 L xs) := zZs_zsP (iz_ix8 L xs)
def ix10 (L : Nat) (xs : Nat → Int32) : zH := zmk (ix9 L xs) (100, 100) 100
theorem iz_ix10 (L : Nat) (xs : Nat → Int32) : zZs (ix10 L xs) := zZs_zmk (iz_ix9 L xs)
def ix11 (L : Nat) (xs : Nat → Int32) : zH := zsP (ix10 L xs) 4 7 (some 7)
theorem iz_ix11 (L : Nat) (xs : Nat → Int32) : zZs (ix11 L xs) := zZs_zsP (iz_ix10 L xs)
def ix12 (L : Nat) (xs : Nat → Int32) : zH := zmk (ix11 L xs) (100, 100) 100
theorem iz_ix12 (L : Nat) (xs : Nat → Int32) : zZs (ix12 L xs) := zZs_zmk (iz_ix11 L xs)
def ix13 (L : Nat) (xs : Nat → Int32) : zH := zsP (ix12 L xs) 4 8 (some 8)
theorem iz_ix13 (L : Nat) (xs : Nat → Int32) : zZs (ix13 L xs) := zZs_zsP (iz_ix12 L xs)
def ix14 (L : Nat) (xs : Nat → Int32) : zH := zmk (ix13 L xs) (101, 100) 100
theorem iz_ix14 (L : Nat) (xs : Nat → Int32) : zZs (ix14 L xs) := zZs_zmk (iz_ix13 L xs)
def ix15 (L : Nat) (xs : Nat → Int32) : zH := zsP (ix14 L xs) 4 9 (some 9)
theorem iz_ix15 (L : Nat) (xs : Nat → Int32) : zZs (ix15 L xs) := zZs_zsP (iz_ix14 L xs)
def ix16 (L : Nat) (xs : Nat → Int32) : zH := zmk (ix15 L xs) (100, 10) 10
theorem iz_ix16 (L : Nat) (xs : Nat → Int32) : zZs (ix16 L xs) := zZs_zmk (iz_ix15 L xs)
def ix17 (L : Nat) (xs : Nat → Int32) : zH := zsP (ix16 L xs) 4 11 (some 10)
theorem iz_ix17 (L : Nat) (xs : Nat → Int32) : zZs (ix17 L xs) := zZs_zsP (iz_ix16 L xs)
def ix18 (L : Nat) (xs : Nat → Int32) : zH := zmk (ix17 L xs) (100, 10) 10
theorem iz_ix18 (L : Nat) (xs : Nat → Int32) : zZs (ix18 L xs) := zZs_zmk (iz_ix17 L xs)
def ix19 (L : Nat) (xs : Nat → Int32) : zH := zsP (ix18 L xs) 4 12 (some 11)
theorem iz_ix19 (L : Nat) (xs : Nat → Int32) : zZs (ix19 L xs) := zZs_zsP (iz_ix18 L xs)
def ix20 (L : Nat) (xs : Nat → Int32) : zH := zmk (ix19 L xs) (100, 10) 10
theorem iz_ix20 (L : Nat) (xs : Nat → Int32) : zZs (ix20 L xs) := zZs_zmk (iz_ix19 L xs)
def ix21 (L : Nat) (xs : Nat → Int32) : zH := zsP (ix20 L xs) 4 13 (some 12)
theorem iz_ix21 (L : Nat) (xs : Nat → Int32) : zZs (ix21 L xs) := zZs_zsP (iz_ix20 L xs)
def ix22 (L : Nat) (xs : Nat → Int32) : zH := zmk (ix21 L xs) (101, 10) 10
theorem iz_ix22 (L : Nat) (xs : Nat → Int32) : zZs (ix22 L xs) := zZs_zmk (iz_ix21 L xs)
def ix23 (L : Nat) (xs : Nat → Int32) : zH := zsP (ix22 L xs) 4 14 (some 13)
theorem iz_ix23 (L : Nat) (xs : Nat → Int32) : zZs (ix23 L xs) := zZs_zsP (iz_ix22 L xs)
def ix24 (L : Nat) (xs : Nat → Int32) : zH := zmm (ix23 L xs)
theorem iz_ix24 (L : Nat) (xs : Nat → Int32) : zZs (ix24 L xs) := zZs_zmm (iz_ix23 L xs)
def ix25 (L : Nat) (xs : Nat → Int32) : zH := zsP (ix24 L xs) 4 15 (some 14)
theorem iz_ix25 (L : Nat) (xs : Nat → Int32) : zZs (ix25 L xs) := zZs_zsP (iz_ix24 L xs)
def ix26 (L : Nat) (xs : Nat → Int32) : zH := zmk (ix25 L xs) (100, 4) 4
theorem iz_ix26 (L : Nat) (xs : Nat → Int32) : zZs (ix26 L xs) := zZs_zmk (iz_ix25 L xs)
def ix27 (L : Nat) (xs : Nat → Int32) : zH := zsP (ix26 L xs) 4 16 (some 19)
theorem iz_ix27 (L : Nat) (xs : Nat → Int32) : zZs (ix27 L xs) := zZs_zsP (iz_ix26 L xs)
def ix28 (L : Nat) (xs : Nat → Int32) : zH := zmk (ix27 L xs) (100, 100) 100
theorem iz_ix28 (L : Nat) (xs : Nat → Int32) : zZs (ix28 L xs) := zZs_zmk (iz_ix27 L xs)
def ix29 (L : Nat) (xs : Nat → Int32) : zH := zsP (ix28 L xs) 4 17 (some 20)
theorem iz_ix29 (L : Nat) (xs : Nat → Int32) : zZs (ix29 L xs) := zZs_zsP (iz_ix28 L xs)
def ix30 (L : Nat) (xs : Nat → Int32) : zH := zmk (ix29 L xs) (100, 16) 16
theorem iz_ix30 (L : Nat) (xs : Nat → Int32) : zZs (ix30 L xs) := zZs_zmk (iz_ix29 L xs)
def ix31 (L : Nat) (xs : Nat → Int32) : zH := zsP (ix30 L xs) 4 19 (some 21)
theorem iz_ix31 (L : Nat) (xs : Nat → Int32) : zZs (ix31 L xs) := zZs_zsP (iz_ix30 L xs)
def ix32 (L : Nat) (xs : Nat → Int32) : zH := zmk (ix31 L xs) (102, 16) 16
theorem iz_ix32 (L : Nat) (xs : Nat → Int32) : zZs (ix32 L xs) := zZs_zmk (iz_ix31 L xs)
def ix33 (L : Nat) (xs : Nat → Int32) : zH := zsP (ix32 L xs) 4 20 (some 22)
theorem iz_ix33 (L : Nat) (xs : Nat → Int32) : zZs (ix33 L xs) := zZs_zsP (iz_ix32 L xs)
def ix34 (L : Nat) (xs : Nat → Int32) : zH := zmk (ix33 L xs) (100, 16) 16
theorem iz_ix34 (L : Nat) (xs : Nat → Int32) : zZs (ix34 L xs) := zZs_zmk (iz_ix33 L xs)
def ix35 (L : Nat) (xs : Nat → Int32) : zH := zsP (ix34 L xs) 4 21 (some 23)
theorem iz_ix35 (L : Nat) (xs : Nat → Int32) : zZs (ix35 L xs) := zZs_zsP (iz_ix34 L xs)
def ix36 (L : Nat) (xs : Nat → Int32) : zH := zmk (ix35 L xs) (102, 16) 16
theorem iz_ix36 (L : Nat) (xs : Nat → Int32) : zZs (ix36 L xs) := zZs_zmk (iz_ix35 L xs)
def ix37 (L : Nat) (xs : Nat → Int32) : zH := zsP (ix36 L xs) 4 22 (some 24)
theorem iz_ix37 (L : Nat) (xs : Nat → Int32) : zZs (ix37 L xs) := zZs_zsP (iz_ix36 L xs)
def ix38 (L : Nat) (xs : Nat → Int32) : zH := zmk (ix37 L xs) (100, 16) 16
theorem iz_ix38 (L : Nat) (xs : Nat → Int32) : zZs (ix38 L xs) := zZs_zmk (iz_ix37 L xs)
def ix39 (L : Nat) (xs : Nat → Int32) : zH := zsP (ix38 L xs) 4 23 (some 25)
theorem iz_ix39 (L : Nat) (xs : Nat → Int32) : zZs (ix39 L xs) := zZs_zsP (iz_ix38 L xs)
theorem ic_3 (L : Nat) (xs : Nat → Int32) : fX3_init (ix5 L xs) 4 = some (ix39 L xs) := by
  refine zw_eq ?_
  unfold fX3_init
  refine zw_bm (ic_2 L xs) ?_
  refine zw_lt (ix6 L xs) rfl ?_
  refine zw_cm rfl ?_
  refine zw_lt (ix7 L xs) rfl ?_
  refine zw_lt (ix8 L xs) rfl ?_
  refine zw_cm rfl ?_
  refine zw_lt (ix9 L xs) rfl ?_
  refine zw_lt (ix10 L xs) rfl ?_
  refine zw_cm rfl ?_
  refine zw_lt (ix11 L xs) rfl ?_
  refine zw_lt (ix12 L xs) rfl ?_
  refine zw_cm rfl ?_
  refine zw_lt (ix13 L xs) rfl ?_
  refine zw_lt (ix14 L xs) rfl ?_
  refine zw_cm rfl ?_
  refine zw_lt (ix15 L xs) rfl ?_
  refine zw_lt (ix16 L xs) rfl ?_
  refine zw_cm rfl ?_
  refine zw_lt (ix17 L xs) rfl ?_
  refine zw_lt (ix18 L xs) rfl ?_
  refine zw_cm rfl ?_
  refine zw_lt (ix19 L xs) rfl ?_
  refine zw_lt (ix20 L xs) rfl ?_
  refine zw_cm rfl ?_
  refine zw_lt (ix21 L xs) rfl ?_
  refine zw_lt (ix22 L xs) rfl ?_
  refine zw_cm rfl ?_
  refine zw_lt (ix23 L xs) rfl ?_
  refine zw_lt (ix24 L xs) rfl ?_
  refine zw_cm rfl ?_
  refine zw_lt (ix25 L xs) rfl ?_
  refine zw_lt (ix26 L xs) rfl ?_
  refine zw_cm rfl ?_
  refine zw_lt (ix27 L xs) rfl ?_
  refine zw_lt (ix28 L xs) rfl ?_
  refine zw_cm rfl ?_
  refine zw_lt (ix29 L xs) rfl ?_
  refine zw_lt (ix30 L xs) rfl ?_
  refine zw_cm rfl ?_
  refine zw_lt (ix31 L xs) rfl ?_
  refine zw_lt (ix32 L xs) rfl ?_
  refine zw_cm rfl ?_
  refine zw_lt (ix33 L xs) rfl ?_
  refine zw_lt (ix34 L xs) rfl ?_
  refine zw_cm rfl ?_
  refine zw_lt (ix35 L xs) rfl ?_
  refine zw_lt (ix36 L xs) rfl ?_
  refine zw_cm rfl ?_
  refine zw_lt (ix37 L xs) rfl ?_
  refine zw_lt (ix38 L xs) rfl ?_
  refine zw_cm rfl ?_
  refine zw_lt (ix39 L xs) rfl ?_
  exact zw_some.mpr rfl
def ix40 (L : Nat) (xs : Nat → Int32) : zH := zsP (ix39 L xs) 1 3 (some 4)
theorem iz_ix40 (L : Nat) (xs : Nat → Int32) : zZs (ix40 L xs) := zZs_zsP (iz_ix39 L xs)
def ix41 (L : Nat) (xs : Nat → Int32) : zH := zmk (ix40 L xs) (100, 1000) 1000
theorem iz_ix41 (L : Nat) (xs : Nat → Int32) : zZs (ix41 L xs) := zZs_zmk (iz_ix40 L xs)
def ix42 (L : Nat) (xs : Nat → Int32) : zH := zsP (ix41 L xs) 1 4 (some 26)
theorem iz_ix42 (L : Nat) (xs : Nat → Int32) : zZs (ix42 L xs) := zZs_zsP (iz_ix41 L xs)
def ix43 (L : Nat) (xs : Nat → Int32) : zH := zmk (ix42 L xs) (100, 1000) 1000
theorem iz_ix43 (L : Nat) (xs : Nat → Int32) : zZs (ix43 L xs) := zZs_zmk (iz_ix42 L xs)
def ix44 (L : Nat) (xs : Nat → Int32) : zH := zsP (ix43 L xs) 1 6 (some 27)
theorem iz_ix44 (L : Nat) (xs : Nat → Int32) : zZs (ix44 L xs) := zZs_zsP (iz_ix43 L xs)
def ix45 (L : Nat) (xs : Nat → Int32) : zH := zmk (ix44 L xs) (100, 2) 2
theorem iz_ix45 (L : Nat) (xs : Nat → Int32) : zZs (ix45 L xs) := zZs_zmk (iz_ix44 L xs)
def ix46 (L : Nat) (xs : Nat → Int32) : zH := zsI (ix45 L xs) 28 0 65533
theorem iz_ix46 (L : Nat) (xs : Nat → Int32) : zZs (ix46 L xs) := zZs_zsI (iz_ix45 L xs) (by decide)
def ix47 (L : Nat) (xs : Nat → Int32) : zH := zsI (ix46 L xs) 28 1 63
theorem iz_ix47 (L : Nat) (xs : Nat → Int32) : zZs (ix47 L xs) := zZs_zsI (iz_ix46 L xs) (by decide)
def ix48 (L : Nat) (xs : Nat → Int32) : zH := zsP (ix47 L xs) 1 8 (some 28)
theorem iz_ix48 (L : Nat) (xs : Nat → Int32) : zZs (ix48 L xs) := zZs_zsP (iz_ix47 L xs)
def ix49 (L : Nat) (xs : Nat → Int32) : zH := zmk (ix48 L xs) (100, 41) 41
theorem iz_ix49 (L : Nat) (xs : Nat → Int32) : zZs (ix49 L xs) := zZs_zmk (iz_ix48 L xs)
def ix50 (L : Nat) (xs : Nat → Int32) : zH := zsP (ix49 L xs) 1 10 (some 29)
theorem iz_ix50 (L : Nat) (xs : Nat → Int32) : zZs (ix50 L xs) := zZs_zsP (iz_ix49 L xs)
def ix51 (L : Nat) (xs : Nat → Int32) : zH := zmk (ix50 L xs) (100, 41) 41
theorem iz_ix51 (L : Nat) (xs : Nat → Int32) : zZs (ix51 L xs) := zZs_zmk (iz_ix50 L xs)
def ix52 (L : Nat) (xs : Nat → Int32) : zH := zsP (ix51 L xs) 1 11 (some 30)
theorem iz_ix52 (L : Nat) (xs : Nat → Int32) : zZs (ix52 L xs) := zZs_zsP (iz_ix51 L xs)
def ix53 (L : Nat) (xs : Nat → Int32) : zH := zmk (ix52 L xs) (100, 164) 164
theorem iz_ix53 (L : Nat) (xs : Nat → Int32) : zZs (ix53 L xs) := zZs_zmk (iz_ix52 L xs)
def ix54 (L : Nat) (xs : Nat → Int32) : zH := zsP (ix53 L xs) 1 12 (some 31)
theorem iz_ix54 (L : Nat) (xs : Nat → Int32) : zZs (ix54 L xs) := zZs_zsP (iz_ix53 L xs)
def ix55 (L : Nat) (xs : Nat → Int32) : zH := zmk (ix54 L xs) (100, 41) 41
theorem iz_ix55 (L : Nat) (xs : Nat → Int32) : zZs (ix55 L xs) := zZs_zmk (iz_ix54 L xs)
def ix56 (L : Nat) (xs : Nat → Int32) : zH := zsP (ix55 L xs) 1 13 (some 32)
theorem iz_ix56 (L : Nat) (xs : Nat → Int32) : zZs (ix56 L xs) := zZs_zsP (iz_ix55 L xs)
def ix57 (L : Nat) (xs : Nat → Int32) : zH := zmk (ix56 L xs) (103, 4) 4
theorem iz_ix57 (L : Nat) (xs : Nat → Int32) : zZs (ix57 L xs) := zZs_zmk (iz_ix56 L xs)
def ix58 (L : Nat) (xs : Nat → Int32) : zH := zsP (ix57 L xs) 1 14 (some 33)
theorem iz_ix58 (L : Nat) (xs : Nat → Int32) : zZs (ix58 L xs) := zZs_zsP (iz_ix57 L xs)
def ix59 (L : Nat) (xs : Nat → Int32) : zH := zmk (ix58 L xs) (104, 4) 4
theorem iz_ix59 (L : Nat) (xs : Nat → Int32) : zZs (ix59 L xs) := zZs_zmk (iz_ix58 L xs)
def ix60 (L : Nat) (xs : Nat → Int32) : zH := zsP (ix59 L xs) 1 15 (some 34)
theorem iz_ix60 (L : Nat) (xs : Nat → Int32) : zZs (ix60 L xs) := zZs_zsP (iz_ix59 L xs)
def ix61 (L : Nat) (xs : Nat → Int32) : zH := zmk (ix60 L xs) (105, 4) 4
theorem iz_ix61 (L : Nat) (xs : Nat → Int32) : zZs (ix61 L xs) := zZs_zmk (iz_ix60 L xs)
def ix62 (L : Nat) (xs : Nat → Int32) : zH := zsP (ix61 L xs) 1 16 (some 35)
theorem iz_ix62 (L : Nat) (xs : Nat → Int32) : zZs (ix62 L xs) := zZs_zsP (iz_ix61 L xs)
def ix63 (L : Nat) (xs : Nat → Int32) : zH := zmk (ix62 L xs) (4, 0) 15
theorem iz_ix63 (L : Nat) (xs : Nat → Int32) : zZs (ix63 L xs) := zZs_zmk (iz_ix62 L xs)
def ix64 (L : Nat) (xs : Nat → Int32) : zH := zsP (ix63 L xs) 36 14 (some 1)
theorem iz_ix64 (L : Nat) (xs : Nat → Int32) : zZs (ix64 L xs) := zZs_zsP (iz_ix63 L xs)
def ix65 (L : Nat) (xs : Nat → Int32) : zH := zsP (ix64 L xs) 36 11 (some 1)
theorem iz_ix65 (L : Nat) (xs : Nat → Int32) : zZs (ix65 L xs) := zZs_zsP (iz_ix64 L xs)
def ix66 (L : Nat) (xs : Nat → Int32) : zH := zmk (ix65 L xs) (100, 700) 700
theorem iz_ix66 (L : Nat) (xs : Nat → Int32) : zZs (ix66 L xs) := zZs_zmk (iz_ix65 L xs)
def ix67 (L : Nat) (xs : Nat → Int32) : zH := zsP (ix66 L xs) 36 0 (some 37)
theorem iz_ix67 (L : Nat) (xs : Nat → Int32) : zZs (ix67 L xs) := zZs_zsP (iz_ix66 L xs)
theorem ic_4 (L : Nat) (xs : Nat → Int32) : fX4_init_3 (ix64 L xs) 36 1 = some (ix67 L xs) := by
  refine zw_eq ?_
  unfold fX4_init_3
  refine zw_cm rfl ?_
  refine zw_lt (ix65 L xs) rfl ?_
  refine zw_lt (ix66 L xs) rfl ?_
  refine zw_cm rfl ?_
  refine zw_lt (ix67 L xs) rfl ?_
  exact zw_some.mpr rfl
def ix68 (L : Nat) (xs : Nat → Int32) : zH := zmk (ix67 L xs) (100, 4) 4
theorem iz_ix68 (L : Nat) (xs : Nat → Int32) : zZs (ix68 L xs) := zZs_zmk (iz_ix67 L xs)
def ix69 (L : Nat) (xs : Nat → Int32) : zH := zsP (ix68 L xs) 36 12 (some 38)
theorem iz_ix69 (L : Nat) (xs : Nat → Int32) : zZs (ix69 L xs) := zZs_zsP (iz_ix68 L xs)
theorem ic_5 (L : Nat) (xs : Nat → Int32) : fX5_init (ix63 L xs) 36 1 = some (ix69 L xs) := by
  refine zw_eq ?_
  unfold fX5_init
  refine zw_cm rfl ?_
  refine zw_lt (ix64 L xs) rfl ?_
  refine zw_bm (ic_4 L xs) ?_
  refine zw_lt (ix68 L xs) rfl ?_
  refine zw_cm rfl ?_
  refine zw_lt (ix69 L xs) rfl ?_
  exact zw_some.mpr rfl
def ix70 (L : Nat) (xs : Nat → Int32) : zH := zsP (ix69 L xs) 1 17 (some 36)
theorem iz_ix70 (L : Nat) (xs : Nat → Int32) : zZs (ix70 L xs) := zZs_zsP (iz_ix69 L xs)
def ix71 (L : Nat) (xs : Nat → Int32) : zH := zmk (ix70 L xs) (5, 0) 16
theorem iz_ix71 (L : Nat) (xs : Nat → Int32) : zZs (ix71 L xs) := zZs_zmk (iz_ix70 L xs)
def ix72 (L : Nat) (xs : Nat → Int32) : zH := zsP (ix71 L xs) 39 15 (some 1)
theorem iz_ix72 (L : Nat) (xs : Nat → Int32) : zZs (ix72 L xs) := zZs_zsP (iz_ix71 L xs)
def ix73 (L : Nat) (xs : Nat → Int32) : zH := zsP (ix72 L xs) 39 11 (some 1)
theorem iz_ix73 (L : Nat) (xs : Nat → Int32) : zZs (ix73 L xs) := zZs_zsP (iz_ix72 L xs)
def ix74 (L : Nat) (xs : Nat → Int32) : zH := zmk (ix73 L xs) (100, 700) 700
theorem iz_ix74 (L : Nat) (xs : Nat → Int32) : zZs (ix74 L xs) := zZs_zmk (iz_ix73 L xs)
def ix75 (L : Nat) (xs : Nat → Int32) : zH := zsP (ix74 L xs) 39 0 (some 40)
theorem iz_ix75 (L : Nat) (xs : Nat → Int32) : zZs (ix75 L xs) := zZs_zsP (iz_ix74 L xs)
theorem ic_6 (L : Nat) (xs : Nat → Int32) : fX4_init_4 (ix72 L xs) 39 1 = some (ix75 L xs) := by
  refine zw_eq ?_
  unfold fX4_init_4
  refine zw_cm rfl ?_
  refine zw_lt (ix73 L xs) rfl ?_
  refine zw_lt (ix74 L xs) rfl ?_
  refine zw_cm rfl ?_
  refine zw_lt (ix75 L xs) rfl ?_
  exact zw_some.mpr rfl
def ix76 (L : Nat) (xs : Nat → Int32) : zH := zmk (ix75 L xs) (100, 16) 16
theorem iz_ix76 (L : Nat) (xs : Nat → Int32) : zZs (ix76 L xs) := zZs_zmk (iz_ix75 L xs)
def ix77 (L : Nat) (xs : Nat → Int32) : zH := zsP (ix76 L xs) 39 13 (some 41)
theorem iz_ix77 (L : Nat) (xs : Nat → Int32) : zZs (ix77 L xs) := zZs_zsP (iz_ix76 L xs)
theorem ic_7 (L : Nat) (xs : Nat → Int32) : fX6_init (ix71 L xs) 39 1 = some (ix77 L xs) := by
  refine zw_eq ?_
  unfold fX6_init
  refine zw_cm rfl ?_
  refine zw_lt (ix72 L xs) rfl ?_
  refine zw_bm (ic_6 L xs) ?_
  refine zw_lt (ix76 L xs) rfl ?_
  refine zw_cm rfl ?_
  refine zw_lt (ix77 L xs) rfl ?_
  exact zw_some.mpr rfl
def ix78 (L : Nat) (xs : Nat → Int32) : zH := zsP (ix77 L xs) 1 18 (some 39)
theorem iz_ix78 (L : Nat) (xs : Nat → Int32) : zZs (ix78 L xs) := zZs_zsP (iz_ix77 L xs)
def ix79 (L : Nat) (xs : Nat → Int32) : zH := zmk (ix78 L xs) (6, 0) 4
theorem iz_ix79 (L : Nat) (xs : Nat → Int32) : zZs (ix79 L xs) := zZs_zmk (iz_ix78 L xs)
def ix80 (L : Nat) (xs : Nat → Int32) : zH := zsP (ix79 L xs) 42 3 (some 1)
theorem iz_ix80 (L : Nat) (xs : Nat → Int32) : zZs (ix80 L xs) := zZs_zsP (iz_ix79 L xs)
def ix81 (L : Nat) (xs : Nat → Int32) : zH := zmk (ix80 L xs) (100, 6000) 6000
theorem iz_ix81 (L : Nat) (xs : Nat → Int32) : zZs (ix81 L xs) := zZs_zmk (iz_ix80 L xs)
def ix82 (L : Nat) (xs : Nat → Int32) : zH := zsP (ix81 L xs) 42 0 (some 43)
theorem iz_ix82 (L : Nat) (xs : Nat → Int32) : zZs (ix82 L xs) := zZs_zsP (iz_ix81 L xs)
theorem ic_8 (L : Nat) (xs : Nat → Int32) : fX7_init (ix79 L xs) 42 1 = some (ix82 L xs) := by
  refine zw_eq ?_
  unfold fX7_init
  refine zw_cm rfl ?_
  refine zw_lt (ix80 L xs) rfl ?_
  refine zw_lt (ix81 L xs) rfl ?_
  refine zw_cm rfl ?_
  refine zw_lt (ix82 L xs) rfl ?_
  exact zw_some.mpr rfl
def ix83 (L : Nat) (xs : Nat → Int32) : zH := zsP (ix82 L xs) 1 24 (some 42)
theorem iz_ix83 (L : Nat) (xs : Nat → Int32) : zZs (ix83 L xs) := zZs_zsP (iz_ix82 L xs)
def ix84 (L : Nat) (xs : Nat → Int32) : zH := zmk (ix83 L xs) (6, 0) 4
theorem iz_ix84 (L : Nat) (xs : Nat → Int32) : zZs (ix84 L xs) := zZs_zmk (iz_ix83 L xs)
def ix85 (L : Nat) (xs : Nat → Int32) : zH := zsP (ix84 L xs) 44 3 (some 1)
theorem iz_ix85 (L : Nat) (xs : Nat → Int32) : zZs (ix85 L xs) := zZs_zsP (iz_ix84 L xs)
def ix86 (L : Nat) (xs : Nat → Int32) : zH := zmk (ix85 L xs) (100, 6000) 6000
theorem iz_ix86 (L : Nat) (xs : Nat → Int32) : zZs (ix86 L xs) := zZs_zmk (iz_ix85 L xs)
def ix87 (L : Nat) (xs : Nat → Int32) : zH := zsP (ix86 L xs) 44 0 (some 45)
theorem iz_ix87 (L : Nat) (xs : Nat → Int32) : zZs (ix87 L xs) := zZs_zsP (iz_ix86 L xs)
theorem ic_9 (L : Nat) (xs : Nat → Int32) : fX7_init (ix84 L xs) 44 1 = some (ix87 L xs) := by
  refine zw_eq ?_
  unfold fX7_init
  refine zw_cm rfl ?_
  refine zw_lt (ix85 L xs) rfl ?_
  refine zw_lt (ix86 L xs) rfl ?_
  refine zw_cm rfl ?_
  refine zw_lt (ix87 L xs) rfl ?_
  exact zw_some.mpr rfl
def ix88 (L : Nat) (xs : Nat → Int32) : zH := zsP (ix87 L xs) 1 25 (some 44)
theorem iz_ix88 (L : Nat) (xs : Nat → Int32) : zZs (ix88 L xs) := zZs_zsP (iz_ix87 L xs)
def ix89 (L : Nat) (xs : Nat → Int32) : zH := zmk (ix88 L xs) (6, 0) 4
theorem iz_ix89 (L : Nat) (xs : Nat → Int32) : zZs (ix89 L xs) := zZs_zmk (iz_ix88 L xs)
def ix90 (L : Nat) (xs : Nat → Int32) : zH := zsP (ix89 L xs) 46 3 (some 1)
theorem iz_ix90 (L : Nat) (xs : Nat → Int32) : zZs (ix90 L xs) := zZs_zsP (iz_ix89 L xs)
def ix91 (L : Nat) (xs : Nat → Int32) : zH := zmk (ix90 L xs) (100, 6000) 6000
theorem iz_ix91 (L : Nat) (xs : Nat → Int32) : zZs (ix91 L xs) := zZs_zmk (iz_ix90 L xs)
def ix92 (L : Nat) (xs : Nat → Int32) : zH := zsP (ix91 L xs) 46 0 (some 47)
theorem iz_ix92 (L : Nat) (xs : Nat → Int32) : zZs (ix92 L xs) := zZs_zsP (iz_ix91 L xs)
theorem ic_10 (L : Nat) (xs : Nat → Int32) : fX7_init (ix89 L xs) 46 1 = some (ix92 L xs) := by
  refine zw_eq ?_
  unfold fX7_init
  refine zw_cm rfl ?_
  refine zw_lt (ix90 L xs) rfl ?_
  refine zw_lt (ix91 L xs) rfl ?_
  refine zw_cm rfl ?_
  refine zw_lt (ix92 L xs) rfl ?_
  exact zw_some.mpr rfl
def ix93 (L : Nat) (xs : Nat → Int32) : zH := zsP (ix92 L xs) 1 26 (some 46)
theorem iz_ix93 (L : Nat) (xs : Nat → Int32) : zZs (ix93 L xs) := zZs_zsP (iz_ix92 L xs)
def ix94 (L : Nat) (xs : Nat → Int32) : zH := zmk (ix93 L xs) (100, 6) 6
theorem iz_ix94 (L : Nat) (xs : Nat → Int32) : zZs (ix94 L xs) := zZs_zmk (iz_ix93 L xs)
def ix95 (L : Nat) (xs : Nat → Int32) : zH := zsP (ix94 L xs) 1 28 (some 48)
theorem iz_ix95 (L : Nat) (xs : Nat → Int32) : zZs (ix95 L xs) := zZs_zsP (iz_ix94 L xs)
def ix96 (L : Nat) (xs : Nat → Int32) : zH := zmk (ix95 L xs) (6, 0) 4
theorem iz_ix96 (L : Nat) (xs : Nat → Int32) : zZs (ix96 L xs) := zZs_zmk (iz_ix95 L xs)
def ix97 (L : Nat) (xs : Nat → Int32) : zH := zsP (ix96 L xs) 49 3 (some 1)
theorem iz_ix97 (L : Nat) (xs : Nat → Int32) : zZs (ix97 L xs) := zZs_zsP (iz_ix96 L xs)
def ix98 (L : Nat) (xs : Nat → Int32) : zH := zmk (ix97 L xs) (100, 6000) 6000
theorem iz_ix98 (L : Nat) (xs : Nat → Int32) : zZs (ix98 L xs) := zZs_zmk (iz_ix97 L xs)
def ix99 (L : Nat) (xs : Nat → Int32) : zH := zsP (ix98 L xs) 49 0 (some 50)
theorem iz_ix99 (L : Nat) (xs : Nat → Int32) : zZs (ix99 L xs) := zZs_zsP (iz_ix98 L xs)
theorem ic_11 (L : Nat) (xs : Nat → Int32) : fX7_init (ix96 L xs) 49 1 = some (ix99 L xs) := by
  refine zw_eq ?_
  unfold fX7_init
  refine zw_cm rfl ?_
  refine zw_lt (ix97 L xs) rfl ?_
  refine zw_lt (ix98 L xs) rfl ?_
  refine zw_cm rfl ?_
  refine zw_lt (ix99 L xs) rfl ?_
  exact zw_some.mpr rfl
def ix100 (L : Nat) (xs : Nat → Int32) : zH := zsP (ix99 L xs) 1 29 (some 49)
theorem iz_ix100 (L : Nat) (xs : Nat → Int32) : zZs (ix100 L xs) := zZs_zsP (iz_ix99 L xs)
def ix101 (L : Nat) (xs : Nat → Int32) : zH := zmk (ix100 L xs) (6, 0) 4
theorem iz_ix101 (L : Nat) (xs : Nat → Int32) : zZs (ix101 L xs) := zZs_zmk (iz_ix100 L xs)
def ix102 (L : Nat) (xs : Nat → Int32) : zH := zsP (ix101 L xs) 51 3 (some 1)
theorem iz_ix102 (L : Nat) (xs : Nat → Int32) : zZs (ix102 L xs) := zZs_zsP (iz_ix101 L xs)
def ix103 (L : Nat) (xs : Nat → Int32) : zH := zmk (ix102 L xs) (100, 6000) 6000
theorem iz_ix103 (L : Nat) (xs : Nat → Int32) : zZs (ix103 L xs) := zZs_zmk (iz_ix102 L xs)
def ix104 (L : Nat) (xs : Nat → Int32) : zH := zsP (ix103 L xs) 51 0 (some 52)
theorem iz_ix104 (L : Nat) (xs : Nat → Int32) : zZs (ix104 L xs) := zZs_zsP (iz_ix103 L xs)
theorem ic_12 (L : Nat) (xs : Nat → Int32) : fX7_init (ix101 L xs) 51 1 = some (ix104 L xs) := by
  refine zw_eq ?_
  unfold fX7_init
  refine zw_cm rfl ?_
  refine zw_lt (ix102 L xs) rfl ?_
  refine zw_lt (ix103 L xs) rfl ?_
  refine zw_cm rfl ?_
  refine zw_lt (ix104 L xs) rfl ?_
  exact zw_some.mpr rfl
def ix105 (L : Nat) (xs : Nat → Int32) : zH := zsP (ix104 L xs) 1 30 (some 51)
theorem iz_ix105 (L : Nat) (xs : Nat → Int32) : zZs (ix105 L xs) := zZs_zsP (iz_ix104 L xs)
def ix106 (L : Nat) (xs : Nat → Int32) : zH := zmk (ix105 L xs) (100, 2) 2
theorem iz_ix106 (L : Nat) (xs : Nat → Int32) : zZs (ix106 L xs) := zZs_zmk (iz_ix105 L xs)
def ix107 (L : Nat) (xs : Nat → Int32) : zH := zsP (ix106 L xs) 1 31 (some 53)
theorem iz_ix107 (L : Nat) (xs : Nat → Int32) : zZs (ix107 L xs) := zZs_zsP (iz_ix106 L xs)
def ix108 (L : Nat) (xs : Nat → Int32) : zH := zmk (ix107 L xs) (7, 0) 1
theorem iz_ix108 (L : Nat) (xs : Nat → Int32) : zZs (ix108 L xs) := zZs_zmk (iz_ix107 L xs)
theorem ic_13 (L : Nat) (xs : Nat → Int32) : fX8_init (ix108 L xs) 54 = some (ix108 L xs) := by
  refine zw_eq ?_
  unfold fX8_init
  exact zw_some.mpr rfl
def ix109 (L : Nat) (xs : Nat → Int32) : zH := zsP (ix108 L xs) 3 0 (some 54)
theorem iz_ix109 (L : Nat) (xs : Nat → Int32) : zZs (ix109 L xs) := zZs_zsP (iz_ix108 L xs)
theorem ic_14 (L : Nat) (xs : Nat → Int32) : fX0_init_L228 (ix107 L xs) 1 0 = some (.inl ((ix109 L xs), 1)) := by
  refine zw_eq ?_
  unfold fX0_init_L228
  rw [if_neg (by decide)]
  refine zw_bm (a := 3) rfl ?_
  refine zw_lt (ix108 L xs) rfl ?_
  refine zw_cm (zOb_of rfl (Nat.le_of_ble_eq_true rfl) (Nat.ne_of_gt (Nat.le_of_ble_eq_true rfl))) ?_
  refine zw_bm (ic_13 L xs) ?_
  refine zw_cm ⟨rfl, (Nat.ne_of_gt (Nat.le_of_ble_eq_true rfl))⟩ ?_
  refine zw_cm (show vp_in 0 10 from pk_in 0 10 (by decide)) ?_
  refine zw_cm rfl ?_
  refine zw_lt (ix109 L xs) rfl ?_
  exact zw_some.mpr rfl
def ix110 (L : Nat) (xs : Nat → Int32) : zH := zmk (ix109 L xs) (7, 0) 1
theorem iz_ix110 (L : Nat) (xs : Nat → Int32) : zZs (ix110 L xs) := zZs_zmk (iz_ix109 L xs)
theorem ic_15 (L : Nat) (xs : Nat → Int32) : fX8_init (ix110 L xs) 55 = some (ix110 L xs) := by
  refine zw_eq ?_
  unfold fX8_init
  exact zw_some.mpr rfl
def ix111 (L : Nat) (xs : Nat → Int32) : zH := zsP (ix110 L xs) 3 1 (some 55)
theorem iz_ix111 (L : Nat) (xs : Nat → Int32) : zZs (ix111 L xs) := zZs_zsP (iz_ix110 L xs)
theorem ic_16 (L : Nat) (xs : Nat → Int32) : fX0_init_L228 (ix109 L xs) 1 1 = some (.inl ((ix111 L xs), 2)) := by
  refine zw_eq ?_
  unfold fX0_init_L228
  rw [if_neg (by decide)]
  refine zw_bm (a := 3) rfl ?_
  refine zw_lt (ix110 L xs) rfl ?_
  refine zw_cm (zOb_of rfl (Nat.le_of_ble_eq_true rfl) (Nat.ne_of_gt (Nat.le_of_ble_eq_true rfl))) ?_
  refine zw_bm (ic_15 L xs) ?_
  refine zw_cm ⟨rfl, (Nat.ne_of_gt (Nat.le_of_ble_eq_true rfl))⟩ ?_
  refine zw_cm (show vp_in 1 10 from pk_in 1 10 (by decide)) ?_
  refine zw_cm rfl ?_
  refine zw_lt (ix111 L xs) rfl ?_
  exact zw_some.mpr rfl
def ix112 (L : Nat) (xs : Nat → Int32) : zH := zmk (ix111 L xs) (7, 0) 1
theorem iz_ix112 (L : Nat) (xs : Nat → Int32) : zZs (ix112 L xs) := zZs_zmk (iz_ix111 L xs)
theorem ic_17 (L : Nat) (xs : Nat → Int32) : fX8_init (ix112 L xs) 56 = some (ix112 L xs) := by
  refine zw_eq ?_
  unfold fX8_init
  exact zw_some.mpr rfl
def ix113 (L : Nat) (xs : Nat → Int32) : zH := zsP (ix112 L xs) 3 2 (some 56)
theorem iz_ix113 (L : Nat) (xs : Nat → Int32) : zZs (ix113 L xs) := zZs_zsP (iz_ix112 L xs)
theorem ic_18 (L : Nat) (xs : Nat → Int32) : fX0_init_L228 (ix111 L xs) 1 2 = some (.inl ((ix113 L xs), 3)) := by
  refine zw_eq ?_
  unfold fX0_init_L228
  rw [if_neg (by decide)]
  refine zw_bm (a := 3) rfl ?_
  refine zw_lt (ix112 L xs) rfl ?_
  refine zw_cm (zOb_of rfl (Nat.le_of_ble_eq_true rfl) (Nat.ne_of_gt (Nat.le_of_ble_eq_true rfl))) ?_
  refine zw_bm (ic_17 L xs) ?_
  refine zw_cm ⟨rfl, (Nat.ne_of_gt (Nat.le_of_ble_eq_true rfl))⟩ ?_
  refine zw_cm (show vp_in 2 10 from pk_in 2 10 (by decide)) ?_
  refine zw_cm rfl ?_
  refine zw_lt (ix113 L xs) rfl ?_
  exact zw_some.mpr rfl
def ix114 (L : Nat) (xs : Nat → Int32) : zH := zmk (ix113 L xs) (7, 0) 1
theorem iz_ix114 (L : Nat) (xs : Nat → Int32) : zZs (ix114 L xs) := zZs_zmk (iz_ix113 L xs)
theorem ic_19 (L : Nat) (xs : Nat → Int32) : fX8_init (ix114 L xs) 57 = some (ix114 L xs) := by
  refine zw_eq ?_
  unfold fX8_init
  exact zw_some.mpr rfl
def ix115 (L : Nat) (xs : Nat → Int32) : zH := zsP (ix114 L xs) 3 3 (some 57)
theorem iz_ix115 (L : Nat) (xs : Nat → Int32) : zZs (ix115 L xs) := zZs_zsP (iz_ix114 L xs)
theorem ic_20 (L : Nat) (xs : Nat → Int32) : fX0_init_L228 (ix113 L xs) 1 3 = some (.inl ((ix115 L xs), 4)) := by
  refine zw_eq ?_
  unfold fX0_init_L228
  rw [if_neg (by decide)]
  refine zw_bm (a := 3) rfl ?_
  refine zw_lt (ix114 L xs) rfl ?_
  refine zw_cm (zOb_of rfl (Nat.le_of_ble_eq_true rfl) (Nat.ne_of_gt (Nat.le_of_ble_eq_true rfl))) ?_
  refine zw_bm (ic_19 L xs) ?_
  refine zw_cm ⟨rfl, (Nat.ne_of_gt (Nat.le_of_ble_eq_true rfl))⟩ ?_
  refine zw_cm (show vp_in 3 10 from pk_in 3 10 (by decide)) ?_
  refine zw_cm rfl ?_
  refine zw_lt (ix115 L xs) rfl ?_
  exact zw_some.mpr rfl
def ix116 (L : Nat) (xs : Nat → Int32) : zH := zmk (ix115 L xs) (7, 0) 1
theorem iz_ix116 (L : Nat) (xs : Nat → Int32) : zZs (ix116 L xs) := zZs_zmk (iz_ix115 L xs)
theorem ic_21 (L : Nat) (xs : Nat → Int32) : fX8_init (ix116 L xs) 58 = some (ix116 L xs) := by
  refine zw_eq ?_
  unfold fX8_init
  exact zw_some.mpr rfl
def ix117 (L : Nat) (xs : Nat → Int32) : zH := zsP (ix116 L xs) 3 4 (some 58)
theorem iz_ix117 (L : Nat) (xs : Nat → Int32) : zZs (ix117 L xs) := zZs_zsP (iz_ix116 L xs)
theorem ic_22 (L : Nat) (xs : Nat → Int32) : fX0_init_L228 (ix115 L xs) 1 4 = some (.inl ((ix117 L xs), 5)) := by
  refine zw_eq ?_
  unfold fX0_init_L228
  rw [if_neg (by decide)]
  refine zw_bm (a := 3) rfl ?_
  refine zw_lt (ix116 L xs) rfl ?_
  refine zw_cm (zOb_of rfl (Nat.le_of_ble_eq_true rfl) (Nat.ne_of_gt (Nat.le_of_ble_eq_true rfl))) ?_
  refine zw_bm (ic_21 L xs) ?_
  refine zw_cm ⟨rfl, (Nat.ne_of_gt (Nat.le_of_ble_eq_true rfl))⟩ ?_
  refine zw_cm (show vp_in 4 10 from pk_in 4 10 (by decide)) ?_
  refine zw_cm rfl ?_
  refine zw_lt (ix117 L xs) rfl ?_
  exact zw_some.mpr rfl
def ix118 (L : Nat) (xs : Nat → Int32) : zH := zmk (ix117 L xs) (7, 0) 1
theorem iz_ix118 (L : Nat) (xs : Nat → Int32) : zZs (ix118 L xs) := zZs_zmk (iz_ix117 L xs)
theorem ic_23 (L : Nat) (xs : Nat → Int32) : fX8_init (ix118 L xs) 59 = some (ix118 L xs) := by
  refine zw_eq ?_
  unfold fX8_init
  exact zw_some.mpr rfl
def ix119 (L : Nat) (xs : Nat → Int32) : zH := zsP (ix118 L xs) 3 5 (some 59)
theorem iz_ix119 (L : Nat) (xs : Nat → Int32) : zZs (ix119 L xs) := zZs_zsP (iz_ix118 L xs)
theorem ic_24 (L : Nat) (xs : Nat → Int32) : fX0_init_L228 (ix117 L xs) 1 5 = some (.inl ((ix119 L xs), 6)) := by
  refine zw_eq ?_
  unfold fX0_init_L228
  rw [if_neg (by decide)]
  refine zw_bm (a := 3) rfl ?_
  refine zw_lt (ix118 L xs) rfl ?_
  refine zw_cm (zOb_of rfl (Nat.le_of_ble_eq_true rfl) (Nat.ne_of_gt (Nat.le_of_ble_eq_true rfl))) ?_
  refine zw_bm (ic_23 L xs) ?_
  refine zw_cm ⟨rfl, (Nat.ne_of_gt (Nat.le_of_ble_eq_true rfl))⟩ ?_
  refine zw_cm (show vp_in 5 10 from pk_in 5 10 (by decide)) ?_
  refine zw_cm rfl ?_
  refine zw_lt (ix119 L xs) rfl ?_
  exact zw_some.mpr rfl
def ix120 (L : Nat) (xs : Nat → Int32) : zH := zmk (ix119 L xs) (7, 0) 1
theorem iz_ix120 (L : Nat) (xs : Nat → Int32) : zZs (ix120 L xs) := zZs_zmk (iz_ix119 L xs)
theorem ic_25 (L : Nat) (xs : Nat → Int32) : fX8_init (ix120 L xs) 60 = some (ix120 L xs) := by
  refine zw_eq ?_
  unfold fX8_init
  exact zw_some.mpr rfl
def ix121 (L : Nat) (xs : Nat → Int32) : zH := zsP (ix120 L xs) 3 6 (some 60)
theorem iz_ix121 (L : Nat) (xs : Nat → Int32) : zZs (ix121 L xs) := zZs_zsP (iz_ix120 L xs)
theorem ic_26 (L : Nat) (xs : Nat → Int32) : fX0_init_L228 (ix119 L xs) 1 6 = some (.inl ((ix121 L xs), 7)) := by
  refine zw_eq ?_
  unfold fX0_init_L228
  rw [if_neg (by decide)]
  refine zw_bm (a := 3) rfl ?_
  refine zw_lt (ix120 L xs) rfl ?_
  refine zw_cm (zOb_of rfl (Nat.le_of_ble_eq_true rfl) (Nat.ne_of_gt (Nat.le_of_ble_eq_true rfl))) ?_
  refine zw_bm (ic_25 L xs) ?_
  refine zw_cm ⟨rfl, (Nat.ne_of_gt (Nat.le_of_ble_eq_true rfl))⟩ ?_
  refine zw_cm (show vp_in 6 10 from pk_in 6 10 (by decide)) ?_
  refine zw_cm rfl ?_
  refine zw_lt (ix121 L xs) rfl ?_
  exact zw_some.mpr rfl
def ix122 (L : Nat) (xs : Nat → Int32) : zH := zmk (ix121 L xs) (7, 0) 1
theorem iz_ix122 (L : Nat) (xs : Nat → Int32) : zZs (ix122 L xs) := zZs_zmk (iz_ix121 L xs)
theorem ic_27 (L : Nat) (xs : Nat → Int32) : fX8_init (ix122 L xs) 61 = some (ix122 L xs) := by
  refine zw_eq ?_
  unfold fX8_init
  exact zw_some.mpr rfl
def ix123 (L : Nat) (xs : Nat → Int32) : zH := zsP (ix122 L xs) 3 7 (some 61)
theorem iz_ix123 (L : Nat) (xs : Nat → Int32) : zZs (ix123 L xs) := zZs_zsP (iz_ix122 L xs)
theorem ic_28 (L : Nat) (xs : Nat → Int32) : fX0_init_L228 (ix121 L xs) 1 7 = some (.inl ((ix123 L xs), 8)) := by
  refine zw_eq ?_
  unfold fX0_init_L228
  rw [if_neg (by decide)]
  refine zw_bm (a := 3) rfl ?_
  refine zw_lt (ix122 L xs) rfl ?_
  refine zw_cm (zOb_of rfl (Nat.le_of_ble_eq_true rfl) (Nat.ne_of_gt (Nat.le_of_ble_eq_true rfl))) ?_
  refine zw_bm (ic_27 L xs) ?_
  refine zw_cm ⟨rfl, (Nat.ne_of_gt (Nat.le_of_ble_eq_true rfl))⟩ ?_
  refine zw_cm (show vp_in 7 10 from pk_in 7 10 (by decide)) ?_
  refine zw_cm rfl ?_
  refine zw_lt (ix123 L xs) rfl ?_
  exact zw_some.mpr rfl
def ix124 (L : Nat) (xs : Nat → Int32) : zH := zmk (ix123 L xs) (7, 0) 1
theorem iz_ix124 (L : Nat) (xs : Nat → Int32) : zZs (ix124 L xs) := zZs_zmk (iz_ix123 L xs)
theorem ic_29 (L : Nat) (xs : Nat → Int32) : fX8_init (ix124 L xs) 62 = some (ix124 L xs) := by
  refine zw_eq ?_
  unfold fX8_init
  exact zw_some.mpr rfl
def ix125 (L : Nat) (xs : Nat → Int32) : zH := zsP (ix124 L xs) 3 8 (some 62)
theorem iz_ix125 (L : Nat) (xs : Nat → Int32) : zZs (ix125 L xs) := zZs_zsP (iz_ix124 L xs)
theorem ic_30 (L : Nat) (xs : Nat → Int32) : fX0_init_L228 (ix123 L xs) 1 8 = some (.inl ((ix125 L xs), 9)) := by
  refine zw_eq ?_
  unfold fX0_init_L228
  rw [if_neg (by decide)]
  refine zw_bm (a := 3) rfl ?_
  refine zw_lt (ix124 L xs) rfl ?_
  refine zw_cm (zOb_of rfl (Nat.le_of_ble_eq_true rfl) (Nat.ne_of_gt (Nat.le_of_ble_eq_true rfl))) ?_
  refine zw_bm (ic_29 L xs) ?_
  refine zw_cm ⟨rfl, (Nat.ne_of_gt (Nat.le_of_ble_eq_true rfl))⟩ ?_
  refine zw_cm (show vp_in 8 10 from pk_in 8 10 (by decide)) ?_
  refine zw_cm rfl ?_
  refine zw_lt (ix125 L xs) rfl ?_
  exact zw_some.mpr rfl
def ix126 (L : Nat) (xs : Nat → Int32) : zH := zmk (ix125 L xs) (7, 0) 1
theorem iz_ix126 (L : Nat) (xs : Nat → Int32) : zZs (ix126 L xs) := zZs_zmk (iz_ix125 L xs)
theorem ic_31 (L : Nat) (xs : Nat → Int32) : fX8_init (ix126 L xs) 63 = some (ix126 L xs) := by
  refine zw_eq ?_
  unfold fX8_init
  exact zw_some.mpr rfl
def ix127 (L : Nat) (xs : Nat → Int32) : zH := zsP (ix126 L xs) 3 9 (some 63)
theorem iz_ix127 (L : Nat) (xs : Nat → Int32) : zZs (ix127 L xs) := zZs_zsP (iz_ix126 L xs)
theorem ic_32 (L : Nat) (xs : Nat → Int32) : fX0_init_L228 (ix125 L xs) 1 9 = some (.inl ((ix127 L xs), 10)) := by
  refine zw_eq ?_
  unfold fX0_init_L228
  rw [if_neg (by decide)]
  refine zw_bm (a := 3) rfl ?_
  refine zw_lt (ix126 L xs) rfl ?_
  refine zw_cm (zOb_of rfl (Nat.le_of_ble_eq_true rfl) (Nat.ne_of_gt (Nat.le_of_ble_eq_true rfl))) ?_
  refine zw_bm (ic_31 L xs) ?_
  refine zw_cm ⟨rfl, (Nat.ne_of_gt (Nat.le_of_ble_eq_true rfl))⟩ ?_
  refine zw_cm (show vp_in 9 10 from pk_in 9 10 (by decide)) ?_
  refine zw_cm rfl ?_
  refine zw_lt (ix127 L xs) rfl ?_
  exact zw_some.mpr rfl
theorem ic_33 (L : Nat) (xs : Nat → Int32) : zlp (fun s => fX0_init_L228 s.1 1 s.2) ((ix107 L xs), 0) = some (ix127 L xs) := by
  rw [zlp_eq]
  simp only [ic_14]
  rw [zlp_eq]
  simp only [ic_16]
  rw [zlp_eq]
  simp only [ic_18]
  rw [zlp_eq]
  simp only [ic_20]
  rw [zlp_eq]
  simp only [ic_22]
  rw [zlp_eq]
  simp only [ic_24]
  rw [zlp_eq]
  simp only [ic_26]
  rw [zlp_eq]
  simp only [ic_28]
  rw [zlp_eq]
  simp only [ic_30]
  rw [zlp_eq]
  simp only [ic_32]
  rw [zlp_eq]
  rfl
def ix128 (L : Nat) (xs : Nat → Int32) : zH := zmk (ix127 L xs) (7, 0) 1
theorem iz_ix128 (L : Nat) (xs : Nat → Int32) : zZs (ix128 L xs) := zZs_zmk (iz_ix127 L xs)
theorem ic_34 (L : Nat) (xs : Nat → Int32) : fX8_init (ix128 L xs) 64 = some (ix128 L xs) := by
  refine zw_eq ?_
  unfold fX8_init
  exact zw_some.mpr rfl
def ix129 (L : Nat) (xs : Nat → Int32) : zH := zsP (ix128 L xs) 33 0 (some 64)
theorem iz_ix129 (L : Nat) (xs : Nat → Int32) : zZs (ix129 L xs) := zZs_zsP (iz_ix128 L xs)
def ix130 (L : Nat) (xs : Nat → Int32) : zH := zmk (ix129 L xs) (4, 0) 15
theorem iz_ix130 (L : Nat) (xs : Nat → Int32) : zZs (ix130 L xs) := zZs_zmk (iz_ix129 L xs)
def ix131 (L : Nat) (xs : Nat → Int32) : zH := zsP (ix130 L xs) 65 14 (some 1)
theorem iz_ix131 (L : Nat) (xs : Nat → Int32) : zZs (ix131 L xs) := zZs_zsP (iz_ix130 L xs)
def ix132 (L : Nat) (xs : Nat → Int32) : zH := zsP (ix131 L xs) 65 11 (some 1)
theorem iz_ix132 (L : Nat) (xs : Nat → Int32) : zZs (ix132 L xs) := zZs_zsP (iz_ix131 L xs)
def ix133 (L : Nat) (xs : Nat → Int32) : zH := zmk (ix132 L xs) (100, 700) 700
theorem iz_ix133 (L : Nat) (xs : Nat → Int32) : zZs (ix133 L xs) := zZs_zmk (iz_ix132 L xs)
def ix134 (L : Nat) (xs : Nat → Int32) : zH := zsP (ix133 L xs) 65 0 (some 66)
theorem iz_ix134 (L : Nat) (xs : Nat → Int32) : zZs (ix134 L xs) := zZs_zsP (iz_ix133 L xs)
theorem ic_35 (L : Nat) (xs : Nat → Int32) : fX4_init_3 (ix131 L xs) 65 1 = some (ix134 L xs) := by
  refine zw_eq ?_
  unfold fX4_init_3
  refine zw_cm rfl ?_
  refine zw_lt (ix132 L xs) rfl ?_
  refine zw_lt (ix133 L xs) rfl ?_
  refine zw_cm rfl ?_
  refine zw_lt (ix134 L xs) rfl ?_
  exact zw_some.mpr rfl
def ix135 (L : Nat) (xs : Nat → Int32) : zH := zmk (ix134 L xs) (100, 4) 4
theorem iz_ix135 (L : Nat) (xs : Nat → Int32) : zZs (ix135 L xs) := zZs_zmk (iz_ix134 L xs)
def ix136 (L : Nat) (xs : Nat → Int32) : zH := zsP (ix135 L xs) 65 12 (some 67)
theorem iz_ix136 (L : Nat) (xs : Nat → Int32) : zZs (ix136 L xs) := zZs_zsP (iz_ix135 L xs)
theorem ic_36 (L : Nat) (xs : Nat → Int32) : fX5_init (ix130 L xs) 65 1 = some (ix136 L xs) := by
  refine zw_eq ?_
  unfold fX5_init
  refine zw_cm rfl ?_
  refine zw_lt (ix131 L xs) rfl ?_
  refine zw_bm (ic_35 L xs) ?_
  refine zw_lt (ix135 L xs) rfl ?_
  refine zw_cm rfl ?_
  refine zw_lt (ix136 L xs) rfl ?_
  exact zw_some.mpr rfl
def ix137 (L : Nat) (xs : Nat → Int32) : zH := zsP (ix136 L xs) 34 0 (some 65)
theorem iz_ix137 (L : Nat) (xs : Nat → Int32) : zZs (ix137 L xs) := zZs_zsP (iz_ix136 L xs)
def ix138 (L : Nat) (xs : Nat → Int32) : zH := zmk (ix137 L xs) (5, 0) 16
theorem iz_ix138 (L : Nat) (xs : Nat → Int32) : zZs (ix138 L xs) := zZs_zmk (iz_ix137 L xs)
def ix139 (L : Nat) (xs : Nat → Int32) : zH := zsP (ix138 L xs) 68 15 (some 1)
theorem iz_ix139 (L : Nat) (xs : Nat → Int32) : zZs (ix139 L xs) := zZs_zsP (iz_ix138 L xs)
def ix140 (L : Nat) (xs : Nat → Int32) : zH := zsP (ix139 L xs) 68 11 (some 1)
theorem iz_ix140 (L : Nat) (xs : Nat → Int32) : zZs (ix140 L xs) := zZs_zsP (iz_ix139 L xs)
def ix141 (L : Nat) (xs : Nat → Int32) : zH := zmk (ix140 L xs) (100, 700) 700
theorem iz_ix141 (L : Nat) (xs : Nat → Int32) : zZs (ix141 L xs) := zZs_zmk (iz_ix140 L xs)
def ix142 (L : Nat) (xs : Nat → Int32) : zH := zsP (ix141 L xs) 68 0 (some 69)
theorem iz_ix142 (L : Nat) (xs : Nat → Int32) : zZs (ix142 L xs) := zZs_zsP (iz_ix141 L xs)
theorem ic_37 (L : Nat) (xs : Nat → Int32) : fX4_init_4 (ix139 L xs) 68 1 = some (ix142 L xs) := by
  refine zw_eq ?_
  unfold fX4_init_4
  refine zw_cm rfl ?_
  refine zw_lt (ix140 L xs) rfl ?_
  refine zw_lt (ix141 L xs) rfl ?_
  refine zw_cm rfl ?_
  refine zw_lt (ix142 L xs) rfl ?_
  exact zw_some.mpr rfl
def ix143 (L : Nat) (xs : Nat → Int32) : zH := zmk (ix142 L xs) (100, 16) 16
theorem iz_ix143 (L : Nat) (xs : Nat → Int32) : zZs (ix143 L xs) := zZs_zmk (iz_ix142 L xs)
def ix144 (L : Nat) (xs : Nat → Int32) : zH := zsP (ix143 L xs) 68 13 (some 70)
theorem iz_ix144 (L : Nat) (xs : Nat → Int32) : zZs (ix144 L xs) := zZs_zsP (iz_ix143 L xs)
theorem ic_38 (L : Nat) (xs : Nat → Int32) : fX6_init (ix138 L xs) 68 1 = some (ix144 L xs) := by
  refine zw_eq ?_
  unfold fX6_init
  refine zw_cm rfl ?_
  refine zw_lt (ix139 L xs) rfl ?_
  refine zw_bm (ic_37 L xs) ?_
  refine zw_lt (ix143 L xs) rfl ?_
  refine zw_cm rfl ?_
  refine zw_lt (ix144 L xs) rfl ?_
  exact zw_some.mpr rfl
def ix145 (L : Nat) (xs : Nat → Int32) : zH := zsP (ix144 L xs) 35 0 (some 68)
theorem iz_ix145 (L : Nat) (xs : Nat → Int32) : zZs (ix145 L xs) := zZs_zsP (iz_ix144 L xs)
theorem ic_39 (L : Nat) (xs : Nat → Int32) : fX0_init_L255 (ix127 L xs) 1 0 = some (.inl ((ix145 L xs), 1)) := by
  refine zw_eq ?_
  unfold fX0_init_L255
  rw [if_neg (by decide)]
  refine zw_bm (a := 33) rfl ?_
  refine zw_lt (ix128 L xs) rfl ?_
  refine zw_cm (zOb_of rfl (Nat.le_of_ble_eq_true rfl) (Nat.ne_of_gt (Nat.le_of_ble_eq_true rfl))) ?_
  refine zw_bm (ic_34 L xs) ?_
  refine zw_cm ⟨rfl, (Nat.ne_of_gt (Nat.le_of_ble_eq_true rfl))⟩ ?_
  refine zw_cm (show vp_in 0 4 from pk_in 0 4 (by decide)) ?_
  refine zw_cm rfl ?_
  refine zw_lt (ix129 L xs) rfl ?_
  refine zw_bm (a := 34) rfl ?_
  refine zw_lt (ix130 L xs) rfl ?_
  refine zw_cm (zOb_of rfl (Nat.le_of_ble_eq_true rfl) (Nat.ne_of_gt (Nat.le_of_ble_eq_true rfl))) ?_
  refine zw_bm (ic_36 L xs) ?_
  refine zw_cm ⟨rfl, (Nat.ne_of_gt (Nat.le_of_ble_eq_true rfl))⟩ ?_
  refine zw_cm (show vp_in 0 4 from pk_in 0 4 (by decide)) ?_
  refine zw_cm rfl ?_
  refine zw_lt (ix137 L xs) rfl ?_
  refine zw_bm (a := 35) rfl ?_
  refine zw_lt (ix138 L xs) rfl ?_
  refine zw_cm (zOb_of rfl (Nat.le_of_ble_eq_true rfl) (Nat.ne_of_gt (Nat.le_of_ble_eq_true rfl))) ?_
  refine zw_bm (ic_38 L xs) ?_
  refine zw_cm ⟨rfl, (Nat.ne_of_gt (Nat.le_of_ble_eq_true rfl))⟩ ?_
  refine zw_cm (show vp_in 0 4 from pk_in 0 4 (by decide)) ?_
  refine zw_cm rfl ?_
  refine zw_lt (ix145 L xs) rfl ?_
  exact zw_some.mpr rfl
def ix146 (L : Nat) (xs : Nat → Int32) : zH := zmk (ix145 L xs) (7, 0) 1
theorem iz_ix146 (L : Nat) (xs : Nat → Int32) : zZs (ix146 L xs) := zZs_zmk (iz_ix145 L xs)
theorem ic_40 (L : Nat) (xs : Nat → Int32) : fX8_init (ix146 L xs) 71 = some (ix146 L xs) := by
  refine zw_eq ?_
  unfold fX8_init
  exact zw_some.mpr rfl
def ix147 (L : Nat) (xs : Nat → Int32) : zH := zsP (ix146 L xs) 33 1 (some 71)
theorem iz_ix147 (L : Nat) (xs : Nat → Int32) : zZs (ix147 L xs) := zZs_zsP (iz_ix146 L xs)
def ix148 (L : Nat) (xs : Nat → Int32) : zH := zmk (ix147 L xs) (4, 0) 15
theorem iz_ix148 (L : Nat) (xs : Nat → Int32) : zZs (ix148 L xs) := zZs_zmk (iz_ix147 L xs)
def ix149 (L : Nat) (xs : Nat → Int32) : zH := zsP (ix148 L xs) 72 14 (some 1)
theorem iz_ix149 (L : Nat) (xs : Nat → Int32) : zZs (ix149 L xs) := zZs_zsP (iz_ix148 L xs)
def ix150 (L : Nat) (xs : Nat → Int32) : zH := zsP (ix149 L xs) 72 11 (some 1)
theorem iz_ix150 (L : Nat) (xs : Nat → Int32) : zZs (ix150 L xs) := zZs_zsP (iz_ix149 L xs)
def ix151 (L : Nat) (xs : Nat → Int32) : zH := zmk (ix150 L xs) (100, 700) 700
theorem iz_ix151 (L : Nat) (xs : Nat → Int32) : zZs (ix151 L xs) := zZs_zmk (iz_ix150 L xs)
def ix152 (L : Nat) (xs : Nat → Int32) : zH := zsP (ix151 L xs) 72 0 (some 73)
theorem iz_ix152 (L : Nat) (xs : Nat → Int32) : zZs (ix152 L xs) := zZs_zsP (iz_ix151 L xs)
theorem ic_41 (L : Nat) (xs : Nat → Int32) : fX4_init_3 (ix149 L xs) 72 1 = some (ix152 L xs) := by
  refine zw_eq ?_
  unfold fX4_init_3
  refine zw_cm rfl ?_
  refine zw_lt (ix150 L xs) rfl ?_
  refine zw_lt (ix151 L xs) rfl ?_
  refine zw_cm rfl ?_
  refine zw_lt (ix152 L xs) rfl ?_
  exact zw_some.mpr rfl
def ix153 (L : Nat) (xs : Nat → Int32) : zH := zmk (ix152 L xs) (100, 4) 4
theorem iz_ix153 (L : Nat) (xs : Nat → Int32) : zZs (ix153 L xs) := zZs_zmk (iz_ix152 L xs)
def ix154 (L : Nat) (xs : Nat → Int32) : zH := zsP (ix153 L xs) 72 12 (some 74)
theorem iz_ix154 (L : Nat) (xs : Nat → Int32) : zZs (ix154 L xs) := zZs_zsP (iz_ix153 L xs)
theorem ic_42 (L : Nat) (xs : Nat → Int32) : fX5_init (ix148 L xs) 72 1 = some (ix154 L xs) := by
  refine zw_eq ?_
  unfold fX5_init
  refine zw_cm rfl ?_
  refine zw_lt (ix149 L xs) rfl ?_
  refine zw_bm (ic_41 L xs) ?_
  refine zw_lt (ix153 L xs) rfl ?_
  refine zw_cm rfl ?_
  refine zw_lt (ix154 L xs) rfl ?_
  exact zw_some.mpr rfl
def ix155 (L : Nat) (xs : Nat → Int32) : zH := zsP (ix154 L xs) 34 1 (some 72)
theorem iz_ix155 (L : Nat) (xs : Nat → Int32) : zZs (ix155 L xs) := zZs_zsP (iz_ix154 L xs)
def ix156 (L : Nat) (xs : Nat → Int32) : zH := zmk (ix155 L xs) (5, 0) 16
theorem iz_ix156 (L : Nat) (xs : Nat → Int32) : zZs (ix156 L xs) := zZs_zmk (iz_ix155 L xs)
def ix157 (L : Nat) (xs : Nat → Int32) : zH := zsP (ix156 L xs) 75 15 (some 1)
theorem iz_ix157 (L : Nat) (xs : Nat → Int32) : zZs (ix157 L xs) := zZs_zsP (iz_ix156 L xs)
def ix158 (L : Nat) (xs : Nat → Int32) : zH := zsP (ix157 L xs) 75 11 (some 1)
theorem iz_ix158 (L : Nat) (xs : Nat → Int32) : zZs (ix158 L xs) := zZs_zsP (iz_ix157 L xs)
def ix159 (L : Nat) (xs : Nat → Int32) : zH := zmk (ix158 L xs) (100, 700) 700
theorem iz_ix159 (L : Nat) (xs : Nat → Int32) : zZs (ix159 L xs) := zZs_zmk (iz_ix158 L xs)
def ix160 (L : Nat) (xs : Nat → Int32) : zH := zsP (ix159 L xs) 75 0 (some 76)
theorem iz_ix160 (L : Nat) (xs : Nat → Int32) : zZs (ix160 L xs) := zZs_zsP (iz_ix159 L xs)
theorem ic_43 (L : Nat) (xs : Nat → Int32) : fX4_init_4 (ix157 L xs) 75 1 = some (ix160 L xs) := by
  refine zw_eq ?_
  unfold fX4_init_4
  refine zw_cm rfl ?_
  refine zw_lt (ix158 L xs) rfl ?_
  refine zw_lt (ix159 L xs) rfl ?_
  refine zw_cm rfl ?_
  refine zw_lt (ix160 L xs) rfl ?_
  exact zw_some.mpr rfl
def ix161 (L : Nat) (xs : Nat → Int32) : zH := zmk (ix160 L xs) (100, 16) 16
theorem iz_ix161 (L : Nat) (xs : Nat → Int32) : zZs (ix161 L xs) := zZs_zmk (iz_ix160 L xs)
def ix162 (L : Nat) (xs : Nat → Int32) : zH := zsP (ix161 L xs) 75 13 (some 77)
theorem iz_ix162 (L : Nat) (xs : Nat → Int32) : zZs (ix162 L xs) := zZs_zsP (iz_ix161 L xs)
theorem ic_44 (L : Nat) (xs : Nat → Int32) : fX6_init (ix156 L xs) 75 1 = some (ix162 L xs) := by
  refine zw_eq ?_
  unfold fX6_init
  refine zw_cm rfl ?_
  refine zw_lt (ix157 L xs) rfl ?_
  refine zw_bm (ic_43 L xs) ?_
  refine zw_lt (ix161 L xs) rfl ?_
  refine zw_cm rfl ?_
  refine zw_lt (ix162 L xs) rfl ?_
  exact zw_some.mpr rfl
def ix163 (L : Nat) (xs : Nat → Int32) : zH := zsP (ix162 L xs) 35 1 (some 75)
theorem iz_ix163 (L : Nat) (xs : Nat → Int32) : zZs (ix163 L xs) := zZs_zsP (iz_ix162 L xs)
theorem ic_45 (L : Nat) (xs : Nat → Int32) : fX0_init_L255 (ix145 L xs) 1 1 = some (.inl ((ix163 L xs), 2)) := by
  refine zw_eq ?_
  unfold fX0_init_L255
  rw [if_neg (by decide)]
  refine zw_bm (a := 33) rfl ?_
  refine zw_lt (ix146 L xs) rfl ?_
  refine zw_cm (zOb_of rfl (Nat.le_of_ble_eq_true rfl) (Nat.ne_of_gt (Nat.le_of_ble_eq_true rfl))) ?_
  refine zw_bm (ic_40 L xs) ?_
  refine zw_cm ⟨rfl, (Nat.ne_of_gt (Nat.le_of_ble_eq_true rfl))⟩ ?_
  refine zw_cm (show vp_in 1 4 from pk_in 1 4 (by decide)) ?_
  refine zw_cm rfl ?_
  refine zw_lt (ix147 L xs) rfl ?_
  refine zw_bm (a := 34) rfl ?_
  refine zw_lt (ix148 L xs) rfl ?_
  refine zw_cm (zOb_of rfl (Nat.le_of_ble_eq_true rfl) (Nat.ne_of_gt (Nat.le_of_ble_eq_true rfl))) ?_
  refine zw_bm (ic_42 L xs) ?_
  refine zw_cm ⟨rfl, (Nat.ne_of_gt (Nat.le_of_ble_eq_true rfl))⟩ ?_
  refine zw_cm (show vp_in 1 4 from pk_in 1 4 (by decide)) ?_
  refine zw_cm rfl ?_
  refine zw_lt (ix155 L xs) rfl ?_
  refine zw_bm (a := 35) rfl ?_
  refine zw_lt (ix156 L xs) rfl ?_
  refine zw_cm (zOb_of rfl (Nat.le_of_ble_eq_true rfl) (Nat.ne_of_gt (Nat.le_of_ble_eq_true rfl))) ?_
  refine zw_bm (ic_44 L xs) ?_
  refine zw_cm ⟨rfl, (Nat.ne_of_gt (Nat.le_of_ble_eq_true rfl))⟩ ?_
  refine zw_cm (show vp_in 1 4 from pk_in 1 4 (by decide)) ?_
  refine zw_cm rfl ?_
  refine zw_lt (ix163 L xs) rfl ?_
  exact zw_some.mpr rfl
def ix164 (L : Nat) (xs : Nat → Int32) : zH := zmk (ix163 L xs) (7, 0) 1
theorem iz_ix164 (L : Nat) (xs : Nat → Int32) : zZs (ix164 L xs) := zZs_zmk (iz_ix163 L xs)
theorem ic_46 (L : Nat) (xs : Nat → Int32) : fX8_init (ix164 L xs) 78 = some (ix164 L xs) := by
  refine zw_eq ?_
  unfold fX8_init
  exact zw_some.mpr rfl
def ix165 (L : Nat) (xs : Nat → Int32) : zH := zsP (ix164 L xs) 33 2 (some 78)
theorem iz_ix165 (L : Nat) (xs : Nat → Int32) : zZs (ix165 L xs) := zZs_zsP (iz_ix164 L xs)
def ix166 (L : Nat) (xs : Nat → Int32) : zH := zmk (ix165 L xs) (4, 0) 15
theorem iz_ix166 (L : Nat) (xs : Nat → Int32) : zZs (ix166 L xs) := zZs_zmk (iz_ix165 L xs)
def ix167 (L : Nat) (xs : Nat → Int32) : zH := zsP (ix166 L xs) 79 14 (some 1)
theorem iz_ix167 (L : Nat) (xs : Nat → Int32) : zZs (ix167 L xs) := zZs_zsP (iz_ix166 L xs)
def ix168 (L : Nat) (xs : Nat → Int32) : zH := zsP (ix167 L xs) 79 11 (some 1)
theorem iz_ix168 (L : Nat) (xs : Nat → Int32) : zZs (ix168 L xs) := zZs_zsP (iz_ix167 L xs)
def ix169 (L : Nat) (xs : Nat → Int32) : zH := zmk (ix168 L xs) (100, 700) 700
theorem iz_ix169 (L : Nat) (xs : Nat → Int32) : zZs (ix169 L xs) := zZs_zmk (iz_ix168 L xs)
def ix170 (L : Nat) (xs : Nat → Int32) : zH := zsP (ix169 L xs) 79 0 (some 80)
theorem iz_ix170 (L : Nat) (xs : Nat → Int32) : zZs (ix170 L xs) := zZs_zsP (iz_ix169 L xs)
theorem ic_47 (L : Nat) (xs : Nat → Int32) : fX4_init_3 (ix167 L xs) 79 1 = some (ix170 L xs) := by
  refine zw_eq ?_
  unfold fX4_init_3
  refine zw_cm rfl ?_
  refine zw_lt (ix168 L xs) rfl ?_
  refine zw_lt (ix169 L xs) rfl ?_
  refine zw_cm rfl ?_
  refine zw_lt (ix170 L xs) rfl ?_
  exact zw_some.mpr rfl
def ix171 (L : Nat) (xs : Nat → Int32) : zH := zmk (ix170 L xs) (100, 4) 4
theorem iz_ix171 (L : Nat) (xs : Nat → Int32) : zZs (ix171 L xs) := zZs_zmk (iz_ix170 L xs)
def ix172 (L : Nat) (xs : Nat → Int32) : zH := zsP (ix171 L xs) 79 12 (some 81)
theorem iz_ix172 (L : Nat) (xs : Nat → Int32) : zZs (ix172 L xs) := zZs_zsP (iz_ix171 L xs)
theorem ic_48 (L : Nat) (xs : Nat → Int32) : fX5_init (ix166 L xs) 79 1 = some (ix172 L xs) := by
  refine zw_eq ?_
  unfold fX5_init
  refine zw_cm rfl ?_
  refine zw_lt (ix167 L xs) rfl ?_
  refine zw_bm (ic_47 L xs) ?_
  refine zw_lt (ix171 L xs) rfl ?_
  refine zw_cm rfl ?_
  refine zw_lt (ix172 L xs) rfl ?_
  exact zw_some.mpr rfl
def ix173 (L : Nat) (xs : Nat → Int32) : zH := zsP (ix172 L xs) 34 2 (some 79)
theorem iz_ix173 (L : Nat) (xs : Nat → Int32) : zZs (ix173 L xs) := zZs_zsP (iz_ix172 L xs)
def ix174 (L : Nat) (xs : Nat → Int32) : zH := zmk (ix173 L xs) (5, 0) 16
theorem iz_ix174 (L : Nat) (xs : Nat → Int32) : zZs (ix174 L xs) := zZs_zmk (iz_ix173 L xs)
def ix175 (L : Nat) (xs : Nat → Int32) : zH := zsP (ix174 L xs) 82 15 (some 1)
theorem iz_ix175 (L : Nat) (xs : Nat → Int32) : zZs (ix175 L xs) := zZs_zsP (iz_ix174 L xs)
def ix176 (L : Nat) (xs : Nat → Int32) : zH := zsP (ix175 L xs) 82 11 (some 1)
theorem iz_ix176 (L : Nat) (xs : Nat → Int32) : zZs (ix176 L xs) := zZs_zsP (iz_ix175 L xs)
def ix177 (L : Nat) (xs : Nat → Int32) : zH := zmk (ix176 L xs) (100, 700) 700
theorem iz_ix177 (L : Nat) (xs : Nat → Int32) : zZs (ix177 L xs) := zZs_zmk (iz_ix176 L xs)
def ix178 (L : Nat) (xs : Nat → Int32) : zH := zsP (ix177 L xs) 82 0 (some 83)
theorem iz_ix178 (L : Nat) (xs : Nat → Int32) : zZs (ix178 L xs) := zZs_zsP (iz_ix177 L xs)
theorem ic_49 (L : Nat) (xs : Nat → Int32) : fX4_init_4 (ix175 L xs) 82 1 = some (ix178 L xs) := by
  refine zw_eq ?_
  unfold fX4_init_4
  refine zw_cm rfl ?_
  refine zw_lt (ix176 L xs) rfl ?_
  refine zw_lt (ix177 L xs) rfl ?_
  refine zw_cm rfl ?_
  refine zw_lt (ix178 L xs) rfl ?_
  exact zw_some.mpr rfl
def ix179 (L : Nat) (xs : Nat → Int32) : zH := zmk (ix178 L xs) (100, 16) 16
theorem iz_ix179 (L : Nat) (xs : Nat → Int32) : zZs (ix179 L xs) := zZs_zmk (iz_ix178 L xs)
def ix180 (L : Nat) (xs : Nat → Int32) : zH := zsP (ix179 L xs) 82 13 (some 84)
theorem iz_ix180 (L : Nat) (xs : Nat → Int32) : zZs (ix180 L xs) := zZs_zsP (iz_ix179 L xs)
theorem ic_50 (L : Nat) (xs : Nat → Int32) : fX6_init (ix174 L xs) 82 1 = some (ix180 L xs) := by
  refine zw_eq ?_
  unfold fX6_init
  refine zw_cm rfl ?_
  refine zw_lt (ix175 L xs) rfl ?_
  refine zw_bm (ic_49 L xs) ?_
  refine zw_lt (ix179 L xs) rfl ?_
  refine zw_cm rfl ?_
  refine zw_lt (ix180 L xs) rfl ?_
  exact zw_some.mpr rfl
def ix181 (L : Nat) (xs : Nat → Int32) : zH := zsP (ix180 L xs) 35 2 (some 82)
theorem iz_ix181 (L : Nat) (xs : Nat → Int32) : zZs (ix181 L xs) := zZs_zsP (iz_ix180 L xs)
theorem ic_51 (L : Nat) (xs : Nat → Int32) : fX0_init_L255 (ix163 L xs) 1 2 = some (.inl ((ix181 L xs), 3)) := by
  refine zw_eq ?_
  unfold fX0_init_L255
  rw [if_neg (by decide)]
  refine zw_bm (a := 33) rfl ?_
  refine zw_lt (ix164 L xs) rfl ?_
  refine zw_cm (zOb_of rfl (Nat.le_of_ble_eq_true rfl) (Nat.ne_of_gt (Nat.le_of_ble_eq_true rfl))) ?_
  refine zw_bm (ic_46 L xs) ?_
  refine zw_cm ⟨rfl, (Nat.ne_of_gt (Nat.le_of_ble_eq_true rfl))⟩ ?_
  refine zw_cm (show vp_in 2 4 from pk_in 2 4 (by decide)) ?_
  refine zw_cm rfl ?_
  refine zw_lt (ix165 L xs) rfl ?_
  refine zw_bm (a := 34) rfl ?_
  refine zw_lt (ix166 L xs) rfl ?_
  refine zw_cm (zOb_of rfl (Nat.le_of_ble_eq_true rfl) (Nat.ne_of_gt (Nat.le_of_ble_eq_true rfl))) ?_
  refine zw_bm (ic_48 L xs) ?_
  refine zw_cm ⟨rfl, (Nat.ne_of_gt (Nat.le_of_ble_eq_true rfl))⟩ ?_
  refine zw_cm (show vp_in 2 4 from pk_in 2 4 (by decide)) ?_
  refine zw_cm rfl ?_
  refine zw_lt (ix173 L xs) rfl ?_
  refine zw_bm (a := 35) rfl ?_
  refine zw_lt (ix174 L xs) rfl ?_
  refine zw_cm (zOb_of rfl (Nat.le_of_ble_eq_true rfl) (Nat.ne_of_gt (Nat.le_of_ble_eq_true rfl))) ?_
  refine zw_bm (ic_50 L xs) ?_
  refine zw_cm ⟨rfl, (Nat.ne_of_gt (Nat.le_of_ble_eq_true rfl))⟩ ?_
  refine zw_cm (show vp_in 2 4 from pk_in 2 4 (by decide)) ?_
  refine zw_cm rfl ?_
  refine zw_lt (ix181 L xs) rfl ?_
  exact zw_some.mpr rfl
def ix182 (L : Nat) (xs : Nat → Int32) : zH := zmk (ix181 L xs) (7, 0) 1
theorem iz_ix182 (L : Nat) (xs : Nat → Int32) : zZs (ix182 L xs) := zZs_zmk (iz_ix181 L xs)
theorem ic_52 (L : Nat) (xs : Nat → Int32) : fX8_init (ix182 L xs) 85 = some (ix182 L xs) := by
  refine zw_eq ?_
  unfold fX8_init
  exact zw_some.mpr rfl
def ix183 (L : Nat) (xs : Nat → Int32) : zH := zsP (ix182 L xs) 33 3 (some 85)
theorem iz_ix183 (L : Nat) (xs : Nat → Int32) : zZs (ix183 L xs) := zZs_zsP (iz_ix182 L xs)
def ix184 (L : Nat) (xs : Nat → Int32) : zH := zmk (ix183 L xs) (4, 0) 15
theorem iz_ix184 (L : Nat) (xs : Nat → Int32) : zZs (ix184 L xs) := zZs_zmk (iz_ix183 L xs)
def ix185 (L : Nat) (xs : Nat → Int32) : zH := zsP (ix184 L xs) 86 14 (some 1)
theorem iz_ix185 (L : Nat) (xs : Nat → Int32) : zZs (ix185 L xs) := zZs_zsP (iz_ix184 L xs)
def ix186 (L : Nat) (xs : Nat → Int32) : zH := zsP (ix185 L xs) 86 11 (some 1)
theorem iz_ix186 (L : Nat) (xs : Nat → Int32) : zZs (ix186 L xs) := zZs_zsP (iz_ix185 L xs)
def ix187 (L : Nat) (xs : Nat → Int32) : zH := zmk (ix186 L xs) (100, 700) 700
theorem iz_ix187 (L : Nat) (xs : Nat → Int32) : zZs (ix187 L xs) := zZs_zmk (iz_ix186 L xs)
def ix188 (L : Nat) (xs : Nat → Int32) : zH := zsP (ix187 L xs) 86 0 (some 87)
theorem iz_ix188 (L : Nat) (xs : Nat → Int32) : zZs (ix188 L xs) := zZs_zsP (iz_ix187 L xs)
theorem ic_53 (L : Nat) (xs : Nat → Int32) : fX4_init_3 (ix185 L xs) 86 1 = some (ix188 L xs) := by
  refine zw_eq ?_
  unfold fX4_init_3
  refine zw_cm rfl ?_
  refine zw_lt (ix186 L xs) rfl ?_
  refine zw_lt (ix187 L xs) rfl ?_
  refine zw_cm rfl ?_
  refine zw_lt (ix188 L xs) rfl ?_
  exact zw_some.mpr rfl
def ix189 (L : Nat) (xs : Nat → Int32) : zH := zmk (ix188 L xs) (100, 4) 4
theorem iz_ix189 (L : Nat) (xs : Nat → Int32) : zZs (ix189 L xs) := zZs_zmk (iz_ix188 L xs)
def ix190 (L : Nat) (xs : Nat → Int32) : zH := zsP (ix189 L xs) 86 12 (some 88)
theorem iz_ix190 (L : Nat) (xs : Nat → Int32) : zZs (ix190 L xs) := zZs_zsP (iz_ix189 L xs)
theorem ic_54 (L : Nat) (xs : Nat → Int32) : fX5_init (ix184 L xs) 86 1 = some (ix190 L xs) := by
  refine zw_eq ?_
  unfold fX5_init
  refine zw_cm rfl ?_
  refine zw_lt (ix185 L xs) rfl ?_
  refine zw_bm (ic_53 L xs) ?_
  refine zw_lt (ix189 L xs) rfl ?_
  refine zw_cm rfl ?_
  refine zw_lt (ix190 L xs) rfl ?_
  exact zw_some.mpr rfl
def ix191 (L : Nat) (xs : Nat → Int32) : zH := zsP (ix190 L xs) 34 3 (some 86)
theorem iz_ix191 (L : Nat) (xs : Nat → Int32) : zZs (ix191 L xs) := zZs_zsP (iz_ix190 L xs)
def ix192 (L : Nat) (xs : Nat → Int32) : zH := zmk (ix191 L xs) (5, 0) 16
theorem iz_ix192 (L : Nat) (xs : Nat → Int32) : zZs (ix192 L xs) := zZs_zmk (iz_ix191 L xs)
def ix193 (L : Nat) (xs : Nat → Int32) : zH := zsP (ix192 L xs) 89 15 (some 1)
theorem iz_ix193 (L : Nat) (xs : Nat → Int32) : zZs (ix193 L xs) := zZs_zsP (iz_ix192 L xs)
def ix194 (L : Nat) (xs : Nat → Int32) : zH := zsP (ix193 L xs) 89 11 (some 1)
theorem iz_ix194 (L : Nat) (xs : Nat → Int32) : zZs (ix194 L xs) := zZs_zsP (iz_ix193 L xs)
def ix195 (L : Nat) (xs : Nat → Int32) : zH := zmk (ix194 L xs) (100, 700) 700
theorem iz_ix195 (L : Nat) (xs : Nat → Int32) : zZs (ix195 L xs) := zZs_zmk (iz_ix194 L xs)
def ix196 (L : Nat) (xs : Nat → Int32) : zH := zsP (ix195 L xs) 89 0 (some 90)
theorem iz_ix196 (L : Nat) (xs : Nat → Int32) : zZs (ix196 L xs) := zZs_zsP (iz_ix195 L xs)
theorem ic_55 (L : Nat) (xs : Nat → Int32) : fX4_init_4 (ix193 L xs) 89 1 = some (ix196 L xs) := by
  refine zw_eq ?_
  unfold fX4_init_4
  refine zw_cm rfl ?_
  refine zw_lt (ix194 L xs) rfl ?_
  refine zw_lt (ix195 L xs) rfl ?_
  refine zw_cm rfl ?_
  refine zw_lt (ix196 L xs) rfl ?_
  exact zw_some.mpr rfl
def ix197 (L : Nat) (xs : Nat → Int32) : zH := zmk (ix196 L xs) (100, 16) 16
theorem iz_ix197 (L : Nat) (xs : Nat → Int32) : zZs (ix197 L xs) := zZs_zmk (iz_ix196 L xs)
def ix198 (L : Nat) (xs : Nat → Int32) : zH := zsP (ix197 L xs) 89 13 (some 91)
theorem iz_ix198 (L : Nat) (xs : Nat → Int32) : zZs (ix198 L xs) := zZs_zsP (iz_ix197 L xs)
theorem ic_56 (L : Nat) (xs : Nat → Int32) : fX6_init (ix192 L xs) 89 1 = some (ix198 L xs) := by
  refine zw_eq ?_
  unfold fX6_init
  refine zw_cm rfl ?_
  refine zw_lt (ix193 L xs) rfl ?_
  refine zw_bm (ic_55 L xs) ?_
  refine zw_lt (ix197 L xs) rfl ?_
  refine zw_cm rfl ?_
  refine zw_lt (ix198 L xs) rfl ?_
  exact zw_some.mpr rfl
def ix199 (L : Nat) (xs : Nat → Int32) : zH := zsP (ix198 L xs) 35 3 (some 89)
theorem iz_ix199 (L : Nat) (xs : Nat → Int32) : zZs (ix199 L xs) := zZs_zsP (iz_ix198 L xs)
theorem ic_57 (L : Nat) (xs : Nat → Int32) : fX0_init_L255 (ix181 L xs) 1 3 = some (.inl ((ix199 L xs), 4)) := by
  refine zw_eq ?_
  unfold fX0_init_L255
  rw [if_neg (by decide)]
  refine zw_bm (a := 33) rfl ?_
  refine zw_lt (ix182 L xs) rfl ?_
  refine zw_cm (zOb_of rfl (Nat.le_of_ble_eq_true rfl) (Nat.ne_of_gt (Nat.le_of_ble_eq_true rfl))) ?_
  refine zw_bm (ic_52 L xs) ?_
  refine zw_cm ⟨rfl, (Nat.ne_of_gt (Nat.le_of_ble_eq_true rfl))⟩ ?_
  refine zw_cm (show vp_in 3 4 from pk_in 3 4 (by decide)) ?_
  refine zw_cm rfl ?_
  refine zw_lt (ix183 L xs) rfl ?_
  refine zw_bm (a := 34) rfl ?_
  refine zw_lt (ix184 L xs) rfl ?_
  refine zw_cm (zOb_of rfl (Nat.le_of_ble_eq_true rfl) (Nat.ne_of_gt (Nat.le_of_ble_eq_true rfl))) ?_
  refine zw_bm (ic_54 L xs) ?_
  refine zw_cm ⟨rfl, (Nat.ne_of_gt (Nat.le_of_ble_eq_true rfl))⟩ ?_
  refine zw_cm (show vp_in 3 4 from pk_in 3 4 (by decide)) ?_
  refine zw_cm rfl ?_
  refine zw_lt (ix191 L xs) rfl ?_
  refine zw_bm (a := 35) rfl ?_
  refine zw_lt (ix192 L xs) rfl ?_
  refine zw_cm (zOb_of rfl (Nat.le_of_ble_eq_true rfl) (Nat.ne_of_gt (Nat.le_of_ble_eq_true rfl))) ?_
  refine zw_bm (ic_56 L xs) ?_
  refine zw_cm ⟨rfl, (Nat.ne_of_gt (Nat.le_of_ble_eq_true rfl))⟩ ?_
  refine zw_cm (show vp_in 3 4 from pk_in 3 4 (by decide)) ?_
  refine zw_cm rfl ?_
  refine zw_lt (ix199 L xs) rfl ?_
  exact zw_some.mpr rfl
theorem ic_58 (L : Nat) (xs : Nat → Int32) : zlp (fun s => fX0_init_L255 s.1 1 s.2) ((ix127 L xs), 0) = some (ix199 L xs) := by
  rw [zlp_eq]
  simp only [ic_39]
  rw [zlp_eq]
  simp only [ic_45]
  rw [zlp_eq]
  simp only [ic_51]
  rw [zlp_eq]
  simp only [ic_57]
  rw [zlp_eq]
  rfl
theorem ic_59 (L : Nat) (xs : Nat → Int32) : fX0_init (ix0 L xs) 1 = some (ix199 L xs) := by
  refine zw_eq ?_
  unfold fX0_init
  refine zw_lt (ix1 L xs) rfl ?_
  refine zw_cm (zOb_of rfl (Nat.le_of_ble_eq_true rfl) (Nat.ne_of_gt (Nat.le_of_ble_eq_true rfl))) ?_
  refine zw_bm (ic_1 L xs) ?_
  refine zw_cm rfl ?_
  refine zw_lt (ix2 L xs) rfl ?_
  refine zw_lt (ix3 L xs) rfl ?_
  refine zw_cm rfl ?_
  refine zw_lt (ix4 L xs) rfl ?_
  refine zw_lt (ix5 L xs) rfl ?_
  refine zw_cm (zOb_of rfl (Nat.le_of_ble_eq_true rfl) (Nat.ne_of_gt (Nat.le_of_ble_eq_true rfl))) ?_
  refine zw_bm (ic_3 L xs) ?_
  refine zw_lt (ix40 L xs) rfl ?_
  refine zw_lt (ix41 L xs) rfl ?_
  refine zw_cm rfl ?_
  refine zw_lt (ix42 L xs) rfl ?_
  refine zw_lt (ix43 L xs) rfl ?_
  refine zw_cm rfl ?_
  refine zw_lt (ix44 L xs) rfl ?_
  refine zw_lt (ix45 L xs) rfl ?_
  refine zw_cm ⟨(Nat.ne_of_gt (Nat.le_of_ble_eq_true rfl)), rfl, (show vp_in 0 2 from pk_in 0 2 (by decide))⟩ ?_
  refine zw_lt (ix46 L xs) rfl ?_
  refine zw_cm ⟨(Nat.ne_of_gt (Nat.le_of_ble_eq_true rfl)), rfl, (show vp_in 1 2 from pk_in 1 2 (by decide))⟩ ?_
  refine zw_lt (ix47 L xs) rfl ?_
  refine zw_cm rfl ?_
  refine zw_lt (ix48 L xs) rfl ?_
  refine zw_lt (ix49 L xs) rfl ?_
  refine zw_cm rfl ?_
  refine zw_lt (ix50 L xs) rfl ?_
  refine zw_lt (ix51 L xs) rfl ?_
  refine zw_cm rfl ?_
  refine zw_lt (ix52 L xs) rfl ?_
  refine zw_lt (ix53 L xs) rfl ?_
  refine zw_cm rfl ?_
  refine zw_lt (ix54 L xs) rfl ?_
  refine zw_lt (ix55 L xs) rfl ?_
  refine zw_cm rfl ?_
  refine zw_lt (ix56 L xs) rfl ?_
  refine zw_lt (ix57 L xs) rfl ?_
  refine zw_cm rfl ?_
  refine zw_lt (ix58 L xs) rfl ?_
  refine zw_lt (ix59 L xs) rfl ?_
  refine zw_cm rfl ?_
  refine zw_lt (ix60 L xs) rfl ?_
  refine zw_lt (ix61 L xs) rfl ?_
  refine zw_cm rfl ?_
  refine zw_lt (ix62 L xs) rfl ?_
  refine zw_lt (ix63 L xs) rfl ?_
  refine zw_cm (zOb_of rfl (Nat.le_of_ble_eq_true rfl) (Nat.ne_of_gt (Nat.le_of_ble_eq_true rfl))) ?_
  refine zw_bm (ic_5 L xs) ?_
  refine zw_cm rfl ?_
  refine zw_lt (ix70 L xs) rfl ?_
  refine zw_lt (ix71 L xs) rfl ?_
  refine zw_cm (zOb_of rfl (Nat.le_of_ble_eq_true rfl) (Nat.ne_of_gt (Nat.le_of_ble_eq_true rfl))) ?_
  refine zw_bm (ic_7 L xs) ?_
  refine zw_cm rfl ?_
  refine zw_lt (ix78 L xs) rfl ?_
  refine zw_lt (ix79 L xs) rfl ?_
  refine zw_cm (zOb_of rfl (Nat.le_of_ble_eq_true rfl) (Nat.ne_of_gt (Nat.le_of_ble_eq_true rfl))) ?_
  refine zw_bm (ic_8 L xs) ?_
  refine zw_lt (ix83 L xs) rfl ?_
  refine zw_lt (ix84 L xs) rfl ?_
  refine zw_cm (zOb_of rfl (Nat.le_of_ble_eq_true rfl) (Nat.ne_of_gt (Nat.le_of_ble_eq_true rfl))) ?_
  refine zw_bm (ic_9 L xs) ?_
  refine zw_lt (ix88 L xs) rfl ?_
  refine zw_lt (ix89 L xs) rfl ?_
  refine zw_cm (zOb_of rfl (Nat.le_of_ble_eq_true rfl) (Nat.ne_of_gt (Nat.le_of_ble_eq_true rfl))) ?_
  refine zw_bm (ic_10 L xs) ?_
  refine zw_cm rfl ?_
  refine zw_lt (ix93 L xs) rfl ?_
  refine zw_lt (ix94 L xs) rfl ?_
  refine zw_cm rfl ?_
  refine zw_lt (ix95 L xs) rfl ?_
  refine zw_lt (ix96 L xs) rfl ?_
  refine zw_cm (zOb_of rfl (Nat.le_of_ble_eq_true rfl) (Nat.ne_of_gt (Nat.le_of_ble_eq_true rfl))) ?_
  refine zw_bm (ic_11 L xs) ?_
  refine zw_cm rfl ?_
  refine zw_lt (ix100 L xs) rfl ?_
  refine zw_lt (ix101 L xs) rfl ?_
  refine zw_cm (zOb_of rfl (Nat.le_of_ble_eq_true rfl) (Nat.ne_of_gt (Nat.le_of_ble_eq_true rfl))) ?_
  refine zw_bm (ic_12 L xs) ?_
  refine zw_cm rfl ?_
  refine zw_lt (ix105 L xs) rfl ?_
  refine zw_lt (ix106 L xs) rfl ?_
  refine zw_cm rfl ?_
  refine zw_lt (ix107 L xs) rfl ?_
  refine zw_bm (ic_33 L xs) ?_
  exact zw_of (ic_58 L xs) rfl
def ix200 (L : Nat) (xs : Nat → Int32) : zH := zmk (ix199 L xs) (8, 0) 69
theorem iz_ix200 (L : Nat) (xs : Nat → Int32) : zZs (ix200 L xs) := zZs_zmk (iz_ix199 L xs)
def ix201 (L : Nat) (xs : Nat → Int32) : zH := zmk (ix200 L xs) (100, 11) 11
theorem iz_ix201 (L : Nat) (xs : Nat → Int32) : zZs (ix201 L xs) := zZs_zmk (iz_ix200 L xs)
def ix202 (L : Nat) (xs : Nat → Int32) : zH := zsP (ix201 L xs) 92 1 (some 93)
theorem iz_ix202 (L : Nat) (xs : Nat → Int32) : zZs (ix202 L xs) := zZs_zsP (iz_ix201 L xs)
def ix203 (L : Nat) (xs : Nat → Int32) : zH := zmk (ix202 L xs) (101, 11) 11
theorem iz_ix203 (L : Nat) (xs : Nat → Int32) : zZs (ix203 L xs) := zZs_zmk (iz_ix202 L xs)
def ix204 (L : Nat) (xs : Nat → Int32) : zH := zsP (ix203 L xs) 92 2 (some 94)
theorem iz_ix204 (L : Nat) (xs : Nat → Int32) : zZs (ix204 L xs) := zZs_zsP (iz_ix203 L xs)
def ix205 (L : Nat) (xs : Nat → Int32) : zH := zmk (ix204 L xs) (100, 11) 11
theorem iz_ix205 (L : Nat) (xs : Nat → Int32) : zZs (ix205 L xs) := zZs_zmk (iz_ix204 L xs)
def ix206 (L : Nat) (xs : Nat → Int32) : zH := zsP (ix205 L xs) 92 3 (some 95)
theorem iz_ix206 (L : Nat) (xs : Nat → Int32) : zZs (ix206 L xs) := zZs_zsP (iz_ix205 L xs)
def ix207 (L : Nat) (xs : Nat → Int32) : zH := zmk (ix206 L xs) (100, 11) 11
theorem iz_ix207 (L : Nat) (xs : Nat → Int32) : zZs (ix207 L xs) := zZs_zmk (iz_ix206 L xs)
def ix208 (L : Nat) (xs : Nat → Int32) : zH := zsP (ix207 L xs) 92 4 (some 96)
theorem iz_ix208 (L : Nat) (xs : Nat → Int32) : zZs (ix208 L xs) := zZs_zsP (iz_ix207 L xs)
def ix209 (L : Nat) (xs : Nat → Int32) : zH := zmk (ix208 L xs) (100, 1100) 1100
theorem iz_ix209 (L : Nat) (xs : Nat → Int32) : zZs (ix209 L xs) := zZs_zmk (iz_ix208 L xs)
def ix210 (L : Nat) (xs : Nat → Int32) : zH := zsP (ix209 L xs) 92 5 (some 97)
theorem iz_ix210 (L : Nat) (xs : Nat → Int32) : zZs (ix210 L xs) := zZs_zsP (iz_ix209 L xs)
def ix211 (L : Nat) (xs : Nat → Int32) : zH := zmk (ix210 L xs) (100, 1100) 1100
theorem iz_ix211 (L : Nat) (xs : Nat → Int32) : zZs (ix211 L xs) := zZs_zmk (iz_ix210 L xs)
def ix212 (L : Nat) (xs : Nat → Int32) : zH := zsP (ix211 L xs) 92 6 (some 98)
theorem iz_ix212 (L : Nat) (xs : Nat → Int32) : zZs (ix212 L xs) := zZs_zsP (iz_ix211 L xs)
def ix213 (L : Nat) (xs : Nat → Int32) : zH := zmk (ix212 L xs) (100, 1100) 1100
theorem iz_ix213 (L : Nat) (xs : Nat → Int32) : zZs (ix213 L xs) := zZs_zmk (iz_ix212 L xs)
def ix214 (L : Nat) (xs : Nat → Int32) : zH := zsP (ix213 L xs) 92 7 (some 99)
theorem iz_ix214 (L : Nat) (xs : Nat → Int32) : zZs (ix214 L xs) := zZs_zsP (iz_ix213 L xs)
def ix215 (L : Nat) (xs : Nat → Int32) : zH := zmk (ix214 L xs) (100, 1100) 1100
theorem iz_ix215 (L : Nat) (xs : Nat → Int32) : zZs (ix215 L xs) := zZs_zmk (iz_ix214 L xs)
def ix216 (L : Nat) (xs : Nat → Int32) : zH := zsP (ix215 L xs) 92 8 (some 100)
theorem iz_ix216 (L : Nat) (xs : Nat → Int32) : zZs (ix216 L xs) := zZs_zsP (iz_ix215 L xs)
def ix217 (L : Nat) (xs : Nat → Int32) : zH := zmk (ix216 L xs) (101, 1100) 1100
theorem iz_ix217 (L : Nat) (xs : Nat → Int32) : zZs (ix217 L xs) := zZs_zmk (iz_ix216 L xs)
def ix218 (L : Nat) (xs : Nat → Int32) : zH := zsP (ix217 L xs) 92 9 (some 101)
theorem iz_ix218 (L : Nat) (xs : Nat → Int32) : zZs (ix218 L xs) := zZs_zsP (iz_ix217 L xs)
def ix219 (L : Nat) (xs : Nat → Int32) : zH := zmk (ix218 L xs) (100, 110) 110
theorem iz_ix219 (L : Nat) (xs : Nat → Int32) : zZs (ix219 L xs) := zZs_zmk (iz_ix218 L xs)
def ix220 (L : Nat) (xs : Nat → Int32) : zH := zsP (ix219 L xs) 92 10 (some 102)
theorem iz_ix220 (L : Nat) (xs : Nat → Int32) : zZs (ix220 L xs) := zZs_zsP (iz_ix219 L xs)
def ix221 (L : Nat) (xs : Nat → Int32) : zH := zmk (ix220 L xs) (100, 110) 110
theorem iz_ix221 (L : Nat) (xs : Nat → Int32) : zZs (ix221 L xs) := zZs_zmk (iz_ix220 L xs)
def ix222 (L : Nat) (xs : Nat → Int32) : zH := zsP (ix221 L xs) 92 11 (some 103)
theorem iz_ix222 (L : Nat) (xs : Nat → Int32) : zZs (ix222 L xs) := zZs_zsP (iz_ix221 L xs)
def ix223 (L : Nat) (xs : Nat → Int32) : zH := zmk (ix222 L xs) (100, 110) 110
theorem iz_ix223 (L : Nat) (xs : Nat → Int32) : zZs (ix223 L xs) := zZs_zmk (iz_ix222 L xs)
def ix224 (L : Nat) (xs : Nat → Int32) : zH := zsP (ix223 L xs) 92 12 (some 104)
theorem iz_ix224 (L : Nat) (xs : Nat → Int32) : zZs (ix224 L xs) := zZs_zsP (iz_ix223 L xs)
def ix225 (L : Nat) (xs : Nat → Int32) : zH := zmk (ix224 L xs) (101, 110) 110
theorem iz_ix225 (L : Nat) (xs : Nat → Int32) : zZs (ix225 L xs) := zZs_zmk (iz_ix224 L xs)
def ix226 (L : Nat) (xs : Nat → Int32) : zH := zsP (ix225 L xs) 92 13 (some 105)
theorem iz_ix226 (L : Nat) (xs : Nat → Int32) : zZs (ix226 L xs) := zZs_zsP (iz_ix225 L xs)
def ix227 (L : Nat) (xs : Nat → Int32) : zH := zmk (ix226 L xs) (100, 1000) 1000
theorem iz_ix227 (L : Nat) (xs : Nat → Int32) : zZs (ix227 L xs) := zZs_zmk (iz_ix226 L xs)
def ix228 (L : Nat) (xs : Nat → Int32) : zH := zsP (ix227 L xs) 92 15 (some 106)
theorem iz_ix228 (L : Nat) (xs : Nat → Int32) : zZs (ix228 L xs) := zZs_zsP (iz_ix227 L xs)
def ix229 (L : Nat) (xs : Nat → Int32) : zH := zmk (ix228 L xs) (100, 1000) 1000
theorem iz_ix229 (L : Nat) (xs : Nat → Int32) : zZs (ix229 L xs) := zZs_zmk (iz_ix228 L xs)
def ix230 (L : Nat) (xs : Nat → Int32) : zH := zsP (ix229 L xs) 92 17 (some 107)
theorem iz_ix230 (L : Nat) (xs : Nat → Int32) : zZs (ix230 L xs) := zZs_zsP (iz_ix229 L xs)
def ix231 (L : Nat) (xs : Nat → Int32) : zH := zmk (ix230 L xs) (100, 6000) 6000
theorem iz_ix231 (L : Nat) (xs : Nat → Int32) : zZs (ix231 L xs) := zZs_zmk (iz_ix230 L xs)
def ix232 (L : Nat) (xs : Nat → Int32) : zH := zsP (ix231 L xs) 92 20 (some 108)
theorem iz_ix232 (L : Nat) (xs : Nat → Int32) : zZs (ix232 L xs) := zZs_zsP (iz_ix231 L xs)
def ix233 (L : Nat) (xs : Nat → Int32) : zH := zmk (ix232 L xs) (100, 2) 2
theorem iz_ix233 (L : Nat) (xs : Nat → Int32) : zZs (ix233 L xs) := zZs_zmk (iz_ix232 L xs)
def ix234 (L : Nat) (xs : Nat → Int32) : zH := zsI (ix233 L xs) 109 0 65533
theorem iz_ix234 (L : Nat) (xs : Nat → Int32) : zZs (ix234 L xs) := zZs_zsI (iz_ix233 L xs) (by decide)
def ix235 (L : Nat) (xs : Nat → Int32) : zH := zsI (ix234 L xs) 109 1 63
theorem iz_ix235 (L : Nat) (xs : Nat → Int32) : zZs (ix235 L xs) := zZs_zsI (iz_ix234 L xs) (by decide)
def ix236 (L : Nat) (xs : Nat → Int32) : zH := zsP (ix235 L xs) 92 21 (some 109)
theorem iz_ix236 (L : Nat) (xs : Nat → Int32) : zZs (ix236 L xs) := zZs_zsP (iz_ix235 L xs)
def ix237 (L : Nat) (xs : Nat → Int32) : zH := zmk (ix236 L xs) (100, 3) 3
theorem iz_ix237 (L : Nat) (xs : Nat → Int32) : zZs (ix237 L xs) := zZs_zmk (iz_ix236 L xs)
def ix238 (L : Nat) (xs : Nat → Int32) : zH := zsP (ix237 L xs) 92 23 (some 110)
theorem iz_ix238 (L : Nat) (xs : Nat → Int32) : zZs (ix238 L xs) := zZs_zsP (iz_ix237 L xs)
def ix239 (L : Nat) (xs : Nat → Int32) : zH := zmk (ix238 L xs) (100, 40) 40
theorem iz_ix239 (L : Nat) (xs : Nat → Int32) : zZs (ix239 L xs) := zZs_zmk (iz_ix238 L xs)
def ix240 (L : Nat) (xs : Nat → Int32) : zH := zsP (ix239 L xs) 92 26 (some 111)
theorem iz_ix240 (L : Nat) (xs : Nat → Int32) : zZs (ix240 L xs) := zZs_zsP (iz_ix239 L xs)
def ix241 (L : Nat) (xs : Nat → Int32) : zH := zmk (ix240 L xs) (100, 40) 40
theorem iz_ix241 (L : Nat) (xs : Nat → Int32) : zZs (ix241 L xs) := zZs_zmk (iz_ix240 L xs)
def ix242 (L : Nat) (xs : Nat → Int32) : zH := zsP (ix241 L xs) 92 27 (some 112)
theorem iz_ix242 (L : Nat) (xs : Nat → Int32) : zZs (ix242 L xs) := zZs_zsP (iz_ix241 L xs)
def ix243 (L : Nat) (xs : Nat → Int32) : zH := zmk (ix242 L xs) (100, 160) 160
theorem iz_ix243 (L : Nat) (xs : Nat → Int32) : zZs (ix243 L xs) := zZs_zmk (iz_ix242 L xs)
def ix244 (L : Nat) (xs : Nat → Int32) : zH := zsP (ix243 L xs) 92 28 (some 113)
theorem iz_ix244 (L : Nat) (xs : Nat → Int32) : zZs (ix244 L xs) := zZs_zsP (iz_ix243 L xs)
def ix245 (L : Nat) (xs : Nat → Int32) : zH := zmk (ix244 L xs) (101, 4) 4
theorem iz_ix245 (L : Nat) (xs : Nat → Int32) : zZs (ix245 L xs) := zZs_zmk (iz_ix244 L xs)
def ix246 (L : Nat) (xs : Nat → Int32) : zH := zsP (ix245 L xs) 92 29 (some 114)
theorem iz_ix246 (L : Nat) (xs : Nat → Int32) : zZs (ix246 L xs) := zZs_zsP (iz_ix245 L xs)
def ix247 (L : Nat) (xs : Nat → Int32) : zH := zmk (ix246 L xs) (100, 3) 3
theorem iz_ix247 (L : Nat) (xs : Nat → Int32) : zZs (ix247 L xs) := zZs_zmk (iz_ix246 L xs)
def ix248 (L : Nat) (xs : Nat → Int32) : zH := zsP (ix247 L xs) 92 30 (some 115)
theorem iz_ix248 (L : Nat) (xs : Nat → Int32) : zZs (ix248 L xs) := zZs_zsP (iz_ix247 L xs)
def ix249 (L : Nat) (xs : Nat → Int32) : zH := zmk (ix248 L xs) (100, 4) 4
theorem iz_ix249 (L : Nat) (xs : Nat → Int32) : zZs (ix249 L xs) := zZs_zmk (iz_ix248 L xs)
def ix250 (L : Nat) (xs : Nat → Int32) : zH := zsP (ix249 L xs) 92 33 (some 116)
theorem iz_ix250 (L : Nat) (xs : Nat → Int32) : zZs (ix250 L xs) := zZs_zsP (iz_ix249 L xs)
def ix251 (L : Nat) (xs : Nat → Int32) : zH := zmk (ix250 L xs) (100, 4000) 4000
theorem iz_ix251 (L : Nat) (xs : Nat → Int32) : zZs (ix251 L xs) := zZs_zmk (iz_ix250 L xs)
def ix252 (L : Nat) (xs : Nat → Int32) : zH := zsP (ix251 L xs) 92 43 (some 117)
theorem iz_ix252 (L : Nat) (xs : Nat → Int32) : zZs (ix252 L xs) := zZs_zsP (iz_ix251 L xs)
def ix253 (L : Nat) (xs : Nat → Int32) : zH := zmk (ix252 L xs) (100, 4000) 4000
theorem iz_ix253 (L : Nat) (xs : Nat → Int32) : zZs (ix253 L xs) := zZs_zmk (iz_ix252 L xs)
def ix254 (L : Nat) (xs : Nat → Int32) : zH := zsP (ix253 L xs) 92 44 (some 118)
theorem iz_ix254 (L : Nat) (xs : Nat → Int32) : zZs (ix254 L xs) := zZs_zsP (iz_ix253 L xs)
def ix255 (L : Nat) (xs : Nat → Int32) : zH := zmk (ix254 L xs) (100, 6400) 6400
theorem iz_ix255 (L : Nat) (xs : Nat → Int32) : zZs (ix255 L xs) := zZs_zmk (iz_ix254 L xs)
def ix256 (L : Nat) (xs : Nat → Int32) : zH := zsP (ix255 L xs) 92 45 (some 119)
theorem iz_ix256 (L : Nat) (xs : Nat → Int32) : zZs (ix256 L xs) := zZs_zsP (iz_ix255 L xs)
def ix257 (L : Nat) (xs : Nat → Int32) : zH := zmk (ix256 L xs) (100, 8) 8
theorem iz_ix257 (L : Nat) (xs : Nat → Int32) : zZs (ix257 L xs) := zZs_zmk (iz_ix256 L xs)
def ix258 (L : Nat) (xs : Nat → Int32) : zH := zsP (ix257 L xs) 92 46 (some 120)
theorem iz_ix258 (L : Nat) (xs : Nat → Int32) : zZs (ix258 L xs) := zZs_zsP (iz_ix257 L xs)
def ix259 (L : Nat) (xs : Nat → Int32) : zH := zmk (ix258 L xs) (100, 1000) 1000
theorem iz_ix259 (L : Nat) (xs : Nat → Int32) : zZs (ix259 L xs) := zZs_zmk (iz_ix258 L xs)
def ix260 (L : Nat) (xs : Nat → Int32) : zH := zsP (ix259 L xs) 92 49 (some 121)
theorem iz_ix260 (L : Nat) (xs : Nat → Int32) : zZs (ix260 L xs) := zZs_zsP (iz_ix259 L xs)
def ix261 (L : Nat) (xs : Nat → Int32) : zH := zmk (ix260 L xs) (100, 40) 40
theorem iz_ix261 (L : Nat) (xs : Nat → Int32) : zZs (ix261 L xs) := zZs_zmk (iz_ix260 L xs)
def ix262 (L : Nat) (xs : Nat → Int32) : zH := zsP (ix261 L xs) 92 50 (some 122)
theorem iz_ix262 (L : Nat) (xs : Nat → Int32) : zZs (ix262 L xs) := zZs_zsP (iz_ix261 L xs)
def ix263 (L : Nat) (xs : Nat → Int32) : zH := zmk (ix262 L xs) (100, 40) 40
theorem iz_ix263 (L : Nat) (xs : Nat → Int32) : zZs (ix263 L xs) := zZs_zmk (iz_ix262 L xs)
def ix264 (L : Nat) (xs : Nat → Int32) : zH := zsP (ix263 L xs) 92 51 (some 123)
theorem iz_ix264 (L : Nat) (xs : Nat → Int32) : zZs (ix264 L xs) := zZs_zsP (iz_ix263 L xs)
def ix265 (L : Nat) (xs : Nat → Int32) : zH := zmk (ix264 L xs) (101, 4) 4
theorem iz_ix265 (L : Nat) (xs : Nat → Int32) : zZs (ix265 L xs) := zZs_zmk (iz_ix264 L xs)
def ix266 (L : Nat) (xs : Nat → Int32) : zH := zsP (ix265 L xs) 92 52 (some 124)
theorem iz_ix266 (L : Nat) (xs : Nat → Int32) : zZs (ix266 L xs) := zZs_zsP (iz_ix265 L xs)
def ix267 (L : Nat) (xs : Nat → Int32) : zH := zmk (ix266 L xs) (100, 4) 4
theorem iz_ix267 (L : Nat) (xs : Nat → Int32) : zZs (ix267 L xs) := zZs_zmk (iz_ix266 L xs)
def ix268 (L : Nat) (xs : Nat → Int32) : zH := zsP (ix267 L xs) 92 53 (some 125)
theorem iz_ix268 (L : Nat) (xs : Nat → Int32) : zZs (ix268 L xs) := zZs_zsP (iz_ix267 L xs)
def ix269 (L : Nat) (xs : Nat → Int32) : zH := zmk (ix268 L xs) (101, 4) 4
theorem iz_ix269 (L : Nat) (xs : Nat → Int32) : zZs (ix269 L xs) := zZs_zmk (iz_ix268 L xs)
def ix270 (L : Nat) (xs : Nat → Int32) : zH := zsP (ix269 L xs) 92 54 (some 126)
theorem iz_ix270 (L : Nat) (xs : Nat → Int32) : zZs (ix270 L xs) := zZs_zsP (iz_ix269 L xs)
def ix271 (L : Nat) (xs : Nat → Int32) : zH := zmk (ix270 L xs) (100, 4) 4
theorem iz_ix271 (L : Nat) (xs : Nat → Int32) : zZs (ix271 L xs) := zZs_zmk (iz_ix270 L xs)
def ix272 (L : Nat) (xs : Nat → Int32) : zH := zsP (ix271 L xs) 92 55 (some 127)
theorem iz_ix272 (L : Nat) (xs : Nat → Int32) : zZs (ix272 L xs) := zZs_zsP (iz_ix271 L xs)
def ix273 (L : Nat) (xs : Nat → Int32) : zH := zmk (ix272 L xs) (100, 4) 4
theorem iz_ix273 (L : Nat) (xs : Nat → Int32) : zZs (ix273 L xs) := zZs_zmk (iz_ix272 L xs)
def ix274 (L : Nat) (xs : Nat → Int32) : zH := zsP (ix273 L xs) 92 56 (some 128)
theorem iz_ix274 (L : Nat) (xs : Nat → Int32) : zZs (ix274 L xs) := zZs_zsP (iz_ix273 L xs)
def ix275 (L : Nat) (xs : Nat → Int32) : zH := zmk (ix274 L xs) (100, 4) 4
theorem iz_ix275 (L : Nat) (xs : Nat → Int32) : zZs (ix275 L xs) := zZs_zmk (iz_ix274 L xs)
def ix276 (L : Nat) (xs : Nat → Int32) : zH := zsP (ix275 L xs) 92 57 (some 129)
theorem iz_ix276 (L : Nat) (xs : Nat → Int32) : zZs (ix276 L xs) := zZs_zsP (iz_ix275 L xs)
def ix277 (L : Nat) (xs : Nat → Int32) : zH := zmk (ix276 L xs) (100, 4) 4
theorem iz_ix277 (L : Nat) (xs : Nat → Int32) : zZs (ix277 L xs) := zZs_zmk (iz_ix276 L xs)
def ix278 (L : Nat) (xs : Nat → Int32) : zH := zsP (ix277 L xs) 92 58 (some 130)
theorem iz_ix278 (L : Nat) (xs : Nat → Int32) : zZs (ix278 L xs) := zZs_zsP (iz_ix277 L xs)
def ix279 (L : Nat) (xs : Nat → Int32) : zH := zmk (ix278 L xs) (100, 32) 32
theorem iz_ix279 (L : Nat) (xs : Nat → Int32) : zZs (ix279 L xs) := zZs_zmk (iz_ix278 L xs)
def ix280 (L : Nat) (xs : Nat → Int32) : zH := zsP (ix279 L xs) 92 59 (some 131)
theorem iz_ix280 (L : Nat) (xs : Nat → Int32) : zZs (ix280 L xs) := zZs_zsP (iz_ix279 L xs)
def ix281 (L : Nat) (xs : Nat → Int32) : zH := zmk (ix280 L xs) (100, 4) 4
theorem iz_ix281 (L : Nat) (xs : Nat → Int32) : zZs (ix281 L xs) := zZs_zmk (iz_ix280 L xs)
def ix282 (L : Nat) (xs : Nat → Int32) : zH := zsP (ix281 L xs) 92 60 (some 132)
theorem iz_ix282 (L : Nat) (xs : Nat → Int32) : zZs (ix282 L xs) := zZs_zsP (iz_ix281 L xs)
def ix283 (L : Nat) (xs : Nat → Int32) : zH := zmk (ix282 L xs) (100, 4) 4
theorem iz_ix283 (L : Nat) (xs : Nat → Int32) : zZs (ix283 L xs) := zZs_zmk (iz_ix282 L xs)
def ix284 (L : Nat) (xs : Nat → Int32) : zH := zsP (ix283 L xs) 92 61 (some 133)
theorem iz_ix284 (L : Nat) (xs : Nat → Int32) : zZs (ix284 L xs) := zZs_zsP (iz_ix283 L xs)
def ix285 (L : Nat) (xs : Nat → Int32) : zH := zmk (ix284 L xs) (100, 4) 4
theorem iz_ix285 (L : Nat) (xs : Nat → Int32) : zZs (ix285 L xs) := zZs_zmk (iz_ix284 L xs)
def ix286 (L : Nat) (xs : Nat → Int32) : zH := zsP (ix285 L xs) 92 62 (some 134)
theorem iz_ix286 (L : Nat) (xs : Nat → Int32) : zZs (ix286 L xs) := zZs_zsP (iz_ix285 L xs)
def ix287 (L : Nat) (xs : Nat → Int32) : zH := zmk (ix286 L xs) (100, 4800) 4800
theorem iz_ix287 (L : Nat) (xs : Nat → Int32) : zZs (ix287 L xs) := zZs_zmk (iz_ix286 L xs)
def ix288 (L : Nat) (xs : Nat → Int32) : zH := zsP (ix287 L xs) 92 63 (some 135)
theorem iz_ix288 (L : Nat) (xs : Nat → Int32) : zZs (ix288 L xs) := zZs_zsP (iz_ix287 L xs)
def ix289 (L : Nat) (xs : Nat → Int32) : zH := zmk (ix288 L xs) (100, 8) 8
theorem iz_ix289 (L : Nat) (xs : Nat → Int32) : zZs (ix289 L xs) := zZs_zmk (iz_ix288 L xs)
def ix290 (L : Nat) (xs : Nat → Int32) : zH := zsP (ix289 L xs) 92 64 (some 136)
theorem iz_ix290 (L : Nat) (xs : Nat → Int32) : zZs (ix290 L xs) := zZs_zsP (iz_ix289 L xs)
def ix291 (L : Nat) (xs : Nat → Int32) : zH := zmk (ix290 L xs) (100, 1200) 1200
theorem iz_ix291 (L : Nat) (xs : Nat → Int32) : zZs (ix291 L xs) := zZs_zmk (iz_ix290 L xs)
def ix292 (L : Nat) (xs : Nat → Int32) : zH := zsP (ix291 L xs) 92 65 (some 137)
theorem iz_ix292 (L : Nat) (xs : Nat → Int32) : zZs (ix292 L xs) := zZs_zsP (iz_ix291 L xs)
def ix293 (L : Nat) (xs : Nat → Int32) : zH := zmk (ix292 L xs) (100, 64) 64
theorem iz_ix293 (L : Nat) (xs : Nat → Int32) : zZs (ix293 L xs) := zZs_zmk (iz_ix292 L xs)
def ix294 (L : Nat) (xs : Nat → Int32) : zH := zsP (ix293 L xs) 92 66 (some 138)
theorem iz_ix294 (L : Nat) (xs : Nat → Int32) : zZs (ix294 L xs) := zZs_zsP (iz_ix293 L xs)
theorem ic_60 (L : Nat) (xs : Nat → Int32) : fX9_init (ix200 L xs) 92 = some (ix294 L xs) := by
  refine zw_eq ?_
  unfold fX9_init
  refine zw_lt (ix201 L xs) rfl ?_
  refine zw_cm rfl ?_
  refine zw_lt (ix202 L xs) rfl ?_
  refine zw_lt (ix203 L xs) rfl ?_
  refine zw_cm rfl ?_
  refine zw_lt (ix204 L xs) rfl ?_
  refine zw_lt (ix205 L xs) rfl ?_
  refine zw_cm rfl ?_
  refine zw_lt (ix206 L xs) rfl ?_
  refine zw_lt (ix207 L xs) rfl ?_
  refine zw_cm rfl ?_
  refine zw_lt (ix208 L xs) rfl ?_
  refine zw_lt (ix209 L xs) rfl ?_
  refine zw_cm rfl ?_
  refine zw_lt (ix210 L xs) rfl ?_
  refine zw_lt (ix211 L xs) rfl ?_
  refine zw_cm rfl ?_
  refine zw_lt (ix212 L xs) rfl ?_
  refine zw_lt (ix213 L xs) rfl ?_
  refine zw_cm rfl ?_
  refine zw_lt (ix214 L xs) rfl ?_
  refine zw_lt (ix215 L xs) rfl ?_
  refine zw_cm rfl ?_
  refine zw_lt (ix216 L xs) rfl ?_
  refine zw_lt (ix217 L xs) rfl ?_
  refine zw_cm rfl ?_
  refine zw_lt (ix218 L xs) rfl ?_
  refine zw_lt (ix219 L xs) rfl ?_
  refine zw_cm rfl ?_
  refine zw_lt (ix220 L xs) rfl ?_
  refine zw_lt (ix221 L xs) rfl ?_
  refine zw_cm rfl ?_
  refine zw_lt (ix222 L xs) rfl ?_
  refine zw_lt (ix223 L xs) rfl ?_
  refine zw_cm rfl ?_
  refine zw_lt (ix224 L xs) rfl ?_
  refine zw_lt (ix225 L xs) rfl ?_
  refine zw_cm rfl ?_
  refine zw_lt (ix226 L xs) rfl ?_
  refine zw_lt (ix227 L xs) rfl ?_
  refine zw_cm rfl ?_
  refine zw_lt (ix228 L xs) rfl ?_
  refine zw_lt (ix229 L xs) rfl ?_
  refine zw_cm rfl ?_
  refine zw_lt (ix230 L xs) rfl ?_
  refine zw_lt (ix231 L xs) rfl ?_
  refine zw_cm rfl ?_
  refine zw_lt (ix232 L xs) rfl ?_
  refine zw_lt (ix233 L xs) rfl ?_
  refine zw_cm ⟨(Nat.ne_of_gt (Nat.le_of_ble_eq_true rfl)), rfl, (show vp_in 0 2 from pk_in 0 2 (by decide))⟩ ?_
  refine zw_lt (ix234 L xs) rfl ?_
  refine zw_cm ⟨(Nat.ne_of_gt (Nat.le_of_ble_eq_true rfl)), rfl, (show vp_in 1 2 from pk_in 1 2 (by decide))⟩ ?_
  refine zw_lt (ix235 L xs) rfl ?_
  refine zw_cm rfl ?_
  refine zw_lt (ix236 L xs) rfl ?_
  refine zw_lt (ix237 L xs) rfl ?_
  refine zw_cm rfl ?_
  refine zw_lt (ix238 L xs) rfl ?_
  refine zw_lt (ix239 L xs) rfl ?_
  refine zw_cm rfl ?_
  refine zw_lt (ix240 L xs) rfl ?_
  refine zw_lt (ix241 L xs) rfl ?_
  refine zw_cm rfl ?_
  refine zw_lt (ix242 L xs) rfl ?_
  refine zw_lt (ix243 L xs) rfl ?_
  refine zw_cm rfl ?_
  refine zw_lt (ix244 L xs) rfl ?_
  refine zw_lt (ix245 L xs) rfl ?_
  refine zw_cm rfl ?_
  refine zw_lt (ix246 L xs) rfl ?_
  refine zw_lt (ix247 L xs) rfl ?_
  refine zw_cm rfl ?_
  refine zw_lt (ix248 L xs) rfl ?_
  refine zw_lt (ix249 L xs) rfl ?_
  refine zw_cm rfl ?_
  refine zw_lt (ix250 L xs) rfl ?_
  refine zw_lt (ix251 L xs) rfl ?_
  refine zw_cm rfl ?_
  refine zw_lt (ix252 L xs) rfl ?_
  refine zw_lt (ix253 L xs) rfl ?_
  refine zw_cm rfl ?_
  refine zw_lt (ix254 L xs) rfl ?_
  refine zw_lt (ix255 L xs) rfl ?_
  refine zw_cm rfl ?_
  refine zw_lt (ix256 L xs) rfl ?_
  refine zw_lt (ix257 L xs) rfl ?_
  refine zw_cm rfl ?_
  refine zw_lt (ix258 L xs) rfl ?_
  refine zw_lt (ix259 L xs) rfl ?_
  refine zw_cm rfl ?_
  refine zw_lt (ix260 L xs) rfl ?_
  refine zw_lt (ix261 L xs) rfl ?_
  refine zw_cm rfl ?_
  refine zw_lt (ix262 L xs) rfl ?_
  refine zw_lt (ix263 L xs) rfl ?_
  refine zw_cm rfl ?_
  refine zw_lt (ix264 L xs) rfl ?_
  refine zw_lt (ix265 L xs) rfl ?_
  refine zw_cm rfl ?_
  refine zw_lt (ix266 L xs) rfl ?_
  refine zw_lt (ix267 L xs) rfl ?_
  refine zw_cm rfl ?_
  refine zw_lt (ix268 L xs) rfl ?_
  refine zw_lt (ix269 L xs) rfl ?_
  refine zw_cm rfl ?_
  refine zw_lt (ix270 L xs) rfl ?_
  refine zw_lt (ix271 L xs) rfl ?_
  refine zw_cm rfl ?_
  refine zw_lt (ix272 L xs) rfl ?_
  refine zw_lt (ix273 L xs) rfl ?_
  refine zw_cm rfl ?_
  refine zw_lt (ix274 L xs) rfl ?_
  refine zw_lt (ix275 L xs) rfl ?_
  refine zw_cm rfl ?_
  refine zw_lt (ix276 L xs) rfl ?_
  refine zw_lt (ix277 L xs) rfl ?_
  refine zw_cm rfl ?_
  refine zw_lt (ix278 L xs) rfl ?_
  refine zw_lt (ix279 L xs) rfl ?_
  refine zw_cm rfl ?_
  refine zw_lt (ix280 L xs) rfl ?_
  refine zw_lt (ix281 L xs) rfl ?_
  refine zw_cm rfl ?_
  refine zw_lt (ix282 L xs) rfl ?_
  refine zw_lt (ix283 L xs) rfl ?_
  refine zw_cm rfl ?_
  refine zw_lt (ix284 L xs) rfl ?_
  refine zw_lt (ix285 L xs) rfl ?_
  refine zw_cm rfl ?_
  refine zw_lt (ix286 L xs) rfl ?_
  refine zw_lt (ix287 L xs) rfl ?_
  refine zw_cm rfl ?_
  refine zw_lt (ix288 L xs) rfl ?_
  refine zw_lt (ix289 L xs) rfl ?_
  refine zw_cm rfl ?_
  refine zw_lt (ix290 L xs) rfl ?_
  refine zw_lt (ix291 L xs) rfl ?_
  refine zw_cm rfl ?_
  refine zw_lt (ix292 L xs) rfl ?_
  refine zw_lt (ix293 L xs) rfl ?_
  refine zw_cm rfl ?_
  refine zw_lt (ix294 L xs) rfl ?_
  exact zw_some.mpr rfl
