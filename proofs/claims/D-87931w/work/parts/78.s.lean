/-! byte texts of points: longs, the model's find and code (l_shl, l_shr: rows of laws/BITS turned) -/
set_option maxRecDepth 100000
theorem l_shl (n : Nat) {k : Nat} (hk : k < 64) : lN n <<< ((nI k).toInt64 &&& 63) = lN (n * 2 ^ k) := by
  have c : ∀ k, k < 64 → ((nI k).toInt64 &&& 63) = lN k := by decide +kernel
  have s : ∀ k, k < 64 → (BitVec.ofNat 64 k).smod 64 = BitVec.ofNat 64 k := by decide +kernel
  have tb : ∀ n, (lN n).toBitVec = BitVec.ofNat 64 n := fun _ => rfl
  rw [c k hk]
  apply Int64.toBitVec_inj.mp
  rw [Int64.toBitVec_shiftLeft, tb, tb, tb, s k hk]
  apply BitVec.eq_of_toNat_eq
  rw [BitVec.shiftLeft_eq', BitVec.toNat_shiftLeft, BitVec.toNat_ofNat, BitVec.toNat_ofNat, BitVec.toNat_ofNat, Nat.mod_eq_of_lt (show k < 2 ^ 64 by omega), Nat.shiftLeft_eq, Nat.mul_mod, Nat.mod_mod, ← Nat.mul_mod]
theorem l_shr {a k : Nat} (hk : k < 64) (h : a < 2 ^ 62) : lN a >>> ((nI k).toInt64 &&& 63) = lN (a / 2 ^ k) := by
  have c : ∀ k, k < 64 → (((nI k).toInt64 &&& 63).toBitVec.smod 64).toNat = k := by decide +kernel
  have hd : a / 2 ^ k ≤ a := Nat.div_le_self _ _
  apply Int64.toInt_inj.mp
  have gen : ∀ (D : Int64) (d : Nat), (D.toBitVec.smod 64).toNat = d → (lN a >>> D).toInt = (lN a).toInt >>> d := fun D d hD => by
    rw [← hD]
    exact BitVec.toInt_sshiftRight ..
  rw [gen _ k (c k hk), Int.shiftRight_eq_div_pow, pk_lT (by omega), pk_lT (by omega)]
  rfl
theorem l_255 {a : Nat} (h : a < 2 ^ 62) : (lN a &&& 255).toInt32 = nI (a % 256) := by
  rw [l_byte]
  show nI ((BitVec.ofNat 64 a).toNat % 2 ^ 8) = _
  rw [BitVec.toNat_ofNat, Nat.mod_eq_of_lt (show a < 2 ^ 64 by omega)]
/-- a byte of a long text -/
theorem l_at {v n k : Nat} (hv : v < 2 ^ 62) (hn : n ≤ 8) (hk : k < n) : ((lN v >>> (((8 : Int32) * ((nI n - 1) - nI k)).toInt64 &&& 63)) &&& 255).toInt32 = nI (v / 2 ^ (8 * (n - 1 - k)) % 256) := by
  rw [show (1 : Int32) = nI 1 from rfl, pk_sub (by omega), pk_sub (by omega), show (8 : Int32) = nI 8 from rfl, pk_mul, l_shr (by omega) hv, l_255 (by have := Nat.div_le_self v (2 ^ (8 * (n - 1 - k))); omega)]
def fN (pt : Nat) : Nat := if pt < 128 then 1 else if pt < 2048 then 2 else if pt < 65536 then 3 else 4
def fV (pt : Nat) : Nat := if pt < 128 then pt else if pt < 2048 then (192 + pt / 64) * 256 + (128 + pt % 64) else if pt < 65536 then ((224 + pt / 4096) * 256 + (128 + pt / 64 % 64)) * 256 + (128 + pt % 64) else (((240 + pt / 262144) * 256 + (128 + pt / 4096 % 64)) * 256 + (128 + pt / 64 % 64)) * 256 + (128 + pt % 64)
def uHi (pt : Nat) : Nat := 55296 + (pt - 65536) / 1024
def uLo (pt : Nat) : Nat := 56320 + (pt - 65536) % 1024
def tu (u : Nat) : Nat := u % 256 * 256 + u / 256
def gPr (g : gP) (pt : Nat) : Nat := ff (fun k => g 7 k == pt && g 8 k == 1) (g 2 0)
/-- the preferred byte text of a point: state, how many bytes, these -/
def gCd (g : gP) (pt : Nat) : Option (Nat × Nat × Nat) := if g 0 0 = 1 then (if pt < 65536 then some (0, 2, pt) else some (0, 4, uHi pt * 65536 + uLo pt)) else if g 0 0 = 2 then (if pt < 65536 then some (0, 2, tu pt) else some (0, 4, tu (uHi pt) * 65536 + tu (uLo pt))) else if g 0 0 = 3 then some (0, fN pt, fV pt) else if gPr g pt < g 2 0 then some (g 4 (gPr g pt), g 5 (gPr g pt), g 6 (gPr g pt)) else none
theorem tu_lt {u : Nat} (h : u < 65536) : tu u < 65536 := by unfold tu; omega
theorem uHL {pt : Nat} (h1 : 65536 ≤ pt) (h : pt ≤ 1114111) : uHi pt < 65536 ∧ uLo pt < 65536 := by unfold uHi uLo; omega
theorem fV_lt {pt : Nat} (h : pt ≤ 1114111) : fV pt < 2 ^ (8 * fN pt) := by
  unfold fV fN
  (repeat' split) <;> simp only [Nat.reduceMul, Nat.reducePow] <;> omega
theorem gCd_wf {g : gP} {pt : Nat} {q : Nat × Nat × Nat} (sm : gSm g) (hp : pt ≤ 1114111) (h : gCd g pt = some q) : q.1 < 4 ∧ 1 ≤ q.2.1 ∧ q.2.1 ≤ 4 ∧ q.2.2 < 2 ^ (8 * q.2.1) ∧ q.2.2 < 2 ^ 32 := by
  have key : q.1 < 4 ∧ 1 ≤ q.2.1 ∧ q.2.1 ≤ 4 ∧ q.2.2 < 2 ^ (8 * q.2.1) := by
    unfold gCd at h
    split at h
    · split at h
      · cases h; refine ⟨by show 0 < 4; omega, by show 1 ≤ 2; omega, by show 2 ≤ 4; omega, ?_⟩
        show pt < 2 ^ 16; omega
      · have := uHL (by omega) hp
        cases h; refine ⟨by show 0 < 4; omega, by show 1 ≤ 4; omega, by show 4 ≤ 4; omega, ?_⟩
        show uHi pt * 65536 + uLo pt < 2 ^ 32; omega
    · split at h
      · split at h
        · have := tu_lt (u := pt) (by omega)
          cases h; refine ⟨by show 0 < 4; omega, by show 1 ≤ 2; omega, by show 2 ≤ 4; omega, ?_⟩
          show tu pt < 2 ^ 16; omega
        · have := uHL (by omega) hp
          have h1 := tu_lt this.1
          have h2 := tu_lt this.2
          cases h; refine ⟨by show 0 < 4; omega, by show 1 ≤ 4; omega, by show 4 ≤ 4; omega, ?_⟩
          show tu (uHi pt) * 65536 + tu (uLo pt) < 2 ^ 32; omega
      · split at h
        · cases h
          refine ⟨by show 0 < 4; omega, ?_, ?_, fV_lt hp⟩
          · show 1 ≤ fN pt; unfold fN; (repeat' split) <;> omega
          · show fN pt ≤ 4; unfold fN; (repeat' split) <;> omega
        · split at h
          · rename_i hk
            cases h
            have we := sm.2.2.2.2.1 _ hk
            exact ⟨we.1, we.2.1, by have := we.2.2.1; show g 5 _ ≤ 4; omega, we.2.2.2.1⟩
          · cases h
  refine ⟨key.1, key.2.1, key.2.2.1, key.2.2.2, ?_⟩
  have : 2 ^ (8 * q.2.1) ≤ 2 ^ 32 := Nat.pow_le_pow_right (by decide) (by omega)
  omega
/-- bytes of a number, the highest first -/
def byL (n v : Nat) : List Nat := (List.range n).map (fun k => v / 2 ^ (8 * (n - 1 - k)) % 256)
theorem byL_len (n v : Nat) : (byL n v).length = n := by unfold byL; rw [List.length_map, List.length_range]
theorem byL_at {n v k : Nat} (h : k < n) : bt (byL n v) k = v / 2 ^ (8 * (n - 1 - k)) % 256 := gD_map h
/-- what find says -/
def fdQ (h : zH) (c : Option (Nat × Nat × Nat)) (r : Int32 × zH) : Prop := (c = none → r.1 = 0) ∧ (∀ q, c = some q → r.1 = 1 ∧ zI r.2 92 31 = nI q.1 ∧ zI r.2 92 32 = nI q.2.1 ∧ ∀ k, k < q.2.1 → zI r.2 116 k = nI (bt (byL q.2.1 q.2.2) k)) ∧ fr (fun a j => a = 92 ∧ (j = 31 ∨ j = 32) ∨ a = 116) h r.2
theorem m_text {h : zH} {n v : Nat} (hn : n ≤ 4) (hv : v < 2 ^ 62) : zw (fX9_text h 92 (nI n) (lN v)) (fun h' => zI h' 92 32 = nI n ∧ (∀ k, k < n → zI h' 116 k = nI (bt (byL n v) k)) ∧ fr (fun a j => a = 92 ∧ j = 32 ∨ a = 116) h h') := by
  unfold fX9_text
  rw [zw_let]
  refine zw_for (fun i s => s.2 = nI i ∧ zI s.1 92 32 = nI n ∧ (∀ k, k < i → zI s.1 116 k = nI (bt (byL n v) k)) ∧ fr (fun a j => a = 92 ∧ j = 32 ∨ a = 116) h s.1) n ?_ ⟨rfl, by rw [eIs], fun k hk => absurd hk (Nat.not_lt_zero _), (fr.refl _ h).sI (by omega) _⟩
  rintro i ⟨h1, x⟩ hi ⟨rfl, e1, e2, f⟩
  dsimp only at e1 e2 f ⊢
  unfold fX9_text_L8
  by_cases e : i = n
  · subst e
    rw [if_pos (Int32.le_refl _), zw_some]
    exact ⟨e1, e2, f⟩
  · rw [if_neg (by rw [nI_leI (by omega) (by omega)]; omega), zw_ck, zw_let, zw_some, nI_clamp (by omega), l_at hv (by omega) (by omega), nI_1]
    refine ⟨vin (by omega) (by omega), by omega, rfl, ?_, fun k hk => ?_, f.sI (by omega) _⟩
    · rw [eI, if_neg (by omega)]; exact e1
    · by_cases w : k = i
      · subst w
        rw [show 92 + 24 = 116 from rfl, eIs, byL_at (by omega)]
      · rw [eI, if_neg (by omega)]; exact e2 k (by omega)
theorem m_turned {u : Nat} (hu : u < 65536) : fX9_turned (nI u) = some (nI (tu u)) := by
  unfold fX9_turned tu
  rw [and255 (by omega), show (8 : Int32) = nI 8 from rfl, shlI (by omega) (by omega), shrI (by omega) (by omega), nI_or, or_add (k := 8) (u % 256) (by omega)]
/-- a tail of a point's bytes -/
theorem m_few {h : zH} {pt : Nat} (hp : pt ≤ 1114111) : zw (fX9_few h 92 (nI pt)) (fun h' => zI h' 92 32 = nI (fN pt) ∧ (∀ k, k < fN pt → zI h' 116 k = nI (bt (byL (fN pt) (fV pt)) k)) ∧ fr (fun a j => a = 92 ∧ j = 32 ∨ a = 116) h h') := by
  have lp : ∀ (h1 : zH) (n k : Nat), k < n → 1 ≤ k → n ≤ 4 → fX9_few_L43 h1 92 (nI pt) (nI n) (nI k) = some (.inl (zsI h1 116 k (nI (128 + pt / 2 ^ (6 * (n - 1 - k)) % 64)), nI (k - 1))) := by
    intro h1 n k hk h1k hn
    unfold fX9_few_L43
    rw [if_neg (by rw [li, nI_leI (by omega) (by omega)]; omega), zck_pos (vin (show k < 4 by omega) (by omega)), nI_clamp (by omega), show (1 : Int32) = nI 1 from rfl, pk_sub (by omega), pk_sub (by omega), show (6 : Int32) = nI 6 from rfl, pk_mul, shrI (by omega) (by omega), and63 (by have := Nat.div_le_self pt (2 ^ (6 * (n - 1 - k))); omega), show (128 : Int32) = nI 128 from rfl, nI_or]
    have : 128 ||| (pt / 2 ^ (6 * (n - 1 - k)) % 64) = 128 + pt / 2 ^ (6 * (n - 1 - k)) % 64 := or_add (k := 7) 1 (by omega)
    rw [this]
    obtain ⟨j, rfl⟩ : ∃ j, k = j + 1 := ⟨k - 1, by omega⟩
    show some (Sum.inl (_, nI (j + 1) + (-1))) = _
    rw [pk_m1]
    rfl
  have l0 : ∀ (h1 : zH) (n : Nat), fX9_few_L43 h1 92 (nI pt) (nI n) (nI 0) = some (.inr h1) := by
    intro h1 n
    unfold fX9_few_L43
    rw [if_pos (by exact Int32.le_refl _)]
  have head : ∀ (b n : Nat), n ≤ 4 → 1 ≤ n → b % 2 ^ (8 - n) = 0 → b < 256 → pt / 2 ^ (6 * (n - 1)) < 2 ^ (8 - n) → nI b ||| (nI pt >>> ((6 : Int32) * (nI n - 1) &&& 31)) = nI (b + pt / 2 ^ (6 * (n - 1))) := by
    intro b n hn h1 hb hb2 hq
    rw [show (1 : Int32) = nI 1 from rfl, pk_sub (by omega), show (6 : Int32) = nI 6 from rfl, pk_mul, shrI (by omega) (by omega), nI_or]
    have : b = b / 2 ^ (8 - n) * 2 ^ (8 - n) := by have := Nat.div_add_mod b (2 ^ (8 - n)); rw [hb, Nat.mul_comm] at this; omega
    rw [this, or_add _ hq]
  unfold fX9_few
  have fin : ∀ (h' : zH) (n : Nat) (V : Nat → Nat), n = fN pt → n ≤ 4 → zI h' 92 32 = nI n → (∀ k, k < n → zI h' 116 k = nI (V k)) → (∀ k, k < n → V k = fV pt / 2 ^ (8 * (n - 1 - k)) % 256) → fr (fun a j => a = 92 ∧ j = 32 ∨ a = 116) h h' → zI h' 92 32 = nI (fN pt) ∧ (∀ k, k < fN pt → zI h' 116 k = nI (bt (byL (fN pt) (fV pt)) k)) ∧ fr (fun a j => a = 92 ∧ j = 32 ∨ a = 116) h h' := by
    rintro h' n V rfl hn e1 e2 e3 f
    refine ⟨e1, fun k hk => ?_, f⟩
    rw [e2 k hk, e3 k hk, byL_at hk]
  by_cases p1 : pt < 128
  · have en : fN pt = 1 := by unfold fN; rw [if_pos p1]
    have ev : fV pt = pt := by unfold fV; rw [if_pos p1]
    rw [if_neg (by rw [li, nI_leI (by omega) (by omega)]; omega)]
    unfold fX9_few_J33
    rw [zw_let, show ((1 : Int32) - 1) = nI 0 from by decide +kernel, zlp_inr (by exact l0 _ 1), zb1_s, if_pos rfl, zw_ck, zw_let, zw_some]
    refine ⟨pk_in 0 4 (by omega), fin _ 1 (fun _ => pt) en.symm (by omega) ?_ (fun k hk => ?_) (fun k hk => ?_) (((fr.refl _ h).sI (by omega) _).sI (by omega) _)⟩
    · rw [eI, if_neg (by omega), eIs]; rfl
    · have : k = 0 := by omega
      subst this
      rw [show 92 + 24 = 116 from rfl, show (0 : Int32).toNatClampNeg = 0 from rfl, eIs]
      have := head 0 1 (by omega) (by omega) (by simp) (by omega) (by simp only [Nat.reduceSub, Nat.reduceMul, Nat.reducePow]; omega)
      rw [show ((0 : Int32) ||| nI pt >>> ((6 : Int32) * nI 0 &&& 31)) = nI (0 + pt / 2 ^ (6 * (1 - 1))) from this]
      simp only [Nat.reduceSub, Nat.reduceMul, Nat.reducePow, Nat.zero_add, Nat.div_one]
    · have : k = 0 := by omega
      subst this
      rw [ev]
      simp only [Nat.reduceSub, Nat.reduceMul, Nat.reducePow, Nat.div_one]
      omega
  rw [if_pos (by rw [li, nI_leI (by omega) (by omega)]; omega)]
  by_cases p2 : pt < 2048
  · have en : fN pt = 2 := by unfold fN; rw [if_neg p1, if_pos p2]
    have ev : fV pt = (192 + pt / 64) * 256 + (128 + pt % 64) := by unfold fV; rw [if_neg p1, if_pos p2]
    rw [if_neg (by rw [li, nI_leI (by omega) (by omega)]; omega)]
    unfold fX9_few_J33
    rw [zw_let, show ((2 : Int32) - 1) = nI 1 from by decide +kernel, zlp_inl (by exact lp _ 2 1 (by omega) (by omega) (by omega)), zlp_inr (by exact l0 _ 2), zb1_s, if_neg (by decide), if_pos rfl, zw_ck, zw_let, zw_some]
    refine ⟨pk_in 0 4 (by omega), fin _ 2 (fun k => if k = 0 then 192 + pt / 64 else 128 + pt % 64) en.symm (by omega) ?_ (fun k hk => ?_) (fun k hk => ?_) ((((fr.refl _ h).sI (by omega) _).sI (by omega) _).sI (by omega) _)⟩
    · rw [eI, if_neg (by omega), eI, if_neg (by omega), eIs]; rfl
    · have hd := head 192 2 (by omega) (by omega) (by decide) (by omega) (by simp only [Nat.reduceSub, Nat.reduceMul, Nat.reducePow]; omega)
      have hd' : ((192 : Int32) ||| nI pt >>> ((6 : Int32) * nI 1 &&& 31)) = nI (192 + pt / 64) := hd
      rw [hd', show 92 + 24 = 116 from rfl, show (0 : Int32).toNatClampNeg = 0 from rfl]
      have e : k = 0 ∨ k = 1 := by omega
      rcases e with rfl | rfl
      · rw [eIs]; rfl
      · rw [eI, if_neg (by omega), eIs]
        simp only [Nat.reduceSub, Nat.reduceMul, Nat.reducePow, Nat.div_one]
        rfl
    · have e : k = 0 ∨ k = 1 := by omega
      rw [ev]
      rcases e with rfl | rfl <;> simp only [Nat.reduceSub, Nat.reduceMul, Nat.reducePow, Nat.div_one, if_true, Nat.reduceEqDiff, if_false] <;> omega
  rw [if_pos (by rw [li, nI_leI (by omega) (by omega)]; omega)]
  by_cases p3 : pt < 65536
  · have en : fN pt = 3 := by unfold fN; rw [if_neg p1, if_neg p2, if_pos p3]
    have ev : fV pt = ((224 + pt / 4096) * 256 + (128 + pt / 64 % 64)) * 256 + (128 + pt % 64) := by unfold fV; rw [if_neg p1, if_neg p2, if_pos p3]
    rw [if_neg (by rw [li, nI_leI (by omega) (by omega)]; omega)]
    unfold fX9_few_J33
    rw [zw_let, show ((3 : Int32) - 1) = nI 2 from by decide +kernel, zlp_inl (by exact lp _ 3 2 (by omega) (by omega) (by omega)), zlp_inl (by exact lp _ 3 1 (by omega) (by omega) (by omega)), zlp_inr (by exact l0 _ 3), zb1_s, if_neg (by decide), if_neg (by decide), if_pos rfl, zw_ck, zw_let, zw_some]
    refine ⟨pk_in 0 4 (by omega), fin _ 3 (fun k => if k = 0 then 224 + pt / 4096 else if k = 1 then 128 + pt / 64 % 64 else 128 + pt % 64) en.symm (by omega) ?_ (fun k hk => ?_) (fun k hk => ?_) (((((fr.refl _ h).sI (by omega) _).sI (by omega) _).sI (by omega) _).sI (by omega) _)⟩
    · rw [eI, if_neg (by omega), eI, if_neg (by omega), eI, if_neg (by omega), eIs]; rfl
    · have hd := head 224 3 (by omega) (by omega) (by decide) (by omega) (by simp only [Nat.reduceSub, Nat.reduceMul, Nat.reducePow]; omega)
      have hd' : ((224 : Int32) ||| nI pt >>> ((6 : Int32) * nI 2 &&& 31)) = nI (224 + pt / 4096) := hd
      rw [hd', show 92 + 24 = 116 from rfl, show (0 : Int32).toNatClampNeg = 0 from rfl]
      have e : k = 0 ∨ k = 1 ∨ k = 2 := by omega
      rcases e with rfl | rfl | rfl
      · rw [eIs]; rfl
      · rw [eI, if_neg (by omega), eIs]; rfl
      · rw [eI, if_neg (by omega), eI, if_neg (by omega), eIs]
        simp only [Nat.reduceSub, Nat.reduceMul, Nat.reducePow, Nat.div_one]
        rfl
    · have e : k = 0 ∨ k = 1 ∨ k = 2 := by omega
      rw [ev]
      have hA : pt / 4096 < 16 := by omega
      have hB : pt / 64 % 64 < 64 := by omega
      have hC : pt % 64 < 64 := by omega
      clear ev en
      generalize pt / 4096 = A at *
      generalize pt / 64 % 64 = B at *
      generalize pt % 64 = C at *
      rcases e with rfl | rfl | rfl <;> simp only [Nat.reduceSub, Nat.reduceMul, Nat.reducePow, Nat.div_one, if_true, Nat.reduceEqDiff, if_false] <;> omega
  rw [if_pos (by rw [li, nI_leI (by omega) (by omega)]; omega)]
  have en : fN pt = 4 := by unfold fN; rw [if_neg p1, if_neg p2, if_neg p3]
  have ev : fV pt = (((240 + pt / 262144) * 256 + (128 + pt / 4096 % 64)) * 256 + (128 + pt / 64 % 64)) * 256 + (128 + pt % 64) := by unfold fV; rw [if_neg p1, if_neg p2, if_neg p3]
  unfold fX9_few_J33
  rw [zw_let, show ((4 : Int32) - 1) = nI 3 from by decide +kernel, zlp_inl (by exact lp _ 4 3 (by omega) (by omega) (by omega)), zlp_inl (by exact lp _ 4 2 (by omega) (by omega) (by omega)), zlp_inl (by exact lp _ 4 1 (by omega) (by omega) (by omega)), zlp_inr (by exact l0 _ 4), zb1_s, if_neg (by decide), if_neg (by decide), if_neg (by decide), zw_ck, zw_let, zw_some]
  refine ⟨pk_in 0 4 (by omega), fin _ 4 (fun k => if k = 0 then 240 + pt / 262144 else if k = 1 then 128 + pt / 4096 % 64 else if k = 2 then 128 + pt / 64 % 64 else 128 + pt % 64) en.symm (by omega) ?_ (fun k hk => ?_) (fun k hk => ?_) ((((((fr.refl _ h).sI (by omega) _).sI (by omega) _).sI (by omega) _).sI (by omega) _).sI (by omega) _)⟩
  · rw [eI, if_neg (by omega), eI, if_neg (by omega), eI, if_neg (by omega), eI, if_neg (by omega), eIs]; rfl
  · have hd := head 240 4 (by omega) (by omega) (by decide) (by omega) (by simp only [Nat.reduceSub, Nat.reduceMul, Nat.reducePow]; omega)
    have hd' : ((240 : Int32) ||| nI pt >>> ((6 : Int32) * nI 3 &&& 31)) = nI (240 + pt / 262144) := hd
    rw [hd', show 92 + 24 = 116 from rfl, show (0 : Int32).toNatClampNeg = 0 from rfl]
    have e : k = 0 ∨ k = 1 ∨ k = 2 ∨ k = 3 := by omega
    rcases e with rfl | rfl | rfl | rfl
    · rw [eIs]; rfl
    · rw [eI, if_neg (by omega), eIs]; rfl
    · rw [eI, if_neg (by omega), eI, if_neg (by omega), eIs]; rfl
    · rw [eI, if_neg (by omega), eI, if_neg (by omega), eI, if_neg (by omega), eIs]
      simp only [Nat.reduceSub, Nat.reduceMul, Nat.reducePow, Nat.div_one]
      rfl
  · have e : k = 0 ∨ k = 1 ∨ k = 2 ∨ k = 3 := by omega
    rw [ev]
    have hA : pt / 262144 < 5 := by omega
    have hA2 : pt / 4096 % 64 < 64 := by omega
    have hB : pt / 64 % 64 < 64 := by omega
    have hC : pt % 64 < 64 := by omega
    clear ev en
    generalize pt / 262144 = A at *
    generalize pt / 4096 % 64 = A2 at *
    generalize pt / 64 % 64 = B at *
    generalize pt % 64 = C at *
    rcases e with rfl | rfl | rfl | rfl <;> simp only [Nat.reduceSub, Nat.reduceMul, Nat.reducePow, Nat.div_one, if_true, Nat.reduceEqDiff, if_false] <;> omega
