/-! rows: bytes, units, fill, result, sign, told (generic where both sides have the same loop) -/
set_option maxRecDepth 100000
theorem gD_l {l m : List Nat} {k : Nat} (h : k < l.length) : (l ++ m).getD k 0 = l.getD k 0 := by
  simp only [List.getD_eq_getElem?_getD, List.getElem?_append_left h]
theorem gD_r (l m : List Nat) (k : Nat) : (l ++ m).getD (l.length + k) 0 = m.getD k 0 := by
  simp only [List.getD_eq_getElem?_getD, List.getElem?_append_right (Nat.le_add_right _ _), Nat.add_sub_cancel_left]
theorem gD_e (l : List Nat) (v : Nat) : (l ++ [v]).getD l.length 0 = v := gD_r l [v] 0
theorem gD_mem {l : List Nat} {k : Nat} (h : k < l.length) : l.getD k 0 ∈ l := by
  rw [List.getD_eq_getElem?_getD, List.getElem?_eq_getElem h]
  exact List.getElem_mem h
theorem gD_map {f : Nat → Nat} {n k : Nat} (h : k < n) : ((List.range n).map f).getD k 0 = f k := by
  rw [List.getD_eq_getElem?_getD, List.getElem?_map, List.getElem?_range h]
  rfl
theorem l_andN (y : Int64) {m : Int64} (k : Nat) (hm : m.toBitVec.toNat = 2 ^ k - 1) : y &&& m = lN (y.toBitVec.toNat % 2 ^ k) := by
  apply Int64.toBitVec_inj.mp
  apply BitVec.eq_of_toNat_eq
  rw [Int64.toBitVec_and, BitVec.toNat_and, hm, Nat.and_two_pow_sub_one_eq_mod]
  show _ = (BitVec.ofNat 64 _).toNat
  rw [BitVec.toNat_ofNat]
  exact (Nat.mod_eq_of_lt (Nat.lt_of_le_of_lt (Nat.mod_le _ _) y.toBitVec.isLt)).symm
theorem l_byte (y : Int64) : (y &&& 255).toInt32 = nI (y.toBitVec.toNat % 2 ^ 8) := by rw [l_andN y 8 (by decide), lN_i]
theorem l_unit (y : Int64) : (y &&& 65535).toInt32 = nI (y.toBitVec.toNat % 2 ^ 16) := by rw [l_andN y 16 (by decide), lN_i]
/-- a row and its count -/
def rC (h : zH) (A k r : Nat) (l : List Nat) : Prop := zI h A k = nI l.length ∧ rw h r l
theorem rw.app {h h' : zH} {r : Nat} {l : List Nat} {v : Nat} (m : rw h r l) (hl : ∀ j, j < l.length → zI h' r j = zI h r j) (hv : zI h' r l.length = nI v) : rw h' r (l ++ [v]) := by
  intro k hk
  rw [List.length_append, List.length_singleton] at hk
  by_cases e : k = l.length
  · subst e; rw [gD_e]; exact hv
  · rw [gD_l (by omega), hl k (by omega)]; exact m k (by omega)
noncomputable def lbIn (A k r : Nat) (E : Int32 → Int32) (h : zH) (x4 : Int32) : Option ((zH × Int32) ⊕ ((Int32 × zH))) := if x4 < 0 then (some (.inr ((zI h A k, h)))) else (zck (vp_in (zI h A k) 1000) (zlet (zsI h r (zI h A k).toNatClampNeg (E x4)) (fun h_4 => zlet (zsI h_4 A k ((zI h_4 A k) + 1)) (fun h_5 => some (.inl ((h_5, x4 + (-1))))))))
theorem g_in {A k r n : Nat} {E : Int32 → Int32} {B : Nat → Nat} {h : zH} {l : List Nat} (hAr : A ≠ r) (hE : ∀ i, i < n → E (nI i) = nI (B i)) (c : rC h A k r l) (hl : l.length + n ≤ 1000) : zw (zlp (fun s => lbIn A k r E s.1 s.2) (h, nI n - 1)) (fun y => y.1 = nI (l.length + n) ∧ rC y.2 A k r (l ++ (List.range n).map (fun i => B (n - 1 - i))) ∧ fr (fun a j => a = A ∧ j = k ∨ a = r) h y.2) := by
  refine zw_for (fun i s => s.2 = nI (n - i) - 1 ∧ rC s.1 A k r (l ++ (List.range i).map (fun i => B (n - 1 - i))) ∧ fr (fun a j => a = A ∧ j = k ∨ a = r) h s.1) n ?_ ⟨rfl, by simpa using c, fr.refl _ _⟩
  rintro i ⟨h1, x⟩ hi ⟨rfl, ⟨c1, c2⟩, f⟩
  dsimp only at c1 c2 f ⊢
  rw [List.length_append, List.length_map, List.length_range] at c1
  unfold lbIn
  by_cases hin : i = n
  · subst hin
    rw [Nat.sub_self, if_pos (show nI 0 - 1 < 0 from by rw [Int32.lt_iff_toInt_lt]; decide)]
    exact ⟨_, rfl, c1, ⟨by rw [List.length_append, List.length_map, List.length_range]; exact c1, c2⟩, f⟩
  · obtain ⟨q, hq⟩ : ∃ q, n - i = q + 1 := ⟨n - i - 1, by omega⟩
    rw [hq, nI_pred, if_neg (nI_pos (by omega))]
    have hAr' : (A = r) = False := eq_false hAr
    simp (disch := omega) only [zw_b1, zw_b2, zw_ck, zw_let, zw_ite, zw_some, vin, nI_clamp, c1, eI, Nat.reduceAdd, Nat.reduceMul, Nat.reduceSub, Nat.reduceEqDiff, Nat.reduceLT, Nat.reduceLeDiff, reduceIte, true_and, and_true, false_and, and_false, ite_true, ite_false, if_true, if_false, not_true_eq_false, not_false_eq_true, hAr', hE q (by omega), nI_1]
    refine ⟨by omega, ?_, ⟨?_, ?_⟩, ?_⟩
    · rw [show n - (i + 1) = q by omega, Int32.sub_eq_add_neg]
    · rw [eI, if_pos ⟨rfl, rfl⟩, List.length_append, List.length_map, List.length_range, Nat.add_assoc]
    · rw [List.range_succ, List.map_append, ← List.append_assoc]
      have e1 : (l ++ (List.range i).map (fun i => B (n - 1 - i))).length = l.length + i := by rw [List.length_append, List.length_map, List.length_range]
      refine c2.app (fun j hj => ?_) ?_
      · rw [e1] at hj
        rw [eI, if_neg (by omega), eI, if_neg (by omega)]
      · rw [e1, eI, if_neg (by omega), eI, if_pos ⟨rfl, rfl⟩]
        show nI (B q) = nI (B (n - 1 - i))
        rw [show n - 1 - i = q by omega]
    · exact (f.sI (Or.inr rfl) _).sI (Or.inl ⟨rfl, rfl⟩) _
/-- what a word has at its place i, by 2^s -/
def wAt (w : Int64) (s m : Nat) (i : Nat) : Nat := (w >>> (((nI s) * nI i).toInt64 &&& 63)).toBitVec.toNat % 2 ^ m
noncomputable def sp_bytesIn (z : gZ) (w : Int64) (n : Int32) : Int32 × gZ := match vR n 1 8 with
  | none => qT z (-1)
  | some n => if z.by.length + n ≤ 1000 then (nI (z.by.length + n), qB z (z.by ++ (List.range n).map (fun i => wAt w 8 8 (n - 1 - i)))) else qT z (-6)
noncomputable def sp_unitsIn (z : gZ) (w : Int64) (n : Int32) : Int32 × gZ := match vR n 1 4 with
  | none => qT z (-1)
  | some n => if z.un.length + n ≤ 1000 then (nI (z.un.length + n), qU z (z.un ++ (List.range n).map (fun i => wAt w 16 16 (n - 1 - i)))) else qT z (-6)
theorem m_bytesIn {h : zH} {z : gZ} {w : Int64} {n : Int32} (m : MR h z) (hl : z.by.length ≤ 1000) : zw (fX9_bytesIn h 92 w n) (mQ h (sp_bytesIn z w n)) := by
  unfold fX9_bytesIn sp_bytesIn
  have c := m.by
  rcases vR_cases n 1 8 (by omega) (by omega) with ⟨t1, t9, -⟩ | ⟨k, hk1, hk, rfl, t1, t9, -⟩
  · rw [t1, show fX9_in n 1 8 = some 0 from t9]
    simp only [zw_b1, zw_some, if_true]
    exact m_tell' m (fr.refl _ _) neg1
  rw [t1, show fX9_in (nI k) 1 8 = some 1 from t9]
  simp (disch := omega) only [zw_b1, zw_some, i10, if_false, c.1, nI_add, zw_ite, li, nI_leI]
  by_cases h2 : z.by.length + k ≤ 1000
  · simp only [h2, if_true]
    refine (g_in (E := fun x4 => (((w >>> (((8 : Int32) * x4).toInt64 &&& 63)) &&& 255).toInt32)) (B := wAt w 8 8) (by omega) (fun i _ => l_byte _) c h2).mono ?_
    rintro ⟨v, h'⟩ ⟨rfl, c', f⟩
    exact ⟨rfl, m.upB (f.mono fun a j hw => by unfold wvB wSc; omega) c', f.mono fun a j hw => by unfold wAll; omega⟩
  · simp only [h2, if_false]
    exact m_tell' m (fr.refl _ _) neg6
theorem m_unitsIn {h : zH} {z : gZ} {w : Int64} {n : Int32} (m : MR h z) (hl : z.un.length ≤ 1000) : zw (fX9_unitsIn h 92 w n) (mQ h (sp_unitsIn z w n)) := by
  unfold fX9_unitsIn sp_unitsIn
  have c := m.un
  rcases vR_cases n 1 4 (by omega) (by omega) with ⟨t1, t9, -⟩ | ⟨k, hk1, hk, rfl, t1, t9, -⟩
  · rw [t1, show fX9_in n 1 4 = some 0 from t9]
    simp only [zw_b1, zw_some, if_true]
    exact m_tell' m (fr.refl _ _) neg1
  rw [t1, show fX9_in (nI k) 1 4 = some 1 from t9]
  simp (disch := omega) only [zw_b1, zw_some, i10, if_false, c.1, nI_add, zw_ite, li, nI_leI]
  by_cases h2 : z.un.length + k ≤ 1000
  · simp only [h2, if_true]
    refine (g_in (E := fun x4 => (((w >>> (((16 : Int32) * x4).toInt64 &&& 63)) &&& 65535).toInt32)) (B := wAt w 16 16) (by omega) (fun i _ => l_unit _) c h2).mono ?_
    rintro ⟨v, h'⟩ ⟨rfl, c', f⟩
    exact ⟨rfl, m.upU (f.mono fun a j hw => by unfold wvU wSc; omega) c', f.mono fun a j hw => by unfold wAll; omega⟩
  · simp only [h2, if_false]
    exact m_tell' m (fr.refl _ _) neg6
noncomputable def sp_fill (z : gZ) (x : Int32) : Int32 × gZ := match vR x 0 3 with
  | none => qT z (-1)
  | some k => if k = 0 then (nI z.by.length, qB z []) else if k = 1 then (nI z.un.length, qU z []) else
    if z.re.1 = 4 - k then (if z.re.2.length ≤ 1000 then (nI z.re.2.length, if k = 2 then qB z z.re.2 else qU z z.re.2) else qT z (-6)) else qT z (-2)
theorem m_fill {h : zH} {z : gZ} {x : Int32} (m : MR h z) (hk1 : z.re.1 ≤ 2) (hl : z.by.length ≤ 1000 ∧ z.un.length ≤ 1000 ∧ z.re.2.length ≤ 6000) : zw (fX9_fill h 92 x) (mQ h (sp_fill z x)) := by
  unfold fX9_fill sp_fill
  have cb := m.by
  have cu := m.un
  obtain ⟨r1, r2, r3⟩ := m.re
  rcases vR_cases x 0 3 (by omega) (by omega) with ⟨t1, t9, -⟩ | ⟨k, -, hk, rfl, t1, t9, -⟩
  · rw [t1, show fX9_in x 0 3 = some 0 from t9]
    simp only [zw_b1, zw_some, if_true]
    exact m_tell' m (fr.refl _ _) neg1
  rw [t1, show fX9_in (nI k) 0 3 = some 1 from t9]
  have e4 : k = 0 ∨ k = 1 ∨ k = 2 ∨ k = 3 := by omega
  have fin : ∀ kk, kk = 2 ∨ kk = 3 → zw (fX9_fill_J62 h 92 (nI kk) (nI (4 - kk)) (nI z.re.1)) (mQ h (if z.re.1 = 4 - kk then (if z.re.2.length ≤ 1000 then (nI z.re.2.length, if kk = 2 then qB z z.re.2 else qU z z.re.2) else qT z (-6)) else qT z (-2))) := by
    intro kk hkk
    unfold fX9_fill_J62
    by_cases h1 : z.re.1 = 4 - kk
    case neg =>
      rw [if_neg (by rw [nI_eq (by omega) (by omega)]; exact h1), if_neg h1]
      exact m_tell' m (fr.refl _ _) neg2
    rw [if_pos (by rw [h1]), if_pos h1]
    by_cases h2 : z.re.2.length ≤ 1000
    case neg =>
      rw [if_neg (by rw [r2, li, nI_leI (by omega) (by omega)]; exact h2), if_neg h2]
      exact m_tell' m (fr.refl _ _) neg6
    rw [if_pos (by rw [r2, li, nI_leI (by omega) (by omega)]; exact h2), if_pos h2]
    rw [zw_b1]
    rcases hkk with rfl | rfl
    · refine zw_for (fun i s => s.2 = nI i ∧ fr (fun a j => a = 106) h s.1 ∧ ∀ j, j < i → zI s.1 106 j = nI (z.re.2.getD j 0)) z.re.2.length ?_ ⟨rfl, fr.refl _ _, fun j hj => absurd hj (Nat.not_lt_zero _)⟩
      rintro i ⟨h1, x⟩ hi ⟨rfl, f, he⟩
      dsimp only at f he ⊢
      have q := (f.I (a := 92) (k := 18) (by omega)).trans r2
      have q2 : i < z.re.2.length → zI h1 108 i = nI (z.re.2.getD i 0) := fun hh => (f.I (by omega)).trans (r3 i hh)
      unfold fX9_fill_L91
      simp (disch := omega) only [zw_b1, zw_b2, zw_ck, zw_let, zw_ite, zw_some, li, nI_eq, Nat.reduceAdd, Nat.reduceMul, Nat.reduceSub, Nat.reduceEqDiff, Nat.reduceLT, Nat.reduceLeDiff, reduceIte, true_and, and_true, false_and, and_false, ite_true, ite_false, if_true, if_false, not_true_eq_false, not_false_eq_true, q, nI_leI, vin, nI_clamp, nI_add]
      split
      · have hi' : i = z.re.2.length := by omega
        have f2 : fr (fun a j => a = 92 ∧ j = 14 ∨ a = 106) h (zsI h1 92 14 (nI z.re.2.length)) := (f.mono fun a j hw => Or.inr hw).sI (Or.inl ⟨rfl, rfl⟩) _
        refine ⟨by rw [eI, if_neg (by omega)]; exact q, ?_, f2.mono fun a j hw => by unfold wAll; omega⟩
        refine m.upB (f2.mono fun a j hw => by unfold wvB wSc; omega) ⟨by rw [eI, if_pos ⟨rfl, rfl⟩], fun j hj => ?_⟩
        rw [eI, if_neg (by omega)]
        exact he j (by omega)
      · rename_i hlt
        refine ⟨by omega, f.sI rfl _, fun j hj => ?_⟩
        rw [eI]
        by_cases e : j = i
        · subst e; rw [if_pos ⟨rfl, rfl⟩]; exact q2 (by omega)
        · rw [if_neg (by omega)]; exact he j (by omega)
    · refine zw_for (fun i s => s.2 = nI i ∧ fr (fun a j => a = 107) h s.1 ∧ ∀ j, j < i → zI s.1 107 j = nI (z.re.2.getD j 0)) z.re.2.length ?_ ⟨rfl, fr.refl _ _, fun j hj => absurd hj (Nat.not_lt_zero _)⟩
      rintro i ⟨h1, x⟩ hi ⟨rfl, f, he⟩
      dsimp only at f he ⊢
      have q := (f.I (a := 92) (k := 18) (by omega)).trans r2
      have q2 : i < z.re.2.length → zI h1 108 i = nI (z.re.2.getD i 0) := fun hh => (f.I (by omega)).trans (r3 i hh)
      unfold fX9_fill_L91
      simp (disch := omega) only [zw_b1, zw_b2, zw_ck, zw_let, zw_ite, zw_some, li, nI_eq, Nat.reduceAdd, Nat.reduceMul, Nat.reduceSub, Nat.reduceEqDiff, Nat.reduceLT, Nat.reduceLeDiff, reduceIte, true_and, and_true, false_and, and_false, ite_true, ite_false, if_true, if_false, not_true_eq_false, not_false_eq_true, q, nI_leI, vin, nI_clamp, nI_add]
      split
      · have hi' : i = z.re.2.length := by omega
        have f2 : fr (fun a j => a = 92 ∧ j = 16 ∨ a = 107) h (zsI h1 92 16 (nI z.re.2.length)) := (f.mono fun a j hw => Or.inr hw).sI (Or.inl ⟨rfl, rfl⟩) _
        refine ⟨by rw [eI, if_neg (by omega)]; exact q, ?_, f2.mono fun a j hw => by unfold wAll; omega⟩
        refine m.upU (f2.mono fun a j hw => by unfold wvU wSc; omega) ⟨by rw [eI, if_pos ⟨rfl, rfl⟩], fun j hj => ?_⟩
        rw [eI, if_neg (by omega)]
        exact he j (by omega)
      · rename_i hlt
        refine ⟨by omega, f.sI rfl _, fun j hj => ?_⟩
        rw [eI]
        by_cases e : j = i
        · subst e; rw [if_pos ⟨rfl, rfl⟩]; exact q2 (by omega)
        · rw [if_neg (by omega)]; exact he j (by omega)
  rcases e4 with rfl | rfl | rfl | rfl
  · simp (disch := omega) only [zw_b1, zw_b2, zw_ck, zw_let, zw_ite, zw_some, i10, li, nI_eq, Nat.reduceAdd, Nat.reduceMul, Nat.reduceSub, Nat.reduceEqDiff, Nat.reduceLT, Nat.reduceLeDiff, reduceIte, true_and, and_true, false_and, and_false, ite_true, ite_false, if_true, if_false, not_true_eq_false, not_false_eq_true]
    have f : fr (fun a j => a = 92 ∧ j = 14) h (zsI h 92 14 (nI 0)) := (fr.refl _ h).sI ⟨rfl, rfl⟩ _
    exact ⟨cb.1, m.upB (f.mono fun a j hw => by unfold wvB wSc; omega) ⟨by rw [eI, if_pos ⟨rfl, rfl⟩]; rfl, fun j hj => absurd hj (Nat.not_lt_zero _)⟩, f.mono fun a j hw => by unfold wAll; omega⟩
  · simp (disch := omega) only [zw_b1, zw_b2, zw_ck, zw_let, zw_ite, zw_some, i10, li, nI_eq, Nat.reduceAdd, Nat.reduceMul, Nat.reduceSub, Nat.reduceEqDiff, Nat.reduceLT, Nat.reduceLeDiff, reduceIte, true_and, and_true, false_and, and_false, ite_true, ite_false, if_true, if_false, not_true_eq_false, not_false_eq_true]
    have f : fr (fun a j => a = 92 ∧ j = 16) h (zsI h 92 16 (nI 0)) := (fr.refl _ h).sI ⟨rfl, rfl⟩ _
    exact ⟨cu.1, m.upU (f.mono fun a j hw => by unfold wvU wSc; omega) ⟨by rw [eI, if_pos ⟨rfl, rfl⟩]; rfl, fun j hj => absurd hj (Nat.not_lt_zero _)⟩, f.mono fun a j hw => by unfold wAll; omega⟩
  · have := fin 2 (Or.inl rfl)
    simp (disch := omega) only [zw_b1, zw_b2, zw_ck, zw_let, zw_ite, zw_some, i10, li, nI_eq, Nat.reduceAdd, Nat.reduceMul, Nat.reduceSub, Nat.reduceEqDiff, Nat.reduceLT, Nat.reduceLeDiff, reduceIte, true_and, and_true, false_and, and_false, ite_true, ite_false, if_true, if_false, not_true_eq_false, not_false_eq_true, r1] at this ⊢
    exact this
  · have := fin 3 (Or.inr rfl)
    simp (disch := omega) only [zw_b1, zw_b2, zw_ck, zw_let, zw_ite, zw_some, i10, li, nI_eq, Nat.reduceAdd, Nat.reduceMul, Nat.reduceSub, Nat.reduceEqDiff, Nat.reduceLT, Nat.reduceLeDiff, reduceIte, true_and, and_true, false_and, and_false, ite_true, ite_false, if_true, if_false, not_true_eq_false, not_false_eq_true, r1] at this ⊢
    exact this
noncomputable def sp_result (z : gZ) (x : Int32) : Int32 × gZ := match vI x z.re.2.length with
  | some k => if z.re.1 = 0 then qT z (-2) else (nI (z.re.2.getD k 0), z)
  | none => qT z (-2)
theorem in_len (x : Int32) (n : Nat) (hn : n < 2 ^ 30) : (vI x n = none ∧ fX9_in x 0 (nI n - 1) = some 0 ∧ fX0_in x 0 (nI n - 1) = some 0) ∨ ∃ k, k < n ∧ x = nI k ∧ vI x n = some k ∧ fX9_in x 0 (nI n - 1) = some 1 ∧ fX0_in x 0 (nI n - 1) = some 1 := by
  have e : ∀ a b c, fX0_in a b c = fX9_in a b c := fun a b c => rfl
  rw [e]
  rcases vI_cases x n (by omega) with ⟨e, hx⟩ | ⟨p, hp, rfl, e⟩
  · left
    have : fX9_in x 0 (nI n - 1) = some 0 := by
      unfold fX9_in
      by_cases h0 : x < 0
      · rw [if_pos h0]
      rw [if_neg h0, if_pos]
      rcases hx with hx | hx
      · exact absurd hx h0
      rw [Int32.lt_iff_toInt_lt, show (1 : Int32) = nI 1 from rfl, pk_sub_toInt hn (by omega)]
      rw [Int32.le_iff_toInt_le, nI_toInt (by omega)] at hx
      omega
    exact ⟨e, this, this⟩
  · right
    have : fX9_in (nI p) 0 (nI n - 1) = some 1 := by
      unfold fX9_in
      rw [if_neg (nI_pos (by omega)), show (1 : Int32) = nI 1 from rfl, pk_sub (by omega), if_neg (by rw [nI_ltI (by omega) (by omega)]; omega)]
    exact ⟨p, hp, rfl, e, this, this⟩
theorem m_result {h : zH} {z : gZ} {x : Int32} (m : MR h z) (hk1 : z.re.1 ≤ 2) (hl : z.re.2.length ≤ 6000) : zw (fX9_result h 92 x) (mQ h (sp_result z x)) := by
  unfold fX9_result sp_result
  obtain ⟨r1, r2, r3⟩ := m.re
  rw [r2]
  rcases in_len x z.re.2.length (by omega) with ⟨e, e9, -⟩ | ⟨k, hk, rfl, e, e9, -⟩
  · rw [e, e9]
    simp only [zw_b1, zw_some, if_true]
    exact m_tell' m (fr.refl _ _) neg2
  rw [e, e9]
  simp (disch := omega) only [zw_b1, zw_b2, zw_ck, zw_let, zw_ite, zw_some, i10, r1, li, nI_leI, Nat.reduceAdd, Nat.reduceMul, Nat.reduceSub, Nat.reduceEqDiff, Nat.reduceLT, Nat.reduceLeDiff, reduceIte, true_and, and_true, false_and, and_false, ite_true, ite_false, if_true, if_false, not_true_eq_false, not_false_eq_true, vin, nI_clamp]
  by_cases h0 : z.re.1 = 0
  · simp only [h0, Nat.le_refl, if_true]
    exact m_tell' m (fr.refl _ _) neg2
  · have h1 : (z.re.1 ≤ 0) = False := eq_false (by omega)
    simp only [h0, h1, if_false]
    exact ⟨r3 k hk, m, fr.refl _ _⟩
noncomputable def sp_sign (z : gZ) (x y : Int32) : Int32 × gZ := match vR x 0 1, vPt y with
  | some k, some p => if k = 0 then (nI z.sg.1, qS z (p, z.sg.2)) else (nI z.sg.2, qS z (z.sg.1, p))
  | _, _ => qT z (-1)
theorem m_sign {h : zH} {z : gZ} {x y : Int32} (m : MR h z) : zw (fX9_sign h 92 x y) (mQ h (sp_sign z x y)) := by
  unfold fX9_sign sp_sign
  obtain ⟨s0, s1⟩ := m.sg
  rcases vR_cases x 0 1 (by omega) (by omega) with ⟨t1, t9, -⟩ | ⟨k, -, hk, rfl, t1, t9, -⟩
  · rw [t1, show fX9_in x 0 1 = some 0 from t9]
    simp only [zw_b1, zw_some, if_true]
    exact m_tell' m (fr.refl _ _) neg1
  rw [t1, show fX9_in (nI k) 0 1 = some 1 from t9]
  rcases pt_cases y with ⟨q, q9, -⟩ | ⟨pt, hpt, rfl, q, q9, -⟩
  · rw [q, q9]
    simp only [zw_b1, zw_some, if_true, i10, if_false]
    exact m_tell' m (fr.refl _ _) neg1
  rw [q, q9]
  have e2 : k = 0 ∨ k = 1 := by omega
  have f : ∀ j, fr (fun a _ => a = 109) h (zsI h 109 j (nI pt)) := fun j => fr.sI (W := fun a _ => a = 109) (fr.refl _ h) rfl _
  rcases e2 with rfl | rfl <;> simp (disch := omega) only [zw_b1, zw_b2, zw_ck, zw_let, zw_ite, zw_some, i10, li, nI_eq, Nat.reduceAdd, Nat.reduceMul, Nat.reduceSub, Nat.reduceEqDiff, Nat.reduceLT, Nat.reduceLeDiff, reduceIte, true_and, and_true, false_and, and_false, ite_true, ite_false, if_true, if_false, not_true_eq_false, not_false_eq_true, vin, nI_clamp]
  · exact ⟨s0, m.upS ((f 0).mono fun a j hw => by unfold wvS wSc; omega) ⟨by rw [eI, if_pos ⟨rfl, rfl⟩], by rw [eI, if_neg (by omega)]; exact s1⟩, (f 0).mono fun a j hw => by unfold wAll; omega⟩
  · exact ⟨s1, m.upS ((f 1).mono fun a j hw => by unfold wvS wSc; omega) ⟨by rw [eI, if_neg (by omega)]; exact s0, by rw [eI, if_pos ⟨rfl, rfl⟩]⟩, (f 1).mono fun a j hw => by unfold wAll; omega⟩
noncomputable def sp_told (z : gZ) (x : Int32) : Int32 × gZ := if x = 0 then (nI z.pl, z) else if x = 1 then (nI z.br.1, z) else if x = 2 then (nI z.br.2.1, z) else if x = 3 then (nI z.br.2.2, z) else if x = 4 then (nI z.pg.1, z) else if x = 5 then (nI z.by.length, z) else if x = 6 then (nI z.un.length, z) else if x = 7 then (nI z.re.2.length, z) else if x = 8 then (nI z.re.1, z) else if x = 9 then (nI z.fa.1, z) else if x = 10 then (nI z.fi, z) else qT z (-1)
theorem m_told {h : zH} {z : gZ} {x : Int32} (m : MR h z) : zw (fX9_told h 92 x) (mQ h (sp_told z x)) := by
  unfold fX9_told sp_told
  have fin : ∀ v w : Int32, v = w → mQ h (w, z) (v, h) := fun v w hv => ⟨hv, m, fr.refl _ _⟩
  obtain ⟨b0, b1, b2⟩ := m.br
  by_cases h0 : x = 0
  · simp only [h0, if_true, zw_some]; exact fin _ _ m.pl
  by_cases h1 : x = 1
  · subst h1; simp only [h0, if_true, if_false, zw_ck, zw_some]
    exact ⟨pk_in 0 3 (by omega), fin _ _ (by rw [show ((1 : Int32) - 1).toNatClampNeg = 0 from by decide +kernel]; exact b0)⟩
  by_cases h2 : x = 2
  · subst h2; simp only [h0, h1, if_true, if_false, zw_ck, zw_some]
    exact ⟨pk_in 1 3 (by omega), fin _ _ (by rw [show ((2 : Int32) - 1).toNatClampNeg = 1 from by decide +kernel]; exact b1)⟩
  by_cases h3 : x = 3
  · subst h3; simp only [h0, h1, h2, if_true, if_false, zw_ck, zw_some]
    exact ⟨pk_in 2 3 (by omega), fin _ _ (by rw [show ((3 : Int32) - 1).toNatClampNeg = 2 from by decide +kernel]; exact b2)⟩
  by_cases h4 : x = 4
  · subst h4; simp only [h0, h1, h2, h3, if_true, if_false, zw_some]; exact fin _ _ m.pg.1
  by_cases h5 : x = 5
  · subst h5; simp only [h0, h1, h2, h3, h4, if_true, if_false, zw_some]; exact fin _ _ m.by.1
  by_cases h6 : x = 6
  · subst h6; simp only [h0, h1, h2, h3, h4, h5, if_true, if_false, zw_some]; exact fin _ _ m.un.1
  by_cases h7 : x = 7
  · subst h7; simp only [h0, h1, h2, h3, h4, h5, h6, if_true, if_false, zw_some]; exact fin _ _ m.re.2.1
  by_cases h8 : x = 8
  · subst h8; simp only [h0, h1, h2, h3, h4, h5, h6, h7, if_true, if_false, zw_some]; exact fin _ _ m.re.1
  by_cases h9 : x = 9
  · subst h9; simp only [h0, h1, h2, h3, h4, h5, h6, h7, h8, if_true, if_false, zw_some]
    obtain ⟨pt, fa, -⟩ := m.fa
    exact fin _ _ fa.1
  by_cases h10 : x = 10
  · subst h10; simp only [h0, h1, h2, h3, h4, h5, h6, h7, h8, h9, if_true, if_false, zw_some]; exact fin _ _ m.fi
  simp only [h0, h1, h2, h3, h4, h5, h6, h7, h8, h9, h10, if_false]
  exact m_tell' m (fr.refl _ _) neg1
