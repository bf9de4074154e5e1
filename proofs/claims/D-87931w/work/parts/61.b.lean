/-! the model's look in forms of all points -/
set_option maxRecDepth 100000
/-- one more byte of a point -/
def fOk (n k v b : Nat) : Prop := 128 ≤ b ∧ b ≤ 191 ∧ ¬ ((v * 64 + b % 64) * 2 ^ (6 * (n - 1 - k)) + 2 ^ (6 * (n - 1 - k)) - 1 < (if n = 2 then 128 else if n = 3 then 2048 else 65536) ∨ 1114111 < (v * 64 + b % 64) * 2 ^ (6 * (n - 1 - k)) ∨ 55296 ≤ (v * 64 + b % 64) * 2 ^ (6 * (n - 1 - k)) ∧ (v * 64 + b % 64) * 2 ^ (6 * (n - 1 - k)) + 2 ^ (6 * (n - 1 - k)) - 1 ≤ 57343)
theorem m_fewJ {h : zH} {r : Nat} {x2 x3 : Int32} {n k v c w lim : Nat} (hc : c < 2 ^ 22) (hw : 1 ≤ w ∧ w ≤ 4096) (hlim : lim ≤ 65536) : fX9_lookFew_J247 h 92 r x2 x3 (nI n) (nI v) (nI k) (nI c) (nI (c + w - 1)) (nI lim) (nI (c + w - 1)) = some (if c + w - 1 < lim ∨ 1114111 < c ∨ 55296 ≤ c ∧ c + w - 1 ≤ 57343 then .inr (0, h) else .inl (nI v, nI (k + 1))) := by
  unfold fX9_lookFew_J247
  simp (disch := omega) only [li, nI_ltI, nI_add]
  by_cases h1 : c + w - 1 < lim
  · rw [if_pos h1, if_pos (Or.inl h1)]
  rw [if_neg h1]
  by_cases h2 : 1114111 < c
  · rw [if_pos h2, if_pos (Or.inr (Or.inl h2))]
  rw [if_neg h2]
  by_cases h3 : c < 55296
  · rw [if_pos h3, if_neg (by omega)]
  rw [if_neg h3]
  by_cases h4 : 57343 < c + w - 1
  · rw [if_pos h4, if_neg (by omega)]
  rw [if_neg h4, if_pos (by omega)]
theorem m_few1 {h : zH} {r at' n k v : Nat} {l : List Nat} (m : rAt h r at' l) (hn : n = 2 ∧ k = 1 ∨ n = 3 ∧ k = 1 ∨ n = 3 ∧ k = 2 ∨ n = 4 ∧ k = 1 ∨ n = 4 ∧ k = 2 ∨ n = 4 ∧ k = 3) (hv : v * 2 ^ (6 * (n - k)) < 2 ^ 21) (hl : k < l.length) :
    (fOk n k v (bt l k) → fX9_lookFew_L131 h 92 r (nI at') (nI (at' + l.length)) (nI n) (nI v) (nI k) = some (.inl (nI (v * 64 + bt l k % 64), nI (k + 1)))) ∧ (¬ fOk n k v (bt l k) → fX9_lookFew_L131 h 92 r (nI at') (nI (at' + l.length)) (nI n) (nI v) (nI k) = some (.inr (0, h))) := by
  have hb := m.2.2.2.2.b k
  have hL := m.2.1
  have hL2 := m.2.2.1
  have c := m.2.2.2.1 k hl
  have ix : nI at' + nI k = nI (at' + k) := nI_add _ _
  have hkn : k < n := by omega
  have hv2 : v < 2 ^ 15 := by
    rcases hn with ⟨rfl, rfl⟩ | ⟨rfl, rfl⟩ | ⟨rfl, rfl⟩ | ⟨rfl, rfl⟩ | ⟨rfl, rfl⟩ | ⟨rfl, rfl⟩ <;> simp only [Nat.reduceSub, Nat.reduceMul, Nat.reducePow] at hv <;> omega
  have key : fX9_lookFew_L131 h 92 r (nI at') (nI (at' + l.length)) (nI n) (nI v) (nI k) = (if 128 ≤ bt l k ∧ bt l k ≤ 191 then fX9_lookFew_J247 h 92 r (nI at') (nI (at' + l.length)) (nI n) (nI (v * 64 + bt l k % 64)) (nI k) (nI ((v * 64 + bt l k % 64) * 2 ^ (6 * (n - 1 - k)))) (nI ((v * 64 + bt l k % 64) * 2 ^ (6 * (n - 1 - k)) + 2 ^ (6 * (n - 1 - k)) - 1)) (nI (if n = 2 then 128 else if n = 3 then 2048 else 65536)) (nI ((v * 64 + bt l k % 64) * 2 ^ (6 * (n - 1 - k)) + 2 ^ (6 * (n - 1 - k)) - 1)) else some (.inr (0, h))) := by
    unfold fX9_lookFew_L131
    rw [if_neg (by rw [nI_leI (by omega) (by omega)]; omega), ix, if_pos (by rw [nI_ltI (by omega) (by omega)]; omega), zck_pos (m.ar hl), nI_clamp (by omega), c, show fX9_in (nI (bt l k)) 128 191 = _ from mc_in (a := 128) (b := 191) (by omega) (by omega) (by omega), zb1_s]
    by_cases hr : 128 ≤ bt l k ∧ bt l k ≤ 191
    case neg => rw [if_neg hr, if_pos rfl, if_neg hr]
    rw [if_pos hr, if_neg (by decide), if_pos hr]
    generalize hB : bt l k = b at *
    have e1 : nI v <<< ((6 : Int32) &&& 31) ||| (nI b &&& 63) = nI (v * 64 + b % 64) := by
      rw [show (6 : Int32) = nI 6 from rfl, shlI (by omega) (by omega), and63 (by omega), nI_or, or_add (k := 6) v (by omega)]
    rw [e1]
    rcases hn with ⟨rfl, rfl⟩ | ⟨rfl, rfl⟩ | ⟨rfl, rfl⟩ | ⟨rfl, rfl⟩ | ⟨rfl, rfl⟩ | ⟨rfl, rfl⟩ <;> simp only [Nat.reduceSub, Nat.reduceMul, Nat.reducePow] at hv ⊢
    · rw [if_pos (by rfl), show (6 : Int32) * (nI 2 - 1 - nI 1) = nI 0 from by decide +kernel, shlI (n := v * 64 + b % 64) (k := 0) (by omega) (by omega), show (1 : Int32) <<< (nI 0 &&& 31) = nI 1 from by decide +kernel, nI_add, show (1 : Int32) = nI 1 from rfl, pk_sub (by omega)]
      rfl
    · rw [if_neg (by decide), if_pos (by rfl), show (6 : Int32) * (nI 3 - 1 - nI 1) = nI 6 from by decide +kernel, shlI (n := v * 64 + b % 64) (k := 6) (by omega) (by omega), show (1 : Int32) <<< (nI 6 &&& 31) = nI 64 from by decide +kernel, nI_add, show (1 : Int32) = nI 1 from rfl, pk_sub (by omega)]
      rfl
    · rw [if_neg (by decide), if_pos (by rfl), show (6 : Int32) * (nI 3 - 1 - nI 2) = nI 0 from by decide +kernel, shlI (n := v * 64 + b % 64) (k := 0) (by omega) (by omega), show (1 : Int32) <<< (nI 0 &&& 31) = nI 1 from by decide +kernel, nI_add, show (1 : Int32) = nI 1 from rfl, pk_sub (by omega)]
      rfl
    · rw [if_neg (by decide), if_neg (by decide), show (6 : Int32) * (nI 4 - 1 - nI 1) = nI 12 from by decide +kernel, shlI (n := v * 64 + b % 64) (k := 12) (by omega) (by omega), show (1 : Int32) <<< (nI 12 &&& 31) = nI 4096 from by decide +kernel, nI_add, show (1 : Int32) = nI 1 from rfl, pk_sub (by omega)]
      rfl
    · rw [if_neg (by decide), if_neg (by decide), show (6 : Int32) * (nI 4 - 1 - nI 2) = nI 6 from by decide +kernel, shlI (n := v * 64 + b % 64) (k := 6) (by omega) (by omega), show (1 : Int32) <<< (nI 6 &&& 31) = nI 64 from by decide +kernel, nI_add, show (1 : Int32) = nI 1 from rfl, pk_sub (by omega)]
      rfl
    · rw [if_neg (by decide), if_neg (by decide), show (6 : Int32) * (nI 4 - 1 - nI 3) = nI 0 from by decide +kernel, shlI (n := v * 64 + b % 64) (k := 0) (by omega) (by omega), show (1 : Int32) <<< (nI 0 &&& 31) = nI 1 from by decide +kernel, nI_add, show (1 : Int32) = nI 1 from rfl, pk_sub (by omega)]
      rfl
  rw [key]
  have hj : fX9_lookFew_J247 h 92 r (nI at') (nI (at' + l.length)) (nI n) (nI (v * 64 + bt l k % 64)) (nI k) (nI ((v * 64 + bt l k % 64) * 2 ^ (6 * (n - 1 - k)))) (nI ((v * 64 + bt l k % 64) * 2 ^ (6 * (n - 1 - k)) + 2 ^ (6 * (n - 1 - k)) - 1)) (nI (if n = 2 then 128 else if n = 3 then 2048 else 65536)) (nI ((v * 64 + bt l k % 64) * 2 ^ (6 * (n - 1 - k)) + 2 ^ (6 * (n - 1 - k)) - 1)) = _ := m_fewJ (by
      rcases hn with ⟨rfl, rfl⟩ | ⟨rfl, rfl⟩ | ⟨rfl, rfl⟩ | ⟨rfl, rfl⟩ | ⟨rfl, rfl⟩ | ⟨rfl, rfl⟩ <;> simp only [Nat.reduceSub, Nat.reduceMul, Nat.reducePow] at hv ⊢ <;> omega) (by
      rcases hn with ⟨rfl, rfl⟩ | ⟨rfl, rfl⟩ | ⟨rfl, rfl⟩ | ⟨rfl, rfl⟩ | ⟨rfl, rfl⟩ | ⟨rfl, rfl⟩ <;> decide) (by (repeat' split) <;> omega)
  rw [hj]
  unfold fOk
  refine ⟨fun q => ?_, fun q => ?_⟩
  · rw [if_pos ⟨q.1, q.2.1⟩, if_neg q.2.2]
  · by_cases hr : 128 ≤ bt l k ∧ bt l k ≤ 191
    · rw [if_pos hr, if_pos]
      exact Classical.not_not.mp (fun nn => q ⟨hr.1, hr.2, nn⟩)
    · rw [if_neg hr]
theorem m_few0 {h : zH} {r at' n k : Nat} {v : Int32} {l : List Nat} (m : rAt h r at' l) (hk : k < n) (hn : n ≤ 4) (hl : l.length ≤ k) : fX9_lookFew_L131 h 92 r (nI at') (nI (at' + l.length)) (nI n) v (nI k) = some (.inr (1, h)) := by
  have hL := m.2.1
  have hL2 := m.2.2.1
  unfold fX9_lookFew_L131
  rw [if_neg (by rw [nI_leI (by omega) (by omega)]; omega), nI_add, if_neg (by rw [nI_ltI (by omega) (by omega)]; omega)]
theorem m_few2 {h : zH} {r n : Nat} {x2 x3 v : Int32} : fX9_lookFew_L131 h 92 r x2 x3 (nI n) v (nI n) = some (.inr (2, zsI (zsI h 92 40 (nI n)) 92 41 v)) := by
  unfold fX9_lookFew_L131
  rw [if_pos (Int32.le_refl _)]
  rfl
theorem m_lookFew {h : zH} {p r at' : Nat} {l : List Nat} (m : rAt h r at' l) : zw (fX9_lookFew h 92 r (nI at') (nI (at' + l.length))) (lkQ h p (gLkF l)) := by
  have hL := m.2.1
  have hL2 := m.2.2.1
  have b0 := m.2.2.2.2.b 0
  have b1 := m.2.2.2.2.b 1
  have b2 := m.2.2.2.2.b 2
  have b3 := m.2.2.2.2.b 3
  unfold fX9_lookFew gLkF
  by_cases h0 : l.length = 0
  · rw [if_neg (by rw [nI_ltI (by omega) (by omega)]; omega), if_pos h0, zw_some]
    exact lkQ_no (by omega) rfl
  have c0 := m.2.2.2.1 0 (by omega)
  rw [Nat.add_zero] at c0
  rw [if_pos (by rw [nI_ltI (by omega) (by omega)]; omega), if_neg h0, zw_ck, nI_clamp (by omega), c0]
  refine ⟨m.ar (k := 0) (by omega), ?_⟩
  have gen : ∀ n v, n = fLen (bt l 0) → (n = 1 ∧ v = bt l 0 ∨ n = 2 ∧ v = bt l 0 % 32 ∨ n = 3 ∧ v = bt l 0 % 16 ∨ n = 4 ∧ v = bt l 0 % 8) → zw (fX9_lookFew_J126 h 92 r (nI at') (nI (at' + l.length)) (nI n) (nI v)) (lkQ h p (if fLen (bt l 0) = 0 then (0, 0, 0) else @ite _ (fFine l (min l.length (fLen (bt l 0)))) (Classical.propDecidable _) (if fLen (bt l 0) ≤ l.length then (2, fLen (bt l 0), fPt l (fLen (bt l 0))) else (1, 0, 0)) (0, 0, 0))) := by
    intro n v hn hv
    rw [← hn, if_neg (by omega)]
    unfold fX9_lookFew_J126
    have fin2 : ∀ w : Nat, w = fPt l n → n ≤ l.length → fFine l n → zw (some ((2 : Int32), zsI (zsI h 92 40 (nI n)) 92 41 (nI w))) (lkQ h p (@ite _ (fFine l (min l.length n)) (Classical.propDecidable _) (if n ≤ l.length then (2, n, fPt l n) else (1, 0, 0)) (0, 0, 0))) := by
      intro w hw hl hf
      rw [Nat.min_eq_right hl, if_pos hf, if_pos hl, zw_some, hw]
      exact lkQ_hit rfl rfl
    have fin1 : l.length < n → fFine l l.length → zw (some ((1 : Int32), h)) (lkQ h p (@ite _ (fFine l (min l.length n)) (Classical.propDecidable _) (if n ≤ l.length then (2, n, fPt l n) else (1, 0, 0)) (0, 0, 0))) := by
      intro hl hf
      rw [Nat.min_eq_left (by omega), if_pos hf, if_neg (by omega), zw_some]
      exact lkQ_no (by omega) rfl
    have fin0 : ¬ fFine l (min l.length n) → zw (some ((0 : Int32), h)) (lkQ h p (@ite _ (fFine l (min l.length n)) (Classical.propDecidable _) (if n ≤ l.length then (2, n, fPt l n) else (1, 0, 0)) (0, 0, 0))) := by
      intro hf
      rw [if_neg hf, zw_some]
      exact lkQ_no (by omega) rfl
    have hn' := hn
    unfold fLen at hn'
    rcases hv with ⟨rfl, rfl⟩ | ⟨rfl, rfl⟩ | ⟨rfl, rfl⟩ | ⟨rfl, rfl⟩
    · rw [zlp_inr (by exact m_few2)]
      exact fin2 _ rfl (by omega) ⟨fun q => absurd q (by omega), fun q => absurd q (by omega), fun q => absurd q (by omega)⟩
    · have hb0 : 194 ≤ bt l 0 ∧ bt l 0 < 224 := by (repeat' split at hn') <;> omega
      by_cases l1 : l.length ≤ 1
      · rw [zlp_inr (by exact m_few0 m (k := 1) (by omega) (by omega) l1)]
        exact fin1 (by omega) ⟨fun q => absurd q (by omega), fun q => absurd q (by omega), fun q => absurd q (by omega)⟩
      obtain ⟨s1, s2⟩ := m_few1 (n := 2) (k := 1) (v := bt l 0 % 32) m (by omega) (by simp only [Nat.reduceSub, Nat.reduceMul, Nat.reducePow]; omega) (by omega)
      by_cases f1 : fOk 2 1 (bt l 0 % 32) (bt l 1)
      · rw [zlp_inl (by exact s1 f1), zlp_inr (by exact m_few2)]
        unfold fOk at f1
        simp only [Nat.reduceSub, Nat.reduceMul, Nat.reducePow, if_true, Nat.reduceEqDiff, if_false] at f1
        refine fin2 _ rfl (by omega) ⟨fun _ => ?_, fun q => absurd q (by omega), fun q => absurd q (by omega)⟩
        unfold fSec
        rw [if_neg (by omega), if_neg (by omega), if_neg (by omega), if_neg (by omega)]
        exact ⟨f1.1, f1.2.1⟩
      · rw [zlp_inr (by exact s2 f1)]
        refine fin0 fun q => f1 ?_
        have q1 := q.1 (by omega)
        unfold fSec at q1
        rw [if_neg (by omega), if_neg (by omega), if_neg (by omega), if_neg (by omega)] at q1
        unfold fOk
        simp only [Nat.reduceSub, Nat.reduceMul, Nat.reducePow, if_true, Nat.reduceEqDiff, if_false]
        omega
    · have hb0 : 224 ≤ bt l 0 ∧ bt l 0 < 240 := by (repeat' split at hn') <;> omega
      by_cases l1 : l.length ≤ 1
      · rw [zlp_inr (by exact m_few0 m (k := 1) (by omega) (by omega) l1)]
        exact fin1 (by omega) ⟨fun q => absurd q (by omega), fun q => absurd q (by omega), fun q => absurd q (by omega)⟩
      obtain ⟨s1, s2⟩ := m_few1 (n := 3) (k := 1) (v := bt l 0 % 16) m (by omega) (by simp only [Nat.reduceSub, Nat.reduceMul, Nat.reducePow]; omega) (by omega)
      have i1 : fOk 3 1 (bt l 0 % 16) (bt l 1) ↔ fSec (bt l 0) (bt l 1) := by
        unfold fOk fSec
        simp only [Nat.reduceSub, Nat.reduceMul, Nat.reducePow, if_true, Nat.reduceEqDiff, if_false]
        rw [if_neg (show ¬ bt l 0 = 240 by omega), if_neg (show ¬ bt l 0 = 244 by omega)]
        (repeat' split) <;> omega
      by_cases f1 : fOk 3 1 (bt l 0 % 16) (bt l 1)
      · rw [zlp_inl (by exact s1 f1)]
        have g1 := i1.mp f1
        unfold fOk at f1
        simp only [Nat.reduceSub, Nat.reduceMul, Nat.reducePow, if_true, Nat.reduceEqDiff, if_false] at f1
        by_cases l2 : l.length ≤ 2
        · rw [zlp_inr (by exact m_few0 m (k := 2) (by omega) (by omega) l2)]
          exact fin1 (by omega) ⟨fun _ => g1, fun q => absurd q (by omega), fun q => absurd q (by omega)⟩
        obtain ⟨t1, t2⟩ := m_few1 (n := 3) (k := 2) (v := bt l 0 % 16 * 64 + bt l 1 % 64) m (by omega) (by simp only [Nat.reduceSub, Nat.reduceMul, Nat.reducePow]; omega) (by omega)
        have i2 : fOk 3 2 (bt l 0 % 16 * 64 + bt l 1 % 64) (bt l 2) ↔ 128 ≤ bt l 2 ∧ bt l 2 ≤ 191 := by
          unfold fOk
          simp only [Nat.reduceSub, Nat.reduceMul, Nat.reducePow, if_true, Nat.reduceEqDiff, if_false]
          omega
        by_cases f2 : fOk 3 2 (bt l 0 % 16 * 64 + bt l 1 % 64) (bt l 2)
        · rw [zlp_inl (by exact t1 f2), zlp_inr (by exact m_few2)]
          exact fin2 _ rfl (by omega) ⟨fun _ => g1, fun _ => i2.mp f2, fun q => absurd q (by omega)⟩
        · rw [zlp_inr (by exact t2 f2)]
          exact fin0 fun q => f2 (i2.mpr (q.2.1 (by omega)))
      · rw [zlp_inr (by exact s2 f1)]
        exact fin0 fun q => f1 (i1.mpr (q.1 (by omega)))
    · have hb0 : 240 ≤ bt l 0 ∧ bt l 0 < 245 := by (repeat' split at hn') <;> omega
      by_cases l1 : l.length ≤ 1
      · rw [zlp_inr (by exact m_few0 m (k := 1) (by omega) (by omega) l1)]
        exact fin1 (by omega) ⟨fun q => absurd q (by omega), fun q => absurd q (by omega), fun q => absurd q (by omega)⟩
      obtain ⟨s1, s2⟩ := m_few1 (n := 4) (k := 1) (v := bt l 0 % 8) m (by omega) (by simp only [Nat.reduceSub, Nat.reduceMul, Nat.reducePow]; omega) (by omega)
      have i1 : fOk 4 1 (bt l 0 % 8) (bt l 1) ↔ fSec (bt l 0) (bt l 1) := by
        unfold fOk fSec
        simp only [Nat.reduceSub, Nat.reduceMul, Nat.reducePow, if_true, Nat.reduceEqDiff, if_false]
        rw [if_neg (show ¬ bt l 0 = 224 by omega), if_neg (show ¬ bt l 0 = 237 by omega)]
        (repeat' split) <;> omega
      by_cases f1 : fOk 4 1 (bt l 0 % 8) (bt l 1)
      · rw [zlp_inl (by exact s1 f1)]
        have g1 := i1.mp f1
        unfold fOk at f1
        simp only [Nat.reduceSub, Nat.reduceMul, Nat.reducePow, if_true, Nat.reduceEqDiff, if_false] at f1
        by_cases l2 : l.length ≤ 2
        · rw [zlp_inr (by exact m_few0 m (k := 2) (by omega) (by omega) l2)]
          exact fin1 (by omega) ⟨fun _ => g1, fun q => absurd q (by omega), fun q => absurd q (by omega)⟩
        obtain ⟨t1, t2⟩ := m_few1 (n := 4) (k := 2) (v := bt l 0 % 8 * 64 + bt l 1 % 64) m (by omega) (by simp only [Nat.reduceSub, Nat.reduceMul, Nat.reducePow]; omega) (by omega)
        have i2 : fOk 4 2 (bt l 0 % 8 * 64 + bt l 1 % 64) (bt l 2) ↔ 128 ≤ bt l 2 ∧ bt l 2 ≤ 191 := by
          unfold fOk
          simp only [Nat.reduceSub, Nat.reduceMul, Nat.reducePow, if_true, Nat.reduceEqDiff, if_false]
          omega
        by_cases f2 : fOk 4 2 (bt l 0 % 8 * 64 + bt l 1 % 64) (bt l 2)
        · rw [zlp_inl (by exact t1 f2)]
          by_cases l3 : l.length ≤ 3
          · rw [zlp_inr (by exact m_few0 m (k := 3) (by omega) (by omega) l3)]
            exact fin1 (by omega) ⟨fun _ => g1, fun _ => i2.mp f2, fun q => absurd q (by omega)⟩
          obtain ⟨u1, u2⟩ := m_few1 (n := 4) (k := 3) (v := (bt l 0 % 8 * 64 + bt l 1 % 64) * 64 + bt l 2 % 64) m (by omega) (by simp only [Nat.reduceSub, Nat.reduceMul, Nat.reducePow]; omega) (by omega)
          have i3 : fOk 4 3 ((bt l 0 % 8 * 64 + bt l 1 % 64) * 64 + bt l 2 % 64) (bt l 3) ↔ 128 ≤ bt l 3 ∧ bt l 3 ≤ 191 := by
            unfold fOk
            simp only [Nat.reduceSub, Nat.reduceMul, Nat.reducePow, if_true, Nat.reduceEqDiff, if_false]
            omega
          by_cases f3 : fOk 4 3 ((bt l 0 % 8 * 64 + bt l 1 % 64) * 64 + bt l 2 % 64) (bt l 3)
          · rw [zlp_inl (by exact u1 f3), zlp_inr (by exact m_few2)]
            exact fin2 _ rfl (by omega) ⟨fun _ => g1, fun _ => i2.mp f2, fun _ => i3.mp f3⟩
          · rw [zlp_inr (by exact u2 f3)]
            exact fin0 fun q => f3 (i3.mpr (q.2.2 (by omega)))
        · rw [zlp_inr (by exact t2 f2)]
          exact fin0 fun q => f2 (i2.mpr (q.2.1 (by omega)))
      · rw [zlp_inr (by exact s2 f1)]
        exact fin0 fun q => f1 (i1.mpr (q.1 (by omega)))
  have g0 : fLen (bt l 0) = 0 → zw (fX9_lookFew_J79 h 92 r (nI at') (nI (at' + l.length)) (nI (bt l 0)) 0) (lkQ h p (if fLen (bt l 0) = 0 then (0, 0, 0) else @ite _ (fFine l (min l.length (fLen (bt l 0)))) (Classical.propDecidable _) (if fLen (bt l 0) ≤ l.length then (2, fLen (bt l 0), fPt l (fLen (bt l 0))) else (1, 0, 0)) (0, 0, 0))) := by
    intro e
    unfold fX9_lookFew_J79
    rw [if_pos rfl, if_pos e, zw_some]
    exact lkQ_no (by omega) rfl
  by_cases a1 : bt l 0 < 128
  · rw [if_neg (by rw [li, nI_leI (by omega) (by omega)]; omega)]
    unfold fX9_lookFew_J79
    rw [if_neg (by decide), if_pos rfl]
    exact gen 1 _ (by unfold fLen; rw [if_pos a1]) (by omega)
  rw [if_pos (by rw [li, nI_leI (by omega) (by omega)]; omega), show fX9_in (nI (bt l 0)) 194 223 = _ from mc_in (a := 194) (b := 223) (by omega) (by omega) (by omega), zb1_s]
  by_cases a2 : 194 ≤ bt l 0 ∧ bt l 0 ≤ 223
  · rw [if_pos a2, if_neg (by decide)]
    unfold fX9_lookFew_J79 fX9_lookFew_J125
    rw [if_neg (by decide), if_neg (by decide), if_pos rfl, show nI (bt l 0) &&& 31 = nI (bt l 0 % 32) from pk_andN (by omega) 5 (by decide)]
    exact gen 2 _ (by unfold fLen; rw [if_neg (by omega), if_neg (by omega), if_pos (by omega)]) (by omega)
  rw [if_neg a2, if_pos rfl, show fX9_in (nI (bt l 0)) 224 239 = _ from mc_in (a := 224) (b := 239) (by omega) (by omega) (by omega), zb1_s]
  by_cases a3 : 224 ≤ bt l 0 ∧ bt l 0 ≤ 239
  · rw [if_pos a3, if_neg (by decide)]
    unfold fX9_lookFew_J79 fX9_lookFew_J125
    rw [if_neg (by decide), if_neg (by decide), if_neg (by decide), if_pos rfl, show nI (bt l 0) &&& 15 = nI (bt l 0 % 16) from pk_andN (by omega) 4 (by decide)]
    exact gen 3 _ (by unfold fLen; rw [if_neg (by omega), if_neg (by omega), if_neg (by omega), if_pos (by omega)]) (by omega)
  rw [if_neg a3, if_pos rfl, show fX9_in (nI (bt l 0)) 240 244 = _ from mc_in (a := 240) (b := 244) (by omega) (by omega) (by omega), zb1_s]
  by_cases a4 : 240 ≤ bt l 0 ∧ bt l 0 ≤ 244
  · rw [if_pos a4, if_neg (by decide)]
    unfold fX9_lookFew_J79 fX9_lookFew_J125
    rw [if_neg (by decide), if_neg (by decide), if_neg (by decide), if_neg (by decide), show nI (bt l 0) &&& 7 = nI (bt l 0 % 8) from pk_andN (by omega) 3 (by decide)]
    exact gen 4 _ (by unfold fLen; rw [if_neg (by omega), if_neg (by omega), if_neg (by omega), if_neg (by omega), if_pos (by omega)]) (by omega)
  rw [if_neg a4, if_pos rfl]
  exact g0 (by unfold fLen; (repeat' split) <;> omega)
