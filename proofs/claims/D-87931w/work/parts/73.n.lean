/-! reading bit by bit is reading all -/
set_option maxRecDepth 100000
theorem bt_app {l m : List Nat} {k : Nat} (h : k < l.length) : bt (l ++ m) k = bt l k := gD_l h
theorem num_app {l m : List Nat} {n : Nat} (h : n ≤ l.length) (h3 : n ≤ 3) : num (l ++ m) n = num l n := by
  unfold num
  have e : n = 0 ∨ n = 1 ∨ n = 2 ∨ n = 3 := by omega
  rcases e with rfl | rfl | rfl | rfl
  · rfl
  · simp only [Nat.reduceEqDiff, if_true, if_false]; rw [bt_app (by omega)]
  · simp only [Nat.reduceEqDiff, if_true, if_false]; rw [bt_app (by omega), bt_app (by omega)]
  · simp only [Nat.reduceEqDiff, if_false]; rw [bt_app (by omega), bt_app (by omega), bt_app (by omega)]
theorem isB.app {l m : List Nat} (h1 : isB l) (h2 : isB m) : isB (l ++ m) := by
  intro k hk
  rw [List.length_append] at hk
  by_cases e : k < l.length
  · rw [bt_app e]; exact h1 k e
  · have := gD_r l m (k - l.length)
    rw [show l.length + (k - l.length) = k by omega] at this
    unfold bt
    rw [this]
    exact h2 _ (by omega)
theorem fFine_app {l m : List Nat} {n : Nat} (h : n ≤ l.length) : fFine (l ++ m) n ↔ fFine l n := by
  unfold fFine
  constructor
  · rintro ⟨f1, f2, f3⟩
    refine ⟨fun q => ?_, fun q => ?_, fun q => ?_⟩
    · have := f1 q; rw [bt_app (by omega), bt_app (by omega)] at this; exact this
    · have := f2 q; rw [bt_app (by omega)] at this; exact this
    · have := f3 q; rw [bt_app (by omega)] at this; exact this
  · rintro ⟨f1, f2, f3⟩
    refine ⟨fun q => ?_, fun q => ?_, fun q => ?_⟩
    · rw [bt_app (by omega), bt_app (by omega)]; exact f1 q
    · rw [bt_app (by omega)]; exact f2 q
    · rw [bt_app (by omega)]; exact f3 q
theorem fFine_mono {l : List Nat} {n m : Nat} (h : n ≤ m) (f : fFine l m) : fFine l n := ⟨fun q => f.1 (by omega), fun q => f.2.1 (by omega), fun q => f.2.2 (by omega)⟩
theorem fPt_app {l m : List Nat} {n : Nat} (h1 : 1 ≤ n) (h : n ≤ l.length) (h4 : n ≤ 4) : fPt (l ++ m) n = fPt l n := by
  unfold fPt
  have e : n = 1 ∨ n = 2 ∨ n = 3 ∨ n = 4 := by omega
  rcases e with rfl | rfl | rfl | rfl <;> simp only [Nat.reduceEqDiff, if_true, if_false]
  · rw [bt_app (by omega)]
  · rw [bt_app (by omega), bt_app (by omega)]
  · rw [bt_app (by omega), bt_app (by omega), bt_app (by omega)]
  · rw [bt_app (by omega), bt_app (by omega), bt_app (by omega), bt_app (by omega)]
theorem gLkF_app {l m : List Nat} (hl : 1 ≤ l.length) (h1 : (gLkF l).1 ≠ 1) : gLkF (l ++ m) = gLkF l := by
  have hf4 : fLen (bt l 0) ≤ 4 := by unfold fLen; (repeat' split) <;> omega
  have e0 : bt (l ++ m) 0 = bt l 0 := bt_app (by omega)
  have eL : (l ++ m).length = l.length + m.length := List.length_append
  unfold gLkF at h1 ⊢
  rw [e0, eL]
  rw [if_neg (show ¬ l.length = 0 by omega)] at h1
  rw [if_neg (show ¬ l.length + m.length = 0 by omega), if_neg (show ¬ l.length = 0 by omega)]
  by_cases z0 : fLen (bt l 0) = 0
  · rw [if_pos z0, if_pos z0]
  rw [if_neg z0] at h1
  rw [if_neg z0, if_neg z0]
  by_cases hf : fFine l (min l.length (fLen (bt l 0)))
  · rw [if_pos hf] at h1
    by_cases hl2 : fLen (bt l 0) ≤ l.length
    · have hf' := hf
      rw [Nat.min_eq_right hl2] at hf'
      have hfa : fFine (l ++ m) (min (l.length + m.length) (fLen (bt l 0))) := by rw [Nat.min_eq_right (by omega)]; exact (fFine_app hl2).mpr hf'
      rw [if_pos hfa, if_pos hf, if_pos (show fLen (bt l 0) ≤ l.length + m.length by omega), if_pos hl2, fPt_app (by omega) hl2 hf4]
    · rw [if_neg hl2] at h1; exact absurd rfl h1
  · have hfa : ¬ fFine (l ++ m) (min (l.length + m.length) (fLen (bt l 0))) := fun q => hf ((fFine_app (m := m) (by omega)).mp (fFine_mono (by omega) q))
    rw [if_neg hf, if_neg hfa]
theorem gLkW_app {hi : Nat} {l m : List Nat} (hl : 1 ≤ l.length) (h1 : (gLkW hi l).1 ≠ 1) : gLkW hi (l ++ m) = gLkW hi l := by
  have e0 : bt (l ++ m) 0 = bt l 0 := bt_app (by omega)
  have eL : (l ++ m).length = l.length + m.length := List.length_append
  have u0 : 2 ≤ l.length → uAt hi (l ++ m) 0 = uAt hi l 0 := fun q => by unfold uAt; rw [bt_app (by omega), bt_app (by omega)]
  have u2 : 4 ≤ l.length → uAt hi (l ++ m) 2 = uAt hi l 2 := fun q => by unfold uAt; rw [bt_app (by omega), bt_app (by omega)]
  have e2 : 3 ≤ l.length → bt (l ++ m) 2 = bt l 2 := fun q => bt_app (by omega)
  unfold gLkW at h1 ⊢
  rw [eL, e0]
  rw [if_neg (show ¬ l.length < 1 by omega)] at h1
  rw [if_neg (show ¬ l.length + m.length < 1 by omega), if_neg (show ¬ l.length < 1 by omega)]
  by_cases q1 : hi ≠ 0 ∧ 220 ≤ bt l 0 ∧ bt l 0 ≤ 223
  · rw [if_pos q1, if_pos q1]
  rw [if_neg q1] at h1
  rw [if_neg q1, if_neg q1]
  by_cases l2 : l.length < 2
  · rw [if_pos l2] at h1; exact absurd rfl h1
  rw [if_neg l2] at h1
  rw [if_neg (show ¬ l.length + m.length < 2 by omega), if_neg l2, u0 (by omega)]
  by_cases q2 : isLo (uAt hi l 0)
  · rw [if_pos q2, if_pos q2]
  rw [if_neg q2] at h1
  rw [if_neg q2, if_neg q2]
  by_cases q3 : isHi (uAt hi l 0)
  case neg => rw [if_neg q3, if_neg q3]
  rw [if_pos q3] at h1
  rw [if_pos q3, if_pos q3]
  by_cases l3 : l.length < 3
  · rw [if_pos l3] at h1; exact absurd rfl h1
  rw [if_neg l3] at h1
  rw [if_neg (show ¬ l.length + m.length < 3 by omega), if_neg l3, e2 (by omega)]
  by_cases q4 : hi = 0 ∧ l.length < 4
  · rw [if_pos q4] at h1; exact absurd rfl h1
  rw [if_neg q4] at h1
  rw [if_neg (show ¬ (hi = 0 ∧ l.length + m.length < 4) by omega), if_neg q4]
  by_cases q5 : hi ≠ 0 ∧ ¬ (220 ≤ bt l 2 ∧ bt l 2 ≤ 223)
  · rw [if_pos q5, if_pos q5]
  rw [if_neg q5] at h1
  rw [if_neg q5, if_neg q5]
  by_cases l4 : l.length < 4
  · rw [if_pos l4] at h1; exact absurd rfl h1
  rw [if_neg (show ¬ l.length + m.length < 4 by omega), if_neg l4, u2 (by omega)]
/-- two items that both stand there are one -/
theorem iF_uq {g : gP} {l : List Nat} {c t : Nat} (sm : gSm g) (pf : gPf g) (hB : isB l) (hl : 1 ≤ l.length) (hc : iOk g c) (ht : iOk g t) (hst : iSt g c = iSt g t) (h1 : iF g l c) (h2 : iF g l t) : c = t := by
  have wc := iWf sm hc
  have wt := iWf sm ht
  have k1 := (iF_key hB hl ⟨wc.1, wc.2.1, wc.2.2.1⟩ h1)
  have k2 := (iF_key hB hl ⟨wt.1, wt.2.1, wt.2.2.1⟩ h2)
  rcases Nat.le_total (iKey g c) (iKey g t) with q | q
  · exact last_F sm pf hB hl hc ht hst q k2.1 h1
  · exact (last_F sm pf hB hl ht hc hst.symm q k1.1 h2).symm
theorem iF_app {g : gP} {l m : List Nat} {c : Nat} (sm : gSm g) (hc : iOk g c) (h : iLn g c ≤ l.length) : iF g (l ++ m) c ↔ iF g l c := by
  have wc := iWf sm hc
  unfold iF
  rw [num_app h wc.2.1, List.length_append]
  exact ⟨fun q => ⟨h, q.2⟩, fun q => ⟨by omega, q.2⟩⟩
theorem gLk_app {g : gP} {st pd : Nat} {l m : List Nat} (pr : pgR g) (hl : l ≠ []) (hB : isB l) (hBm : isB m) (h1 : (gLk g st pd l).1 ≠ 1) : gLk g st pd (l ++ m) = gLk g st pd l := by
  obtain ⟨sm, cl, pf⟩ := pr
  have hlen : 0 < l.length := List.length_pos_iff.mpr hl
  have hBa := hB.app hBm
  have hLa : 1 ≤ (l ++ m).length := by rw [List.length_append]; omega
  by_cases k3 : g 0 0 = 3
  · unfold gLk at h1 ⊢
    rw [if_pos k3] at h1 ⊢
    rw [if_pos k3]
    exact gLkF_app hlen h1
  by_cases k0 : g 0 0 = 0
  case neg =>
    unfold gLk at h1 ⊢
    rw [if_neg k3, if_neg k0] at h1 ⊢
    rw [if_neg k3, if_neg k0]
    exact gLkW_app hlen h1
  have pf := pf k0
  have s2 := sm.2.2.1
  have c3 : (gLk g st pd l).1 ≤ 3 := gLk_c
  generalize hdue : (if pd = 4 then st else pd) = due
  -- the three ways
  by_cases f1 : ∃ c, c < g 2 0 ∧ iSt g c = due ∧ iF g l c
  · obtain ⟨c, hc, hsc, hF⟩ := f1
    have hFa : iF g (l ++ m) c := (iF_app sm (Or.inl hc) hF.1).mpr hF
    rw [gLk_e k0 sm hc (by rw [hdue]; exact hsc) hF (fun d hd hsd hFd => iF_uq sm pf hB hlen hd (Or.inl hc) (by rw [hsd, hdue, hsc]) hFd hF), gLk_e k0 sm hc (by rw [hdue]; exact hsc) hFa (fun d hd hsd hFd => iF_uq sm pf hBa hLa hd (Or.inl hc) (by rw [hsd, hdue, hsc]) hFd hFa)]
  by_cases f2 : pd = 4 ∧ ∃ c, (100 ≤ c ∧ c - 100 < g 3 0) ∧ iSt g c = st ∧ iF g l c
  · obtain ⟨p4, c, hc, hsc, hF⟩ := f2
    have hFa : iF g (l ++ m) c := (iF_app sm (Or.inr hc) hF.1).mpr hF
    rw [gLk_s k0 sm hlen p4 hc hsc hF (fun d hd hsd hFd => iF_uq sm pf hB hlen hd (Or.inr hc) (by rw [hsd, hsc]) hFd hF), gLk_s k0 sm hLa p4 hc hsc hFa (fun d hd hsd hFd => iF_uq sm pf hBa hLa hd (Or.inr hc) (by rw [hsd, hsc]) hFd hFa)]
  have e1 := gLk_n (g := g) (st := st) (pd := pd) (l := l) k0 sm (fun c hc hsc hF => f1 ⟨c, hc, by rw [← hdue]; exact hsc, hF⟩) (fun p4 c q1 q2 hsc hF => f2 ⟨p4, c, ⟨q1, q2⟩, hsc, hF⟩)
  rw [hdue] at e1
  by_cases f3 : ff (gBm g due l) (g 2 0) < g 2 0
  · rw [if_pos f3] at e1
    rw [e1] at h1
    exact absurd rfl h1
  rw [if_neg f3] at e1
  have nb : ∀ c, c < g 2 0 → iSt g c = due → ¬ iBg g l c := fun c hc hsc hb => by
    have hm := (gBm_iff (due := due) sm hc).mpr ⟨hsc, hb⟩
    have hle := ff_le (gBm g due l) (g 2 0)
    have := ff_no (gBm g due l) (g 2 0) c (by omega)
    rw [hm] at this; cases this
  -- a longer text that stands there would begin here
  have pre : ∀ c, c < g 2 0 → iSt g c = due → iF g (l ++ m) c ∨ iBg g (l ++ m) c → False := fun c hc hsc hq => by
    have wc := iWf sm (Or.inl hc)
    have b0 := xb_lt hB 0
    by_cases hlc : iLn g c ≤ l.length
    · rcases hq with q | q
      · exact f1 ⟨c, hc, hsc, (iF_app sm (Or.inl hc) hlc).mp q⟩
      · have := q.1; rw [List.length_append] at this; omega
    · refine nb c hc hsc ?_
      have kk : iKey g c / 2 ^ (8 * (3 - l.length)) = xK (l ++ m) / 2 ^ (8 * (3 - l.length)) := by
        rcases hq with q | q
        · have k1 := (iF_key hBa hLa ⟨wc.1, wc.2.1, wc.2.2.1⟩ q).2
          have e2 : 2 ^ (8 * (3 - l.length)) = 2 ^ (8 * (3 - iLn g c)) * 2 ^ (8 * (iLn g c - l.length)) := by
            rw [← Nat.pow_add]; congr 1; omega
          rw [e2, ← Nat.div_div_eq_div_mul, ← Nat.div_div_eq_div_mul, k1]
        · have k1 := (iB_key hBa hLa ⟨wc.1, wc.2.1, wc.2.2.1⟩ q).2
          have ql := q.1
          rw [List.length_append] at ql k1
          have e2 : 2 ^ (8 * (3 - l.length)) = 2 ^ (8 * (3 - (l.length + m.length))) * 2 ^ (8 * (l.length + m.length - l.length)) := by
            rw [← Nat.pow_add]; congr 1; omega
          rw [e2, ← Nat.div_div_eq_div_mul, ← Nat.div_div_eq_div_mul, k1]
      have kx : xK (l ++ m) / 2 ^ (8 * (3 - l.length)) = xK l / 2 ^ (8 * (3 - l.length)) := by
        have a0 := xb_lt hBa 0
        have a1 := xb_lt hBa 1
        have a2 := xb_lt hBa 2
        have c1 := xb_lt hB 1
        have c2 := xb_lt hB 2
        have x0 : xb (l ++ m) 0 = xb l 0 := by unfold xb; rw [if_pos (by omega), if_pos hlen, bt_app hlen]
        unfold xK
        have e : l.length = 1 ∨ l.length = 2 := by omega
        rcases e with e | e
        · rw [e]
          simp only [Nat.reduceSub, Nat.reduceMul, Nat.reducePow]
          omega
        · have x1 : xb (l ++ m) 1 = xb l 1 := by unfold xb; rw [if_pos (by rw [List.length_append]; omega), if_pos (by omega), bt_app (by omega)]
          rw [e]
          simp only [Nat.reduceSub, Nat.reduceMul, Nat.reducePow]
          omega
      exact (key_i hB hlen ⟨wc.1, wc.2.1, wc.2.2.1⟩ (by rw [Nat.min_eq_right (by omega), kk, kx])).2 (by omega)
  have e2 := gLk_n (g := g) (st := st) (pd := pd) (l := l ++ m) k0 sm (fun c hc hsc hF => pre c hc (by rw [← hdue]; exact hsc) (Or.inl hF)) (fun p4 c q1 q2 hsc hF => f2 ⟨p4, c, ⟨q1, q2⟩, hsc, (iF_app sm (Or.inr ⟨q1, q2⟩) (by have : iLn g c = 1 := if_neg (by omega); omega)).mp hF⟩)
  rw [hdue, if_neg (ff_none fun k hk q => by
    have h2 := (gBm_iff sm hk).mp q
    exact pre k hk h2.1 (Or.inr h2.2))] at e2
  rw [e1, e2]
theorem gLk_1 {g : gP} {st pd : Nat} {l : List Nat} (sm : gSm g) (h1 : (gLk g st pd l).1 = 1) : l.length ≤ 3 := by
  unfold gLk at h1
  by_cases k3 : g 0 0 = 3
  · rw [if_pos k3] at h1
    unfold gLkF at h1
    have hf4 : fLen (bt l 0) ≤ 4 := by unfold fLen; (repeat' split) <;> omega
    (repeat' split at h1) <;> first | omega | (exfalso; revert h1; simp)
  rw [if_neg k3] at h1
  by_cases k0 : g 0 0 = 0
  · rw [if_pos k0] at h1
    generalize hdue : (if pd = 4 then st else pd) = due at h1
    by_cases w1 : ff (gFm g due l) (g 2 0) < g 2 0
    · rw [if_pos w1] at h1; cases h1
    rw [if_neg w1] at h1
    by_cases w2 : pd = 4 ∧ 0 < l.length ∧ gSh g st (bt l 0) < g 3 0
    · rw [if_pos w2] at h1; cases h1
    rw [if_neg w2] at h1
    by_cases q : ff (gBm g due l) (g 2 0) < g 2 0
    · have hb := ((gBm_iff sm q).mp (ff_yes _ _ q)).2
      have wc := iWf sm (Or.inl q)
      have := hb.1
      omega
    · rw [if_neg q] at h1; cases h1
  · rw [if_neg k0] at h1
    unfold gLkW at h1
    (repeat' split at h1) <;> first | omega | cases h1
theorem gR1_app {g : gP} {rule sg st pd : Nat} {l m : List Nat} (hl : 0 < l.length) (e : gLk g st pd (l ++ m) = gLk g st pd l) : gR1 g rule sg st pd (l ++ m) = gR1 g rule sg st pd l := by
  unfold gR1
  rw [e, bt_app hl]
theorem gRead_app {g : gP} {rule sg : Nat} {last : Bool} (pr : pgR g) : ∀ (n st pd : Nat) (l m o : List Nat) (f : Nat), l.length ≤ n → isB l → isB m → ((gRead g rule sg false st pd l o f).1 ≠ 1 → gRead g rule sg last st pd (l ++ m) o f = gRead g rule sg last (gRead g rule sg false st pd l o f).2.1 (gRead g rule sg false st pd l o f).2.2.1 ((gRead g rule sg false st pd l o f).2.2.2.1 ++ m) (gRead g rule sg false st pd l o f).2.2.2.2.1 (gRead g rule sg false st pd l o f).2.2.2.2.2) ∧ ((gRead g rule sg false st pd l o f).1 = 1 → gRead g rule sg last st pd (l ++ m) o f = (1, (gRead g rule sg false st pd l o f).2.1, (gRead g rule sg false st pd l o f).2.2.1, (gRead g rule sg false st pd l o f).2.2.2.1 ++ m, (gRead g rule sg false st pd l o f).2.2.2.2.1, (gRead g rule sg false st pd l o f).2.2.2.2.2)) := by
  intro n
  induction n with
  | zero =>
    intro st pd l m o f hn hB hBm
    have : l = [] := List.length_eq_zero_iff.mp (by omega)
    subst this
    rw [gRead_nil]
    exact ⟨fun _ => rfl, fun q => by cases q⟩
  | succ n ih =>
    intro st pd l m o f hn hB hBm
    by_cases hl : l = []
    · subst hl
      rw [gRead_nil]
      exact ⟨fun _ => rfl, fun q => by cases q⟩
    have hlen : 0 < l.length := List.length_pos_iff.mpr hl
    have hla : l ++ m ≠ [] := fun q => hl (List.append_eq_nil_iff.mp q).1
    by_cases c1 : (gLk g st pd l).1 = 1
    · rw [gRead_wait hl c1]
      exact ⟨fun _ => rfl, fun q => by cases q⟩
    have ea := gLk_app (m := m) pr hl hB hBm c1
    by_cases rf : (gLk g st pd l).1 ≤ 1 ∧ rule = 0
    · have r0 := rf.2
      subst r0
      rw [gRead_ref hl rf.1 (fun q => c1 q.1), gRead_ref hla (by rw [ea]; exact rf.1) (by rw [ea]; exact fun q => c1 q.1)]
      exact ⟨fun q => absurd rfl q, fun _ => rfl⟩
    · have nn := gR1_n (rule := rule) (sg := sg) (st := st) (pd := pd) pr.1 hB hl
      rw [gRead_step pr.1 hB hl rf (fun q => c1 q.1), gRead_step (last := last) pr.1 (hB.app hBm) hla (by rw [ea]; exact rf) (by rw [ea]; exact fun q => c1 q.1), gR1_app hlen ea, List.drop_append_of_le_length nn.2]
      exact ih _ _ _ _ _ _ (by rw [List.length_drop]; omega) (hB.drop _) hBm
/-- what is left, when not all is to be read: nothing, or a beginning -/
theorem gRead_rest {g : gP} {rule sg : Nat} (sm : gSm g) : ∀ (n st pd : Nat) (l o : List Nat) (f : Nat), l.length ≤ n → isB l → st < 4 → pd ≤ 4 → (gRead g rule sg false st pd l o f).2.1 < 4 ∧ (gRead g rule sg false st pd l o f).2.2.1 ≤ 4 ∧ isB (gRead g rule sg false st pd l o f).2.2.2.1 ∧ (gRead g rule sg false st pd l o f).2.2.2.1.length ≤ l.length ∧ (gRead g rule sg false st pd l o f).2.2.2.2.1.length + 2 * (gRead g rule sg false st pd l o f).2.2.2.1.length ≤ o.length + 2 * l.length ∧ ((gRead g rule sg false st pd l o f).1 ≠ 1 → (gRead g rule sg false st pd l o f).2.2.2.1.length ≤ 3) := by
  intro n
  induction n with
  | zero =>
    intro st pd l o f hn hB h1 h2
    have : l = [] := List.length_eq_zero_iff.mp (by omega)
    subst this
    rw [gRead_nil]
    exact ⟨h1, h2, hB, Nat.le_refl _, Nat.le_refl _, fun _ => Nat.zero_le _⟩
  | succ n ih =>
    intro st pd l o f hn hB h1 h2
    by_cases hl : l = []
    · subst hl
      rw [gRead_nil]
      exact ⟨h1, h2, hB, Nat.le_refl _, Nat.le_refl _, fun _ => Nat.zero_le _⟩
    by_cases c1 : (gLk g st pd l).1 = 1
    · rw [gRead_wait hl c1]
      exact ⟨h1, h2, hB, Nat.le_refl _, Nat.le_refl _, fun _ => gLk_1 sm c1⟩
    by_cases rf : (gLk g st pd l).1 ≤ 1 ∧ rule = 0
    · have r0 := rf.2
      subst r0
      rw [gRead_ref hl rf.1 (fun q => c1 q.1)]
      exact ⟨h1, h2, hB, Nat.le_refl _, Nat.le_refl _, fun q => absurd rfl q⟩
    · have nn := gR1_n (rule := rule) (sg := sg) (st := st) (pd := pd) sm hB hl
      have wf1 := gR1_wf (rule := rule) (sg := sg) (l := l) sm h1 h2
      rw [gRead_step sm hB hl rf (fun q => c1 q.1)]
      obtain ⟨a1, a2, a3, a4, a5, a6⟩ := ih _ _ (l.drop (gR1 g rule sg st pd l).1) (o ++ (gR1 g rule sg st pd l).2.1) (f + (gR1 g rule sg st pd l).2.2.2.2) (by rw [List.length_drop]; omega) (hB.drop _) wf1.1 wf1.2.1
      rw [List.length_drop] at a4 a5
      rw [List.length_append] at a5
      exact ⟨a1, a2, a3, by omega, by omega, a6⟩
