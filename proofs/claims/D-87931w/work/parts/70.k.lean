/-! the exchange's match in tables: the search -/
set_option maxRecDepth 100000
section XBS
variable {h : zH} {a : Nat} {g : gP}
theorem mid_eq {x y : Nat} (hx : x < 2 ^ 15) (hy : y < 2 ^ 15) : ((nI x + nI y).toUInt32 >>> ((1 : Int32).toUInt32 &&& Int32.toUInt32 31)).toInt32 = nI ((x + y) / 2) := by
  rw [nI_add]
  exact pk_ushrN (by omega) 1 1 (by decide)
theorem t_row (tb : zTb h a) {s : Nat} (hs : s < 4) : zP h (a + 10) s = some (a + 11 + s) ∧ zT h (a + 11 + s) = (100, 110) := by
  have hL := zCt.b tb 0 rfl
  have e : s = 0 ∨ s = 1 ∨ s = 2 ∨ s = 3 := by omega
  rcases e with rfl | rfl | rfl | rfl
  · exact ⟨zBlk_pm hL (10, 0, 11) (by decide), hL.t 11 rfl⟩
  · exact ⟨zBlk_pm hL (10, 1, 12) (by decide), hL.t 12 rfl⟩
  · exact ⟨zBlk_pm hL (10, 2, 13) (by decide), hL.t 13 rfl⟩
  · exact ⟨zBlk_pm hL (10, 3, 14) (by decide), hL.t 14 rfl⟩
theorem x_bin {sn : Nat → Nat} {so : Nat → Nat → Nat} {s K : Nat} {x2 x4 : Int32} (tb : zTb h a) (tab : xTab h a g) (sm : gSm g) (hs : s < 4) (hso : ∀ i, i < sn s → zI h (a + 11 + s) i = nI (so s i)) (hS : gSorted g sn so) (hK : K < 2 ^ 25) : zw (zlp (fun q => fX3_match_L67 h a x2 x4 (nI s) (nI K) q.1 q.2) (0, nI (sn s))) (fun y => ∃ lo, y = nI lo ∧ lo ≤ sn s ∧ (∀ i, i < lo → iKey g (so s i) ≤ K) ∧ ∀ i, lo ≤ i → i < sn s → K < iKey g (so s i)) := by
  obtain ⟨S1, S2, S3, S4⟩ := hS s hs
  obtain ⟨r1, r2⟩ := t_row tb hs
  refine zw_lp (fun q n => ∃ lo hi, q = (nI lo, nI hi) ∧ lo ≤ hi ∧ hi ≤ sn s ∧ n = hi - lo ∧ (∀ i, i < lo → iKey g (so s i) ≤ K) ∧ ∀ i, hi ≤ i → i < sn s → K < iKey g (so s i)) ?_ (sn s) ⟨0, sn s, rfl, Nat.zero_le _, Nat.le_refl _, rfl, fun i hi => absurd hi (Nat.not_lt_zero _), fun i h1 h2 => by omega⟩
  rintro q n ⟨lo, hi, rfl, h1, h2, rfl, hlo, hhi⟩
  dsimp only
  unfold fX3_match_L67
  by_cases e : hi ≤ lo
  · have : lo = hi := by omega
    subst this
    rw [if_pos (Int32.le_refl _), zw_some]
    exact ⟨lo, rfl, h2, hlo, hhi⟩
  rw [if_neg (by rw [nI_leI (by omega) (by omega)]; exact e), zw_ck, nI_clamp (by omega), r1, zb1_s, zw_ck, mid_eq (by omega) (by omega), nI_clamp (by omega), hso _ (by omega)]
  have hm : (lo + hi) / 2 < sn s := by omega
  obtain ⟨k1, -, k3⟩ := x_keyOf tab sm (S2 _ hm).1
  rw [k1, zb1_s]
  refine ⟨vin hs (by omega), ⟨by rw [r2], by rw [r2]; exact vin (by show (lo + hi) / 2 < 110; omega) (by show 110 ≤ _; omega)⟩, ?_⟩
  by_cases hlt : K < iKey g (so s ((lo + hi) / 2))
  · rw [if_pos (by rw [nI_ltI (by omega) (by omega)]; exact hlt), zw_some]
    refine ⟨(lo + hi) / 2 - lo, by omega, lo, (lo + hi) / 2, rfl, by omega, by omega, rfl, hlo, fun i q1 q2 => ?_⟩
    by_cases w : i = (lo + hi) / 2
    · rw [w]; exact hlt
    · exact Nat.lt_of_lt_of_le hlt (S3 _ _ (by omega) q2)
  · rw [if_neg (by rw [nI_ltI (by omega) (by omega)]; exact hlt), zw_some, nI_1]
    refine ⟨hi - ((lo + hi) / 2 + 1), by omega, (lo + hi) / 2 + 1, hi, rfl, by omega, h2, rfl, fun i q1 => ?_, hhi⟩
    by_cases w : i = (lo + hi) / 2
    · rw [w]; omega
    · have := S3 i ((lo + hi) / 2) (by omega) hm
      omega
end XBS
/-! what is found is what look finds -/
section GTB
variable {g : gP} {l : List Nat} {st pd : Nat}
theorem gFm_iff {k due : Nat} (sm : gSm g) (hk : k < g 2 0) : gFm g due l k = true ↔ iSt g k = due ∧ iF g l k := by
  have := sm.2.2.1
  unfold gFm iF iSt iLn iBy
  rw [if_pos (by omega), if_pos (by omega), if_pos (by omega)]
  simp only [Bool.and_eq_true, decide_eq_true_eq, beq_iff_eq, and_assoc]
theorem gBm_iff {k due : Nat} (sm : gSm g) (hk : k < g 2 0) : gBm g due l k = true ↔ iSt g k = due ∧ iBg g l k := by
  have := sm.2.2.1
  unfold gBm iBg iSt iLn iBy
  rw [if_pos (by omega), if_pos (by omega), if_pos (by omega)]
  simp only [Bool.and_eq_true, decide_eq_true_eq, beq_iff_eq, and_assoc]
/-- the shift of a byte, as an item -/
theorem gSh_iff {s b : Nat} (hk : gSh g s b < g 3 0) : g 9 (gSh g s b) = s ∧ g 10 (gSh g s b) = b := by
  have := ff_yes _ _ hk
  simp only [Bool.and_eq_true, beq_iff_eq] at this
  exact this
theorem gSh_none {s b : Nat} (hk : ¬ gSh g s b < g 3 0) : ∀ k, k < g 3 0 → ¬ (g 9 k = s ∧ g 10 k = b) := by
  intro k h1 ⟨h2, h3⟩
  have hl := ff_le (fun k => g 9 k == s && g 10 k == b) (g 3 0)
  unfold gSh at hk
  have := ff_no (fun k => g 9 k == s && g 10 k == b) (g 3 0) k (by omega)
  simp only [h2, h3, beq_self_eq_true, Bool.and_self] at this
  cases this
/-- a hit entry -/
theorem gLk_e {t : Nat} (k0 : g 0 0 = 0) (sm : gSm g) (ht : t < g 2 0) (hst : iSt g t = if pd = 4 then st else pd) (hF : iF g l t) (uq : ∀ c, iOk g c → iSt g c = (if pd = 4 then st else pd) → iF g l c → c = t) : gLk g st pd l = (2, g 5 t, g 7 t) := by
  have h1 := (gFm_iff (due := if pd = 4 then st else pd) sm ht).mpr ⟨hst, hF⟩
  have hlt : ff (gFm g (if pd = 4 then st else pd) l) (g 2 0) < g 2 0 := by
    have hl := ff_le (gFm g (if pd = 4 then st else pd) l) (g 2 0)
    by_cases q : ff (gFm g (if pd = 4 then st else pd) l) (g 2 0) < g 2 0
    · exact q
    · have := ff_no (gFm g (if pd = 4 then st else pd) l) (g 2 0) t (by omega)
      rw [h1] at this; cases this
  have h2 := (gFm_iff sm hlt).mp (ff_yes _ _ hlt)
  have h3 := uq _ (Or.inl hlt) h2.1 h2.2
  unfold gLk
  rw [if_neg (by omega), if_pos k0, if_pos hlt, h3]
theorem ff_none {p : Nat → Bool} {n : Nat} (h : ∀ k, k < n → ¬ p k = true) : ¬ ff p n < n := fun q => h _ q (ff_yes _ _ q)
theorem gLk_s {t : Nat} (k0 : g 0 0 = 0) (sm : gSm g) (hl : 1 ≤ l.length) (hp4 : pd = 4) (ht : 100 ≤ t ∧ t - 100 < g 3 0) (hst : iSt g t = st) (hF : iF g l t) (uq : ∀ c, iOk g c → iSt g c = st → iF g l c → c = t) : gLk g st pd l = (3, t - 100, 0) := by
  have s2 := sm.2.2.1
  have s3 := sm.2.2.2.1
  have n1 : ¬ ff (gFm g (if pd = 4 then st else pd) l) (g 2 0) < g 2 0 := ff_none fun k hk q => by
    have h2 := (gFm_iff sm hk).mp q
    rw [if_pos hp4] at h2
    have := uq k (Or.inl hk) h2.1 h2.2
    omega
  have e1 : iLn g t = 1 := if_neg (by omega)
  have e2 : iBy g t = g 10 (t - 100) := if_neg (by omega)
  have e3 : iSt g t = g 9 (t - 100) := if_neg (by omega)
  have hF2 := hF.2
  rw [e1, e2] at hF2
  have hb : bt l 0 = g 10 (t - 100) := hF2
  have hsh : gSh g st (bt l 0) < g 3 0 := by
    by_cases q : gSh g st (bt l 0) < g 3 0
    · exact q
    · exact absurd ⟨by rw [← e3, hst], hb.symm⟩ (gSh_none q (t - 100) ht.2)
  have h5 := gSh_iff hsh
  have h6 : 100 + gSh g st (bt l 0) = t := by
    refine uq _ (Or.inr ⟨by omega, by omega⟩) ?_ ?_
    · unfold iSt; rw [if_neg (by omega), show 100 + gSh g st (bt l 0) - 100 = gSh g st (bt l 0) by omega]; exact h5.1
    · have l1 : iLn g (100 + gSh g st (bt l 0)) = 1 := if_neg (by omega)
      have l2 : iBy g (100 + gSh g st (bt l 0)) = g 10 (gSh g st (bt l 0)) := by unfold iBy; rw [if_neg (by omega), show 100 + gSh g st (bt l 0) - 100 = gSh g st (bt l 0) by omega]
      refine ⟨by omega, ?_⟩
      rw [l1, l2]
      exact h5.2.symm
  unfold gLk
  rw [if_neg (by omega), if_pos k0, if_neg n1, if_pos ⟨hp4, by omega, hsh⟩, show t - 100 = gSh g st (bt l 0) by omega]
/-- no entry stands there, no shift -/
theorem gLk_n (k0 : g 0 0 = 0) (sm : gSm g) (n1 : ∀ c, c < g 2 0 → iSt g c = (if pd = 4 then st else pd) → ¬ iF g l c) (n2 : pd = 4 → ∀ c, 100 ≤ c → c - 100 < g 3 0 → iSt g c = st → ¬ iF g l c) : gLk g st pd l = (if ff (gBm g (if pd = 4 then st else pd) l) (g 2 0) < g 2 0 then (1, 0, 0) else (0, 0, 0)) := by
  have s2 := sm.2.2.1
  unfold gLk
  rw [if_neg (by omega), if_pos k0, if_neg (ff_none fun k hk q => by
    have h2 := (gFm_iff sm hk).mp q
    exact n1 k hk h2.1 h2.2), if_neg]
  rintro ⟨p4, hl, hsh⟩
  have h5 := gSh_iff hsh
  refine n2 p4 (100 + gSh g st (bt l 0)) (by omega) (by omega) ?_ ?_
  · unfold iSt; rw [if_neg (by omega), show 100 + gSh g st (bt l 0) - 100 = gSh g st (bt l 0) by omega]; exact h5.1
  · have l1 : iLn g (100 + gSh g st (bt l 0)) = 1 := if_neg (by omega)
    have l2 : iBy g (100 + gSh g st (bt l 0)) = g 10 (gSh g st (bt l 0)) := by unfold iBy; rw [if_neg (by omega), show 100 + gSh g st (bt l 0) - 100 = gSh g st (bt l 0) by omega]
    refine ⟨by omega, ?_⟩
    rw [l1, l2]
    exact h5.2.symm
end GTB
theorem x_matchTab {h : zH} {a r st pd : Nat} {g : gP} {l : List Nat} (m : rAt h r 0 l) (tb : zTb h a) (tab : xTab h a g) (xs : xSor h a g) (sm : gSm g) (pf : gPf g) (k0 : g 0 0 = 0) (hl : 1 ≤ l.length) (hl4 : l.length ≤ 4) (hst : st < 4) (hpd : pd ≤ 4) : zw (fX3_match h a (nI st) (nI pd) r (nI l.length)) (xkQ h a g (gLk g st pd l)) := by
  obtain ⟨sn, so, hso, hS⟩ := xs
  have hB := m.2.2.2.2
  have b0 := xb_lt hB 0
  have b1 := xb_lt hB 1
  have b2 := xb_lt hB 2
  have hKlt : xK l < 2 ^ 24 := by unfold xK; omega
  have s2 := sm.2.2.1
  have s3 := sm.2.2.2.1
  have main : ∀ due, due = (if pd = 4 then st else pd) → due < 4 → zw (fX3_match_J10 h a (nI pd) r (nI l.length) (nI due)) (xkQ h a g (gLk g st pd l)) := by
    intro due hdue hd4
    obtain ⟨hs1, hs2⟩ := hso due hd4
    obtain ⟨S1, S2, S3, S4⟩ := hS due hd4
    obtain ⟨r1, r2⟩ := t_row tb hd4
    unfold fX3_match_J10
    rw [x_key m hl4, zb1_s, zw_ck, zw_b1, nI_clamp (by omega), hs1]
    refine ⟨vin hd4 (by omega), (x_bin tb tab sm hd4 hs2 hS (by omega)).mono ?_⟩
    rintro y ⟨lo, rfl, hlo, hle, hgt⟩
    -- any item of the state that isn't behind the key lies below lo
    have below : ∀ c, iOk g c → iSt g c = due → iKey g c ≤ xK l → ∃ i, i < lo ∧ so due i = c := fun c hc hsc hkc => by
      obtain ⟨i, hi, e⟩ := S4 c hc hsc
      by_cases q : i < lo
      · exact ⟨i, q, e⟩
      · have := hgt i (by omega) hi
        rw [e] at this; omega
    by_cases hlo0 : lo = 0
    · subst hlo0
      rw [if_pos nI_0, zw_some]
      have no : ∀ c, iOk g c → iSt g c = due → ¬ iF g l c ∧ ¬ iBg g l c := fun c hc hsc => by
        have wc := iWf sm hc
        refine ⟨fun q => ?_, fun q => ?_⟩
        · obtain ⟨i, hi, -⟩ := below c hc hsc (iF_key hB hl ⟨wc.1, wc.2.1, wc.2.2.1⟩ q).1; omega
        · obtain ⟨i, hi, -⟩ := below c hc hsc (iB_key hB hl ⟨wc.1, wc.2.1, wc.2.2.1⟩ q).1; omega
      rw [gLk_n k0 sm (fun c hc hsc => (no c (Or.inl hc) (by rw [hdue]; exact hsc)).1) (fun p4 c h1 h2 hsc => (no c (Or.inr ⟨h1, h2⟩) (by rw [hdue, if_pos p4]; exact hsc)).1), if_neg (ff_none fun k hk q => by
        have h2 := (gBm_iff sm hk).mp q
        exact (no k (Or.inl hk) (by rw [hdue]; exact h2.1)).2 h2.2)]
      exact ⟨fun q => absurd q (by show ¬ (0 : Nat) = 2; omega), fun q => absurd q (by show ¬ (0 : Nat) = 3; omega), fun q => absurd q (by show ¬ (0 : Nat) = 1; omega), fun _ => rfl, fr.refl _ _⟩
    rw [if_neg (by rw [n_0 (by omega)]; exact hlo0), zw_ck, r1, zb1_s, zw_ck, show nI lo - 1 = nI (lo - 1) from by rw [li, pk_sub (by omega)], nI_clamp (by omega), hs2 (lo - 1) (by omega)]
    refine ⟨vin hd4 (by omega), ⟨by rw [r2], by rw [r2]; exact vin (by show lo - 1 < 110; omega) (by show 110 ≤ _; omega)⟩, ?_⟩
    obtain ⟨ti, ts⟩ := S2 (lo - 1) (by omega)
    have tK := hle (lo - 1) (by omega)
    have top : ∀ c, iOk g c → iSt g c = due → iKey g c ≤ xK l → iKey g c ≤ iKey g (so due (lo - 1)) := fun c hc hsc hkc => by
      obtain ⟨i, hi, e⟩ := below c hc hsc hkc
      rw [← e]
      by_cases w : i = lo - 1
      · rw [w]; exact Nat.le_refl _
      · exact S3 i (lo - 1) (by omega) (by omega)
    generalize hT : so due (lo - 1) = t at *
    have wt := iWf sm ti
    obtain ⟨q1, q2, q3⟩ := x_keyOf tab sm ti
    have uqF : ∀ c, iOk g c → iSt g c = due → iF g l c → c = t := fun c hc hsc hF => by
      have wc := iWf sm hc
      have := (iF_key hB hl ⟨wc.1, wc.2.1, wc.2.2.1⟩ hF).1
      exact last_F sm pf hB hl hc ti (by rw [hsc, ts]) (top c hc hsc this) tK hF
    have uqB : ∀ c, iOk g c → iSt g c = due → iBg g l c → iBg g l t := fun c hc hsc hF => by
      have wc := iWf sm hc
      have := (iB_key hB hl ⟨wc.1, wc.2.1, wc.2.2.1⟩ hF).1
      exact last_B sm pf hB hl hc ti (by rw [hsc, ts]) (top c hc hsc this) tK hF
    have emin : (if nI l.length < nI (iLn g t) then nI l.length else nI (iLn g t)) = nI (min (iLn g t) l.length) := by
      by_cases w : l.length < iLn g t
      · rw [if_pos (by rw [nI_ltI (by omega) (by omega)]; exact w), Nat.min_eq_right (by omega)]
      · rw [if_neg (by rw [nI_ltI (by omega) (by omega)]; exact w), Nat.min_eq_left (by omega)]
    have edrop : (8 : Int32) * (3 - nI (min (iLn g t) l.length)) = nI (8 * (3 - min (iLn g t) l.length)) := by
      rw [show (3 : Int32) = nI 3 from rfl, pk_sub (by omega), show (8 : Int32) = nI 8 from rfl, pk_mul]
    rw [q2, zb1_s, q1, zb1_s, emin, edrop, shrI (by omega) (by omega), shrI (by omega) (by omega)]
    have dk : iKey g t / 2 ^ (8 * (3 - min (iLn g t) l.length)) ≤ iKey g t := Nat.div_le_self _ _
    have dK : xK l / 2 ^ (8 * (3 - min (iLn g t) l.length)) ≤ xK l := Nat.div_le_self _ _
    have nothing : (∀ c, c < g 2 0 → iSt g c = due → ¬ iF g l c) → (pd = 4 → ∀ c, 100 ≤ c → c - 100 < g 3 0 → iSt g c = due → ¬ iF g l c) → (∀ c, c < g 2 0 → iSt g c = due → ¬ iBg g l c) → xkQ h a g (gLk g st pd l) (0, h) := fun n1 n2 n3 => by
      rw [gLk_n k0 sm (fun c hc hsc => n1 c hc (by rw [hdue]; exact hsc)) (fun p4 c h1 h2 hsc => n2 p4 c h1 h2 (by rw [hdue, if_pos p4]; exact hsc)), if_neg (ff_none fun k hk q => by
        have h2 := (gBm_iff sm hk).mp q
        exact n3 k hk (by rw [hdue]; exact h2.1) h2.2)]
      exact ⟨fun q => absurd q (by show ¬ (0 : Nat) = 2; omega), fun q => absurd q (by show ¬ (0 : Nat) = 3; omega), fun q => absurd q (by show ¬ (0 : Nat) = 1; omega), fun _ => rfl, fr.refl _ _⟩
    by_cases hcond : iKey g t / 2 ^ (8 * (3 - min (iLn g t) l.length)) = xK l / 2 ^ (8 * (3 - min (iLn g t) l.length))
    case neg =>
      rw [if_neg (by rw [nI_eq (by omega) (by omega)]; exact hcond), zw_some]
      have nF : ∀ c, iOk g c → iSt g c = due → ¬ iF g l c := fun c hc hsc hF => by
        have e := uqF c hc hsc hF
        subst e
        have := (iF_key hB hl ⟨wt.1, wt.2.1, wt.2.2.1⟩ hF).2
        rw [Nat.min_eq_left hF.1] at hcond
        exact hcond this
      have nB : ∀ c, iOk g c → iSt g c = due → ¬ iBg g l c := fun c hc hsc hF => by
        have e := uqB c hc hsc hF
        have := (iB_key hB hl ⟨wt.1, wt.2.1, wt.2.2.1⟩ e).2
        rw [Nat.min_eq_right (by have := e.1; omega)] at hcond
        exact hcond this
      exact nothing (fun c hc hsc => nF c (Or.inl hc) hsc) (fun _ c h1 h2 hsc => nF c (Or.inr ⟨h1, h2⟩) hsc) (fun c hc hsc => nB c (Or.inl hc) hsc)
    rw [if_pos (by rw [hcond])]
    obtain ⟨kF, kB⟩ := key_i hB hl ⟨wt.1, wt.2.1, wt.2.2.1⟩ hcond
    -- the item itself
    have hit : (pd = 4 ∨ t < 100) → zw (fX3_match_J192 h a (nI l.length) (nI t) (nI (iLn g t))) (xkQ h a g (gLk g st pd l)) := by
      intro hor
      unfold fX3_match_J192
      by_cases hlen : iLn g t ≤ l.length
      · have hF := kF hlen
        rw [if_pos (by rw [nI_leI (by omega) (by omega)]; exact hlen)]
        rcases ti with te | te
        · rw [if_neg (by rw [li, nI_leI (by omega) (by omega)]; omega), zw_ck, nI_clamp (by omega), tab.e3 te]
          refine ⟨vin (by omega) (by omega), ?_⟩
          unfold fX3_match_J220
          rw [zw_let, if_pos (by rw [li, nI_ltI (by omega) (by omega)]; omega), zw_some, gLk_e k0 sm te (by rw [← hdue]; exact ts) hF (fun c hc hsc => uqF c hc (by rw [hdue]; exact hsc))]
          refine ⟨fun _ => ⟨?_, ?_⟩, fun q => absurd q (by show ¬ (2 : Nat) = 3; omega), fun q => absurd q (by show ¬ (2 : Nat) = 1; omega), fun q => absurd q (by show ¬ (2 : Nat) = 0; omega), (fr.refl _ h).sI ⟨rfl, by omega⟩ _⟩
          · show nI (iLn g t) = nI (g 5 t)
            unfold iLn; rw [if_pos (by omega)]
          · show zI (zsI h a 0 (nI (g 7 t))) a 0 = nI (g 7 t)
            rw [eIs]
        · have p4 : pd = 4 := by rcases hor with q | q; exact q; omega
          have ws := sm.2.2.2.2.2 _ te.2
          have hB' : zB (nI (g 12 (t - 100))) = True := zBn ws.2.2.2.2
          rw [if_pos (by rw [li, nI_leI (by omega) (by omega)]; omega)]
          unfold fX3_match_J220
          rw [zw_let, if_neg (by rw [li, nI_ltI (by omega) (by omega)]; omega), show (100 : Int32) = nI 100 from rfl, pk_sub (by omega), zw_ck, zw_let, zw_ck, zw_ck, zw_let, zw_some, nI_clamp (by omega)]
          have r8 : zI (zsI h a 0 (-1)) (a + 8) (t - 100) = nI (g 11 (t - 100)) := by rw [eI, if_neg (by omega)]; exact tab.s2 te.2
          rw [r8]
          have r9 : zI (zsI (zsI h a 0 (-1)) a 1 (nI (g 11 (t - 100)))) (a + 9) (t - 100) = nI (g 12 (t - 100)) := by rw [eI, if_neg (by omega), eI, if_neg (by omega)]; exact tab.s3 te.2
          rw [r9]
          refine ⟨vin (by omega) (by omega), vin (by omega) (by omega), of_eq_true hB', ?_⟩
          rw [gLk_s k0 sm hl p4 te (by rw [ts, hdue, if_pos p4]) hF (fun c hc hsc => uqF c hc (by rw [hdue, if_pos p4]; exact hsc))]
          refine ⟨fun q => absurd q (by show ¬ (3 : Nat) = 2; omega), fun _ => ⟨?_, ?_, ?_, ?_⟩, fun q => absurd q (by show ¬ (3 : Nat) = 1; omega), fun q => absurd q (by show ¬ (3 : Nat) = 0; omega), (((fr.refl _ h).sI ⟨rfl, by omega⟩ _).sI ⟨rfl, by omega⟩ _).sI ⟨rfl, by omega⟩ _⟩
          · show nI (iLn g t) = 1
            unfold iLn; rw [if_neg (by omega)]; rfl
          · rw [eI, if_neg (by omega), eI, if_neg (by omega), eIs]
          · rw [eI, if_neg (by omega), eIs]
          · rw [eIs]
      · have hb := kB (by omega)
        rw [if_neg (by rw [nI_leI (by omega) (by omega)]; exact hlen), zw_some]
        have te : t < g 2 0 := by
          rcases ti with te | te
          · exact te
          · have : iLn g t = 1 := if_neg (by omega)
            omega
        have nF : ∀ c, iOk g c → iSt g c = due → ¬ iF g l c := fun c hc hsc hF => by
          have e := uqF c hc hsc hF
          subst e
          exact hlen hF.1
        rw [gLk_n k0 sm (fun c hc hsc => nF c (Or.inl hc) (by rw [hdue]; exact hsc)) (fun p4 c h1 h2 hsc => nF c (Or.inr ⟨h1, h2⟩) (by rw [hdue, if_pos p4]; exact hsc))]
        have hm : gBm g (if pd = 4 then st else pd) l t = true := (gBm_iff sm te).mpr ⟨by rw [← hdue]; exact ts, hb⟩
        rw [if_pos]
        · exact ⟨fun q => absurd q (by show ¬ (1 : Nat) = 2; omega), fun q => absurd q (by show ¬ (1 : Nat) = 3; omega), fun _ => rfl, fun q => absurd q (by show ¬ (1 : Nat) = 0; omega), fr.refl _ _⟩
        · have hle := ff_le (gBm g (if pd = 4 then st else pd) l) (g 2 0)
          by_cases q : ff (gBm g (if pd = 4 then st else pd) l) (g 2 0) < g 2 0
          · exact q
          · have := ff_no (gBm g (if pd = 4 then st else pd) l) (g 2 0) t (by omega)
            rw [hm] at this; cases this
    by_cases p4 : pd = 4
    · rw [if_pos (by rw [p4]; rfl)]
      exact hit (Or.inl p4)
    rw [if_neg (by rw [li, nI_eq (by omega) (by omega)]; exact p4)]
    by_cases t100 : t < 100
    · rw [if_pos (by rw [li, nI_ltI (by omega) (by omega)]; exact t100)]
      exact hit (Or.inr t100)
    · rw [if_neg (by rw [li, nI_ltI (by omega) (by omega)]; exact t100), zw_some]
      have tsh : iLn g t = 1 := if_neg t100
      refine nothing (fun c hc hsc hF => ?_) (fun q => absurd q p4) (fun c hc hsc hb => ?_)
      · have e := uqF c (Or.inl hc) hsc hF
        omega
      · have e := uqB c (Or.inl hc) hsc hb
        have := e.1
        omega
  unfold fX3_match
  by_cases p4 : pd = 4
  · rw [if_pos (by rw [p4]; rfl)]
    exact main st (by rw [if_pos p4]) hst
  · rw [if_neg (by rw [li, nI_eq (by omega) (by omega)]; exact p4)]
    exact main pd (by rw [if_neg p4]) (by omega)
