/-! the model: misread, detect -/
set_option maxRecDepth 100000
def cn (p : Nat → Bool) : Nat → Nat
  | 0 => 0
  | n + 1 => cn p n + if p n then 1 else 0
theorem cn_le (p : Nat → Bool) : ∀ n, cn p n ≤ n
  | 0 => Nat.le_refl _
  | n + 1 => by
    have := cn_le p n
    unfold cn
    split <;> omega
theorem cn_cong {p q : Nat → Bool} : ∀ {n : Nat}, (∀ k, k < n → p k = q k) → cn p n = cn q n
  | 0, _ => rfl
  | n + 1, h => by
    unfold cn
    rw [h n (by omega), cn_cong (n := n) (fun k hk => h k (by omega))]
theorem cn_add (p : Nat → Bool) (n : Nat) : ∀ m, (∀ k, n ≤ k → k < n + m → p k = true) → cn p (n + m) = cn p n + m
  | 0, _ => rfl
  | m + 1, h => by
    show cn p (n + m) + (if p (n + m) then 1 else 0) = _
    rw [h (n + m) (by omega) (by omega), cn_add p n m (fun k h1 h2 => h k h1 (by omega))]
    rfl
/-- two closed pages, or a finding -/
noncomputable def sp_cl2 (z : gZ) (x y : Int32) (k : Nat → Nat → Int32 × gZ) : Int32 × gZ := match vI x z.pg.1, vI y z.pg.1 with
  | some p, some q => if z.pg.2 p 1 0 = 0 then qT z (-5) else if z.pg.2 q 1 0 = 0 then qT z (-5) else k p q
  | _, _ => qT z (-1)
theorem m_cl2 {h : zH} {z : gZ} {x y : Int32} (m : MR h z) (w : pgWf z.pg) (K : Option (Int32 × zH)) (k : Nat → Nat → Int32 × gZ) (hk : ∀ p q, p < z.pg.1 → q < z.pg.1 → x = nI p → y = nI q → z.pg.2 p 1 0 = 1 → z.pg.2 q 1 0 = 1 → zw K (mQ h (k p q))) : zw (zb1 (fX9_isPage h 92 x) (fun v_2 => if v_2 = 0 then (zb2 (fX9_tell h 92 ((-1))) (fun v_4 h_5 => some ((v_4, h_5)))) else (zb1 (fX9_isPage h 92 y) (fun v_7 => if v_7 = 0 then (zb2 (fX9_tell h 92 ((-1))) (fun v_25 h_26 => some ((v_25, h_26)))) else (zck (vp_in x 11) (if (zI h (92 + 2) x.toNatClampNeg) = 0 then (zb2 (fX9_tell h 92 ((-5))) (fun v_10 h_11 => some ((v_10, h_11)))) else (zck (vp_in y 11) (if (zI h (92 + 2) y.toNatClampNeg) = 0 then (zb2 (fX9_tell h 92 ((-5))) (fun v_22 h_23 => some ((v_22, h_23)))) else K)))))))) (mQ h (sp_cl2 z x y k)) := by
  have hn := w.1
  have c0 := m.pg.1
  unfold sp_cl2
  rcases vI_cases x z.pg.1 (by omega) with ⟨e, hx⟩ | ⟨p, hp, rfl, e⟩
  · rw [e, m_isPage0 c0 (by omega) hx, zb1_s, if_pos rfl]
    exact m_tell' m (fr.refl _ _) neg1
  rw [e, m_isPage1 c0 (by omega) hp, zb1_s, if_neg (by decide)]
  rcases vI_cases y z.pg.1 (by omega) with ⟨e, hx⟩ | ⟨q, hq, rfl, e⟩
  · rw [e, m_isPage0 c0 (by omega) hx, zb1_s, if_pos rfl]
    exact m_tell' m (fr.refl _ _) neg1
  rw [e, m_isPage1 c0 (by omega) hq, zb1_s, if_neg (by decide), zw_ck, nI_clamp (by omega), show zI h (92 + 2) p = nI (z.pg.2 p 1 0) from (m.pg.2 p hp).c1]
  have s1 := (w.2 p hp).2.1
  have s2 := (w.2 q hq).2.1
  refine ⟨vin (by omega) (by omega), ?_⟩
  by_cases h1 : z.pg.2 p 1 0 = 0
  · rw [if_pos (by rw [h1]; rfl)]
    simp only [h1, if_true]
    exact m_tell' m (fr.refl _ _) neg5
  rw [if_neg (by rw [n_0 (by omega)]; exact h1), zw_ck, nI_clamp (by omega), show zI h (92 + 2) q = nI (z.pg.2 q 1 0) from (m.pg.2 q hq).c1]
  simp only [h1, if_false]
  refine ⟨vin (by omega) (by omega), ?_⟩
  by_cases h2 : z.pg.2 q 1 0 = 0
  · rw [if_pos (by rw [h2]; rfl)]
    simp only [h2, if_true]
    exact m_tell' m (fr.refl _ _) neg5
  · rw [if_neg (by rw [n_0 (by omega)]; exact h2)]
    simp only [h2, if_false]
    exact hk p q hp hq rfl rfl (by omega) (by omega)
def gDf (a b : List Nat) : Nat := cn (fun k => decide (a.length ≤ k) || decide (b.length ≤ k) || a.getD k 0 != b.getD k 0) (max a.length b.length)
noncomputable def gOut (z : gZ) (p rule : Nat) : List Nat := (gRead (z.pg.2 p) rule z.sg.1 true 0 4 z.by [] 0).2.2.2.2.1
noncomputable def sp_misread (z : gZ) (x y : Int32) : Int32 × gZ := sp_cl2 z x y (fun p q => (nI (gDf (gOut z p 3) (gOut z q 3)), z))
/-- units that come of reading are small -/
theorem units_lt {v : Nat} (h : v ≤ 1114111) : ∀ u ∈ units v, u < 65536 := by
  unfold units
  split
  · intro u hu; simp only [List.mem_singleton] at hu; omega
  · intro u hu
    simp only [List.mem_cons, List.mem_singleton, List.not_mem_nil, or_false] at hu
    rcases hu with hu | hu <;> omega
theorem gRun_lt {g : gP} {rule sg : Nat} {last : Bool} (sm : gSm g) (hsg : sg ≤ 1114111) : ∀ (n st pd : Nat) (l o : List Nat) (f : Nat), isB l → (∀ u ∈ o, u < 65536) → ∀ u ∈ (gRun g rule sg last n st pd l o f).2.2.2.2.1, u < 65536 := by
  intro n
  induction n with
  | zero => intro st pd l o f _ ho; exact ho
  | succ n ih =>
    intro st pd l o f hB ho
    simp only [gRun]
    split
    · exact ho
    · split
      · exact ho
      · split
        · exact ho
        · refine ih _ _ _ _ _ (hB.drop _) ?_
          intro u hu
          rcases List.mem_append.mp hu with hu | hu
          · exact ho u hu
          · unfold gR1 at hu
            split at hu
            · rename_i h2
              exact units_lt (gLk_hit sm hB h2).2.2.2 u hu
            · split at hu
              · split at hu <;> cases hu
              · dsimp only at hu
                split at hu
                · exact units_lt hsg u hu
                · split at hu
                  · simp only [List.mem_singleton] at hu
                    have := hB.b 0
                    omega
                  · cases hu
theorem m_misread {h : zH} {z : gZ} {x y : Int32} (m : MR h z) (w : pgWf z.pg) (wb : byWf z) : zw (fX9_misread h 92 x y) (mQ h (sp_misread z x y)) := by
  unfold fX9_misread sp_misread
  refine m_cl2 m w _ _ ?_
  rintro p q hp hq rfl rfl k1 k2
  rw [zw_b2]
  refine (m_readAll (rule := 3) (ob := 92 + 25) m w wb hp (by omega) (by omega)).mono ?_
  rintro ⟨v, h1⟩ ⟨-, a2⟩
  dsimp only at a2 ⊢
  have r0 : (gRead (z.pg.2 p) 3 z.sg.1 true 0 4 z.by [] 0).1 = 0 := gRun_ok (by omega) _ _ _ _ _ _
  obtain ⟨rfl, hl, hrw, hf, f1⟩ := a2 (by omega)
  have fs : fr wSc h h1 := f1.mono fun a j hw => wRd_Sc (by omega) hw
  rw [zw_b2]
  refine (m_readAll (rule := 3) (ob := 92 + 26) (m.scr fs) w wb hq (by omega) (by omega)).mono ?_
  rintro ⟨v, h2⟩ ⟨-, b2⟩
  dsimp only at b2 ⊢
  have r1 : (gRead (z.pg.2 q) 3 z.sg.1 true 0 4 z.by [] 0).1 = 0 := gRun_ok (by omega) _ _ _ _ _ _
  obtain ⟨rfl, hl2, hrw2, hf2, f2⟩ := b2 (by omega)
  have fs2 : fr wSc h h2 := fs.trans (f2.mono fun a j hw => wRd_Sc (by omega) hw)
  have hrw1 : rw h2 117 (gOut z p 3) := fun k hk => (f2.I (by unfold wRd; omega)).trans (hrw k hk)
  have hrw3 : rw h2 118 (gOut z q 3) := hrw2
  have lt1 : ∀ u ∈ gOut z p 3, u < 65536 := gRun_lt (w.2 p hp) wb.2.2.1 _ _ _ _ _ _ wb.2.1 (fun u hu => by cases hu)
  have lt2 : ∀ u ∈ gOut z q 3, u < 65536 := gRun_lt (w.2 q hq) wb.2.2.1 _ _ _ _ _ _ wb.2.1 (fun u hu => by cases hu)
  change (gOut z p 3).length ≤ 2000 at hl
  change (gOut z q 3).length ≤ 2000 at hl2
  show zw (if nI (gOut z p 3).length ≤ nI (gOut z q 3).length then (fX9_misread_J87 h2 92 (nI (gOut z p 3).length) (nI (gOut z q 3).length) (nI (gOut z q 3).length - nI (gOut z p 3).length)) else (fX9_misread_J87 h2 92 (nI (gOut z p 3).length) (nI (gOut z q 3).length) (nI (gOut z p 3).length - nI (gOut z q 3).length))) _
  have m2 := m.scr fs2
  generalize gOut z p 3 = A at *
  generalize gOut z q 3 = B at *
  have lp : zw (fX9_misread_J87 h2 92 (nI A.length) (nI B.length) (nI (max A.length B.length - min A.length B.length))) (mQ h (nI (gDf A B), z)) := by
    unfold fX9_misread_J87
    refine zw_for (fun i s => s = (nI (max A.length B.length - min A.length B.length + cn (fun k => decide (A.length ≤ k) || decide (B.length ≤ k) || A.getD k 0 != B.getD k 0) i), nI i)) (min A.length B.length) ?_ rfl
    rintro i s hi rfl
    have hcn := cn_le (fun k => decide (A.length ≤ k) || decide (B.length ≤ k) || A.getD k 0 != B.getD k 0) i
    dsimp only
    unfold fX9_misread_L92
    by_cases hil : i < min A.length B.length
    · rw [if_neg (by rw [nI_leI (by omega) (by omega)]; omega), if_neg (by rw [nI_leI (by omega) (by omega)]; omega), zw_ck, zw_ck, nI_clamp (by omega), show zI h2 (92 + 25) i = _ from hrw1 i (by omega), show zI h2 (92 + 26) i = _ from hrw3 i (by omega)]
      refine ⟨vin (by omega) (by omega), vin (by omega) (by omega), ?_⟩
      have u1 := lt1 _ (gD_mem (l := A) (k := i) (by omega))
      have u2 := lt2 _ (gD_mem (l := B) (k := i) (by omega))
      have n1 : decide (A.length ≤ i) = false := decide_eq_false (by omega)
      have n2 : decide (B.length ≤ i) = false := decide_eq_false (by omega)
      by_cases e : A.getD i 0 = B.getD i 0
      · rw [if_pos (by rw [e]), zw_some]
        refine ⟨hil, ?_⟩
        have e2 : (A.getD i 0 != B.getD i 0) = false := by rw [e]; exact bne_self_eq_false _
        rw [nI_1, show (0 : Int32) = nI 0 from rfl, nI_add]
        show _ = (nI (_ + (cn _ i + if (decide (A.length ≤ i) || decide (B.length ≤ i) || A.getD i 0 != B.getD i 0) = true then 1 else 0)), _)
        rw [n1, n2, e2]
        rfl
      · rw [if_neg (by rw [nI_eq (by omega) (by omega)]; exact e), zw_some]
        refine ⟨hil, ?_⟩
        have e2 : (A.getD i 0 != B.getD i 0) = true := by rw [bne_iff_ne]; exact e
        rw [nI_1, nI_1]
        show _ = (nI (_ + (cn _ i + if (decide (A.length ≤ i) || decide (B.length ≤ i) || A.getD i 0 != B.getD i 0) = true then 1 else 0)), _)
        rw [n1, n2, e2]
        rfl
    · have hie : i = min A.length B.length := by omega
      have fin : mQ h (nI (gDf A B), z) (nI (max A.length B.length - min A.length B.length + cn (fun k => decide (A.length ≤ k) || decide (B.length ≤ k) || A.getD k 0 != B.getD k 0) i), h2) := by
        refine ⟨?_, m2, fs2.mono wSc_all⟩
        show nI _ = nI (gDf A B)
        unfold gDf
        have := cn_add (fun k => decide (A.length ≤ k) || decide (B.length ≤ k) || A.getD k 0 != B.getD k 0) (min A.length B.length) (max A.length B.length - min A.length B.length) (fun k h1 h2 => by
          by_cases q : A.length ≤ k
          · simp only [q, decide_true, Bool.true_or]
          · have q2 : B.length ≤ k := by omega
            simp only [q2, decide_true, Bool.or_true, Bool.true_or])
        rw [show min A.length B.length + (max A.length B.length - min A.length B.length) = max A.length B.length by omega] at this
        rw [this, hie, Nat.add_comm]
      by_cases hA : A.length ≤ i
      · rw [if_pos (by rw [nI_leI (by omega) (by omega)]; omega), zw_some]
        exact fin
      · rw [if_neg (by rw [nI_leI (by omega) (by omega)]; omega), if_pos (by rw [nI_leI (by omega) (by omega)]; omega), zw_some]
        exact fin
  by_cases hAB : A.length ≤ B.length
  · rw [if_pos (by rw [nI_leI (by omega) (by omega)]; exact hAB), pk_sub hAB]
    rw [show max A.length B.length - min A.length B.length = B.length - A.length by omega] at lp
    exact lp
  · rw [if_neg (by rw [nI_leI (by omega) (by omega)]; exact hAB), pk_sub (by omega)]
    rw [show max A.length B.length - min A.length B.length = A.length - B.length by omega] at lp
    exact lp
/-- the page with the fewest faults -/
def gDet (F : Nat → Option Nat) : Nat → Option (Nat × Nat)
  | 0 => none
  | n + 1 => match F n with
    | none => gDet F n
    | some f => match gDet F n with
      | none => some (n, f)
      | some b => if f < b.2 then some (n, f) else some b
noncomputable def gFl (z : gZ) (p : Nat) : Option Nat := if z.pg.2 p 1 0 = 0 then none else some (gRead (z.pg.2 p) 2 z.sg.1 true 0 4 z.by [] 0).2.2.2.2.2
noncomputable def sp_detect (z : gZ) : Int32 × gZ := match gDet (gFl z) z.pg.1 with
  | none => qT z (-2)
  | some b => (nI b.1, z)
/-- faults are at most as many as bytes -/
theorem gRun_f {g : gP} {rule sg : Nat} {last : Bool} (sm : gSm g) : ∀ (n st pd : Nat) (l o : List Nat) (f : Nat), isB l → st < 4 → pd ≤ 4 → (gRun g rule sg last n st pd l o f).2.2.2.2.2 + (gRun g rule sg last n st pd l o f).2.2.2.1.length ≤ f + l.length := by
  intro n
  induction n with
  | zero => intro st pd l o f _ _ _; exact Nat.le_refl _
  | succ n ih =>
    intro st pd l o f hB h1 h2
    simp only [gRun]
    split
    · exact Nat.le_refl _
    · split
      · exact Nat.le_refl _
      · split
        · exact Nat.le_refl _
        · rename_i hl _ _
          have n1 := gR1_n (rule := rule) (sg := sg) (st := st) (pd := pd) sm hB hl
          have wf1 := gR1_wf (rule := rule) (sg := sg) (l := l) sm h1 h2
          have := ih _ _ (l.drop (gR1 g rule sg st pd l).1) (o ++ (gR1 g rule sg st pd l).2.1) (f + (gR1 g rule sg st pd l).2.2.2.2) (hB.drop _) wf1.1 wf1.2.1
          rw [List.length_drop] at this
          omega
theorem gDet_lt {F : Nat → Option Nat} {B : Nat} (hF : ∀ p f, F p = some f → f ≤ B) : ∀ n b, gDet F n = some b → b.1 < n ∧ b.2 ≤ B
  | 0, b, h => by cases h
  | n + 1, b, h => by
    unfold gDet at h
    cases hf : F n with
    | none => rw [hf] at h; have := gDet_lt hF n b h; omega
    | some f =>
      rw [hf] at h
      have hB := hF n f hf
      cases hd : gDet F n with
      | none => rw [hd] at h; cases h; exact ⟨by omega, hB⟩
      | some c =>
        rw [hd] at h
        have := gDet_lt hF n c hd
        dsimp only at h
        split at h <;> cases h
        · exact ⟨by omega, hB⟩
        · omega
theorem m_detect {h : zH} {z : gZ} (m : MR h z) (w : pgWf z.pg) (wb : byWf z) : zw (fX9_detect h 92) (mQ h (sp_detect z)) := by
  have hn := w.1
  have c0 := m.pg.1
  have hb : ∀ p f, p < z.pg.1 → gFl z p = some f → f ≤ 1000 := fun p f hp hf => by
    unfold gFl at hf
    split at hf
    · cases hf
    · cases hf
      have := gRun_f (rule := 2) (sg := z.sg.1) (last := true) (w.2 p hp) z.by.length 0 4 z.by [] 0 wb.2.1 (by omega) (by omega)
      have := wb.1
      unfold gRead
      omega
  unfold fX9_detect
  refine zw_for (fun i s => s.2.2.2 = nI i ∧ fr wSc h s.1 ∧ ((gDet (gFl z) i = none ∧ s.2.1 = -1) ∨ ∃ b, gDet (gFl z) i = some b ∧ b.1 < i ∧ b.2 ≤ 1000 ∧ s.2.1 = nI b.1 ∧ s.2.2.1 = nI b.2)) z.pg.1 ?_ ⟨rfl, fr.refl _ _, Or.inl ⟨rfl, rfl⟩⟩
  rintro i ⟨h1, x1, x2, x3⟩ hi ⟨rfl, f1, hd⟩
  dsimp only at f1 hd ⊢
  have m1 := m.scr f1
  unfold fX9_detect_L6
  rw [m1.pg.1]
  by_cases hie : i = z.pg.1
  · subst hie
    rw [if_pos (Int32.le_refl _)]
    unfold sp_detect
    rcases hd with ⟨e, rfl⟩ | ⟨b, e, b1, b2, rfl, rfl⟩
    · rw [e, if_neg (by rw [neg_nn neg1]; exact id), zw_b2]
      exact (m_tell m1 (f1.mono wSc_all) neg2).mono fun y hy => ⟨_, rfl, hy⟩
    · rw [e, if_pos (nI_pos' (by omega)), zw_some]
      exact ⟨rfl, m1, f1.mono wSc_all⟩
  have hi2 : i < z.pg.1 := by omega
  rw [if_neg (by rw [nI_leI (by omega) (by omega)]; omega), zw_ck, nI_clamp (by omega), show zI h1 (92 + 2) i = nI (z.pg.2 i 1 0) from (m1.pg.2 i hi2).c1]
  refine ⟨vin (by omega) (by omega), ?_⟩
  have s1 := (w.2 i hi2).2.1
  by_cases hc : z.pg.2 i 1 0 = 0
  · have e0 : gFl z i = none := by unfold gFl; rw [if_pos hc]
    have e1 : gDet (gFl z) (i + 1) = gDet (gFl z) i := by
      show (match gFl z i with | none => gDet (gFl z) i | some f => _) = _
      rw [e0]
    rw [if_pos (by rw [hc]; rfl), zw_some, nI_1]
    refine ⟨hi2, rfl, f1, ?_⟩
    rw [e1]
    rcases hd with hd | ⟨b, e, b1, b2, b3, b4⟩
    · exact Or.inl hd
    · exact Or.inr ⟨b, e, by omega, b2, b3, b4⟩
  rw [if_neg (by rw [n_0 (by omega)]; exact hc), zw_b2]
  refine (m_readAll (rule := 2) (ob := 92 + 25) m1 w wb hi2 (by omega) (by omega)).mono ?_
  rintro ⟨v, h2⟩ ⟨-, k2⟩
  dsimp only at k2 ⊢
  have r0 : (gRead (z.pg.2 i) 2 z.sg.1 true 0 4 z.by [] 0).1 = 0 := gRun_ok (by omega) _ _ _ _ _ _
  obtain ⟨rfl, hl, hrw, hf, f2⟩ := k2 (by omega)
  have fs : fr wSc h h2 := f1.trans (f2.mono fun a j hw => wRd_Sc (by omega) hw)
  have e0 : gFl z i = some (gRead (z.pg.2 i) 2 z.sg.1 true 0 4 z.by [] 0).2.2.2.2.2 := by unfold gFl; rw [if_neg hc]
  have hf1 := hb i _ hi2 e0
  rw [hf]
  generalize (gRead (z.pg.2 i) 2 z.sg.1 true 0 4 z.by [] 0).2.2.2.2.2 = F at *
  rcases hd with ⟨e, rfl⟩ | ⟨b, e, b1, b2, rfl, rfl⟩
  · have e1 : gDet (gFl z) (i + 1) = some (i, F) := by
      show (match gFl z i with | none => gDet (gFl z) i | some f => match gDet (gFl z) i with | none => some (i, f) | some b => if f < b.2 then some (i, f) else some b) = _
      rw [e0, e]
    rw [if_pos neg1, zw_some, nI_1]
    exact ⟨hi2, rfl, fs, Or.inr ⟨_, e1, by show i < i + 1; omega, hf1, rfl, rfl⟩⟩
  · have e1 : gDet (gFl z) (i + 1) = if F < b.2 then some (i, F) else some b := by
      show (match gFl z i with | none => gDet (gFl z) i | some f => match gDet (gFl z) i with | none => some (i, f) | some b => if f < b.2 then some (i, f) else some b) = _
      rw [e0, e]
    rw [if_neg (nI_pos (by omega))]
    by_cases hlt : F < b.2
    · rw [if_pos hlt] at e1
      rw [if_pos (by rw [nI_ltI (by omega) (by omega)]; exact hlt), zw_some, nI_1]
      exact ⟨hi2, rfl, fs, Or.inr ⟨_, e1, by show i < i + 1; omega, hf1, rfl, rfl⟩⟩
    · rw [if_neg hlt] at e1
      rw [if_neg (by rw [nI_ltI (by omega) (by omega)]; exact hlt), zw_some, nI_1]
      exact ⟨hi2, rfl, fs, Or.inr ⟨_, e1, by omega, b2, rfl, rfl⟩⟩
