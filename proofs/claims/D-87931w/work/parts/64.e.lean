/-! the model reads: readOne, readAll, resultOf -/
set_option maxRecDepth 100000
theorem RD.fr40 {h h' : zH} {ob st pd f : Nat} {o : List Nat} (r : RD h ob st pd o f) (hob : ob ≠ 92) (fq : fr (fun a j => a = 92 ∧ 40 ≤ j ∧ j ≤ 42) h h') : RD h' ob st pd o f := by
  obtain ⟨r1, r2, r3, r4, r5, r6⟩ := r
  exact ⟨(fq.P (by omega)).trans r1, (fq.I (by omega)).trans r2, (fq.I (by omega)).trans r3, (fq.I (by omega)).trans r4, fun k hk => (fq.I (by omega)).trans (r5 k hk), (fq.I (by omega)).trans r6⟩
theorem m_readOne {h : zH} {p r at' ob st pd rule sg f : Nat} {x6 : Int32} {g : gP} {l o : List Nat} (m : rAt h r at' l) (hl : l ≠ []) (hp : p < 11) (hg : mPg h p g) (sm : gSm g) (R : RD h ob st pd o f) (ok : obOk h ob) (hst : st < 4) (hpd : pd ≤ 4) (hcap : o.length + 1 < (zT h ob).2) (hrule : rule ≤ 3) (hsg : zI h 109 0 = nI sg) (hsg2 : sg ≤ 1114111) (hr : r ≠ ob ∧ r ≠ 92) : zw (fX9_readOne h 92 (nI p) (nI rule) r (nI at') (nI (at' + l.length)) x6) (fun y => ((gLk g st pd l).1 = 1 ∧ x6 = 0 → y.1 = 0 ∧ RD y.2 ob st pd o f) ∧ (¬ ((gLk g st pd l).1 = 1 ∧ x6 = 0) → (gLk g st pd l).1 ≤ 1 ∧ rule = 0 → y.1 = -9 ∧ RD y.2 ob st pd o (f + 1)) ∧ (¬ ((gLk g st pd l).1 = 1 ∧ x6 = 0) → ¬ ((gLk g st pd l).1 ≤ 1 ∧ rule = 0) → y.1 = nI (gR1 g rule sg st pd l).1 ∧ RD y.2 ob (gR1 g rule sg st pd l).2.2.1 (gR1 g rule sg st pd l).2.2.2.1 (o ++ (gR1 g rule sg st pd l).2.1) (f + (gR1 g rule sg st pd l).2.2.2.2)) ∧ fr (fun a j => a = ob ∨ a = 92 ∧ 34 ≤ j ∧ j ≤ 42 ∧ j ≠ 36) h y.2) := by
  have hob := ok.1
  have hL := m.2.1
  have hL2 := m.2.2.1
  have hlen : 0 < l.length := List.length_pos_iff.mpr hl
  unfold fX9_readOne
  rw [zw_b2]
  refine (m_look m hp hg sm R.2.1 R.2.2.1 hst hpd).mono ?_
  rintro ⟨v, h1⟩ ⟨hv, hk2, hk3, f1⟩
  dsimp only at hv hk2 hk3 f1 ⊢
  subst hv
  have R1 := R.fr40 (by omega) f1
  have ok1 := obOk_fr f1 ok
  have cap1 : o.length + 1 < (zT h1 ob).2 := by rw [f1.T]; exact hcap
  have hg1 : mPg h1 p g := hg.fr f1 (fun a j h1 h2 => by omega)
  have c3 : (gLk g st pd l).1 ≤ 3 := gLk_c
  have fW : fr (fun a j => a = ob ∨ a = 92 ∧ 34 ≤ j ∧ j ≤ 42 ∧ j ≠ 36) h h1 := f1.mono fun a j hw => by omega
  generalize hS : gLk g st pd l = S at *
  -- what comes behind the waiting
  have rest : ¬ (S.1 = 1 ∧ x6 = 0) → zw (fX9_readOne_J25 h1 92 (nI rule) r (nI at') (nI S.1)) (fun y => (S.1 = 1 ∧ x6 = 0 → y.1 = 0 ∧ RD y.2 ob st pd o f) ∧ (¬ (S.1 = 1 ∧ x6 = 0) → S.1 ≤ 1 ∧ rule = 0 → y.1 = -9 ∧ RD y.2 ob st pd o (f + 1)) ∧ (¬ (S.1 = 1 ∧ x6 = 0) → ¬ (S.1 ≤ 1 ∧ rule = 0) → y.1 = nI (gR1 g rule sg st pd l).1 ∧ RD y.2 ob (gR1 g rule sg st pd l).2.2.1 (gR1 g rule sg st pd l).2.2.2.1 (o ++ (gR1 g rule sg st pd l).2.1) (f + (gR1 g rule sg st pd l).2.2.2.2)) ∧ fr (fun a j => a = ob ∨ a = 92 ∧ 34 ≤ j ∧ j ≤ 42 ∧ j ≠ 36) h y.2) := by
    intro nw
    unfold fX9_readOne_J25
    by_cases e2 : S.1 = 2
    · obtain ⟨h40, h41⟩ := hk2 e2
      have hit := gLk_hit sm m.2.2.2.2 (by rw [hS]; exact e2)
      rw [hS] at hit
      rw [if_pos (by rw [e2]; rfl), zw_b1, h41]
      refine (m_putUnits R1 ok1 cap1 hit.2.2.2).mono ?_
      rintro h2 ⟨R2, f2⟩
      rw [zw_let, zw_some, eI, if_neg (by omega), f2.I (by omega), h40]
      refine ⟨fun q => absurd q nw, fun _ q => absurd q.1 (by omega), fun _ _ => ?_, fW.trans ((f2.mono fun a j hw => by omega).sI (by omega) _)⟩
      unfold gR1
      rw [hS, if_pos e2]
      obtain ⟨q1, q2, q3, q4, q5, q6⟩ := R2
      refine ⟨rfl, q1, ?_, ?_, ?_, fun k hk => ?_, ?_⟩
      · rw [eI, if_neg (by omega)]; exact q2
      · rw [eIs]; rfl
      · rw [eI, if_neg (by omega)]; exact q4
      · rw [eI, if_neg (by omega)]; exact q5 k hk
      · rw [eI, if_neg (by omega)]; exact q6
    rw [if_neg (by rw [li, nI_eq (by omega) (by omega)]; exact e2)]
    by_cases e3 : S.1 = 3
    · have h42 := hk3 e3
      have sh := gLk_sh (g := g) (st := st) (pd := pd) (l := l) (by rw [hS]; exact e3)
      rw [hS] at sh
      have s3 := sm.2.2.2.1
      have ws := sm.2.2.2.2.2 _ sh.2.2.1
      rw [if_pos (by rw [e3]; rfl), zw_ck, h42, nI_clamp (by omega), show zI h1 (92 + 13) (10 * p + S.2.1) = nI (g 12 S.2.1) from hg1.s3 sh.2.2.1]
      refine ⟨vin (by omega) (by omega), ?_⟩
      obtain ⟨q1, q2, q3, q4, q5, q6⟩ := R1
      by_cases hs : g 12 S.2.1 = 0
      · rw [if_pos (by rw [hs]; rfl), zw_ck, zw_let, zw_some, show zI h1 (92 + 12) (10 * p + S.2.1) = nI (g 11 S.2.1) from hg1.s2 sh.2.2.1]
        refine ⟨vin (by omega) (by omega), fun q => absurd q nw, fun _ q => absurd q.1 (by omega), fun _ _ => ?_, fW.trans ((fr.refl _ h1).sI (by omega) _)⟩
        unfold gR1
        rw [hS, if_neg e2, if_pos e3, if_pos hs]
        refine ⟨rfl, q1, ?_, ?_, ?_, fun k hk => ?_, ?_⟩
        · rw [eI, if_neg (by omega)]; exact q2
        · rw [eIs]
        · rw [eI, if_neg (by omega), List.append_nil]; exact q4
        · rw [List.append_nil] at hk ⊢
          rw [eI, if_neg (by omega)]; exact q5 k hk
        · rw [eI, if_neg (by omega)]; exact q6
      · rw [if_neg (by rw [n_0 (by have := ws.2.2.2.2; omega)]; exact hs), zw_ck, zw_let, zw_some, show zI h1 (92 + 12) (10 * p + S.2.1) = nI (g 11 S.2.1) from hg1.s2 sh.2.2.1]
        refine ⟨vin (by omega) (by omega), fun q => absurd q nw, fun _ q => absurd q.1 (by omega), fun _ _ => ?_, fW.trans ((fr.refl _ h1).sI (by omega) _)⟩
        unfold gR1
        rw [hS, if_neg e2, if_pos e3, if_neg hs]
        refine ⟨rfl, q1, ?_, ?_, ?_, fun k hk => ?_, ?_⟩
        · rw [eIs]
        · rw [eI, if_neg (by omega)]; exact q3
        · rw [eI, if_neg (by omega), List.append_nil]; exact q4
        · rw [List.append_nil] at hk ⊢
          rw [eI, if_neg (by omega)]; exact q5 k hk
        · rw [eI, if_neg (by omega)]; exact q6
    rw [if_neg (by rw [li, nI_eq (by omega) (by omega)]; exact e3), zw_let]
    have R2 : RD (zsI h1 92 39 (zI h1 92 39 + 1)) ob st pd o (f + 1) := by
      obtain ⟨q1, q2, q3, q4, q5, q6⟩ := R1
      refine ⟨q1, ?_, ?_, ?_, fun k hk => ?_, ?_⟩
      · rw [eI, if_neg (by omega)]; exact q2
      · rw [eI, if_neg (by omega)]; exact q3
      · rw [eI, if_neg (by omega)]; exact q4
      · rw [eI, if_neg (by omega)]; exact q5 k hk
      · rw [eIs, q6, nI_1]
    have f2 : fr (fun a j => a = ob ∨ a = 92 ∧ 34 ≤ j ∧ j ≤ 42 ∧ j ≠ 36) h (zsI h1 92 39 (zI h1 92 39 + 1)) := fW.sI (by omega) _
    have ok2 := obOk_fr f2 ok
    generalize zsI h1 92 39 (zI h1 92 39 + 1) = h2 at *
    by_cases r0 : rule = 0
    · rw [if_pos (by rw [r0]; rfl), zw_some]
      exact ⟨fun q => absurd q nw, fun _ _ => ⟨rfl, R2⟩, fun _ q => absurd ⟨by omega, r0⟩ q, f2⟩
    rw [if_neg (by rw [n_0 (by omega)]; exact r0), zw_let]
    have R3 : RD (zsI h2 92 35 4) ob st 4 o (f + 1) := by
      obtain ⟨q1, q2, q3, q4, q5, q6⟩ := R2
      refine ⟨q1, ?_, ?_, ?_, fun k hk => ?_, ?_⟩
      · rw [eI, if_neg (by omega)]; exact q2
      · rw [eIs]; rfl
      · rw [eI, if_neg (by omega)]; exact q4
      · rw [eI, if_neg (by omega)]; exact q5 k hk
      · rw [eI, if_neg (by omega)]; exact q6
    have f3 : fr (fun a j => a = ob ∨ a = 92 ∧ 34 ≤ j ∧ j ≤ 42 ∧ j ≠ 36) h (zsI h2 92 35 4) := f2.sI (by omega) _
    have ok3 := obOk_fr f3 ok
    generalize zsI h2 92 35 4 = h3 at *
    have fin : ∀ h4 o4, (rule = 1 → o4 = o ++ units sg) → (rule ≠ 1 → o4 = o) → RD h4 ob st 4 o4 (f + 1) → fr (fun a j => a = ob ∨ a = 92 ∧ 34 ≤ j ∧ j ≤ 42 ∧ j ≠ 36) h h4 → zw (fX9_readOne_J135 h4 92 (nI rule) r (nI at')) (fun y => (S.1 = 1 ∧ x6 = 0 → y.1 = 0 ∧ RD y.2 ob st pd o f) ∧ (¬ (S.1 = 1 ∧ x6 = 0) → S.1 ≤ 1 ∧ rule = 0 → y.1 = -9 ∧ RD y.2 ob st pd o (f + 1)) ∧ (¬ (S.1 = 1 ∧ x6 = 0) → ¬ (S.1 ≤ 1 ∧ rule = 0) → y.1 = nI (gR1 g rule sg st pd l).1 ∧ RD y.2 ob (gR1 g rule sg st pd l).2.2.1 (gR1 g rule sg st pd l).2.2.2.1 (o ++ (gR1 g rule sg st pd l).2.1) (f + (gR1 g rule sg st pd l).2.2.2.2)) ∧ fr (fun a j => a = ob ∨ a = 92 ∧ 34 ≤ j ∧ j ≤ 42 ∧ j ≠ 36) h y.2) := by
      intro h4 o4 ho1 ho2 R4 f4
      have e1 : gR1 g rule sg st pd l = (1, (if rule = 1 then units sg else if rule = 3 then [56320 + bt l 0] else []), st, 4, 1) := by
        unfold gR1
        rw [hS, if_neg e2, if_neg e3]
      rw [e1]
      unfold fX9_readOne_J135
      by_cases r3 : rule = 3
      · have ho4 := ho2 (by omega)
        subst ho4
        have hc := m.2.2.2.1 0 hlen
        have ra : zI h4 r at' = nI (bt l 0) := (f4.I (by omega)).trans hc
        have hA := m.ar (k := 0) hlen
        rw [if_pos (by rw [r3]; rfl), zw_ck, nI_clamp (by omega), ra, zw_b1, show (56320 : Int32) = nI 56320 from rfl, nI_add]
        refine ⟨by unfold zAr at hA ⊢; rw [f4.T]; exact hA, (m_put R4 (obOk_fr f4 ok) (by rw [f4.T]; omega)).mono ?_⟩
        rintro h5 ⟨R5, f5⟩
        rw [zw_some]
        refine ⟨fun q => absurd q nw, fun _ q => absurd q.2 r0, fun _ _ => ⟨rfl, ?_⟩, f4.trans (f5.mono fun a j hw => by omega)⟩
        show RD h5 ob st 4 (o4 ++ if rule = 1 then units sg else if rule = 3 then [56320 + bt l 0] else []) (f + 1)
        rw [if_neg (show ¬ rule = 1 by omega), if_pos r3]
        exact R5
      · rw [if_neg (by rw [li, nI_eq (by omega) (by omega)]; exact r3), zw_some]
        refine ⟨fun q => absurd q nw, fun _ q => absurd q.2 r0, fun _ _ => ⟨rfl, ?_⟩, f4⟩
        show RD h4 ob st 4 (o ++ if rule = 1 then units sg else if rule = 3 then [56320 + bt l 0] else []) (f + 1)
        by_cases r1 : rule = 1
        · rw [if_pos r1, ← ho1 r1]; exact R4
        · rw [if_neg r1, if_neg r3, List.append_nil, ← ho2 r1]; exact R4
    by_cases r1 : rule = 1
    · rw [if_pos (by rw [r1]; rfl), zw_ck, zw_b1, show zI h3 (92 + 17) (0 : Int32).toNatClampNeg = nI sg from (f3.I (a := 109) (k := 0) (by omega)).trans hsg]
      refine ⟨pk_in 0 2 (by omega), (m_putUnits R3 ok3 (by rw [f3.T]; exact hcap) hsg2).mono ?_⟩
      rintro h4 ⟨R4, f4⟩
      exact fin h4 _ (fun _ => rfl) (fun q => absurd r1 q) R4 (f3.trans (f4.mono fun a j hw => by omega))
    · rw [if_neg (by rw [li, nI_eq (by omega) (by omega)]; exact r1)]
      exact fin h3 o (fun q => absurd q r1) (fun _ => rfl) R3 f3
  by_cases e1 : S.1 = 1
  · rw [if_pos (by rw [e1]; rfl)]
    by_cases hx : x6 = 0
    · rw [if_pos hx, zw_some]
      exact ⟨fun _ => ⟨rfl, R1⟩, fun q => absurd ⟨e1, hx⟩ q, fun q => absurd ⟨e1, hx⟩ q, fW⟩
    · rw [if_neg hx]
      exact rest (fun q => hx q.2)
  · rw [if_neg (by rw [li, nI_eq (by omega) (by omega)]; exact e1)]
    exact rest (fun q => e1 q.1)
