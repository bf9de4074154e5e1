/-! the exchange's tables: page derive entry shift drop size -/
set_option maxRecDepth 100000
theorem x_find {h : zH} {a : Nat} {g : gP} {s n b : Nat} (hs : s < 2 ^ 31) (hn : n < 2 ^ 31) (hb : b < 2 ^ 31) (hg : xTab h a g) (hm : gSm g) : fX3_find h a (nI s) (nI b) (nI n) = some (if gEn g s n b < g 2 0 then nI (gEn g s n b) else -1) := by
  apply zw_eq
  have c2 := hg.2.1
  obtain ⟨m0, m1, m2, m3, me, ms⟩ := hm
  unfold fX3_find
  rw [← nI_0]
  have key := zw_ff (body := fun s_1 => fX3_find_L3 h a (nI s) (nI b) (nI n) s_1) (Q := fun z => z = if gEn g s n b < g 2 0 then nI (gEn g s n b) else -1) 0 (g 2 0) (fun k => g 4 k == s && g 5 k == n && g 6 k == b)
  simp only [Nat.zero_add] at key
  refine key ?_ ?_ ?_
  · simp (disch := omega) only [fX3_find_L3, zw_b1, zw_b2, zw_ck, zw_let, zw_ite, zw_some, c2, nI_leI, Nat.le_refl, if_true]
    exact ⟨_, rfl, fun e => by unfold gEn; rw [if_neg (by omega)]⟩
  · intro k hk hh
    have b0 := (me k hk).lt
    simp only [Bool.and_eq_true, beq_iff_eq] at hh
    simp (disch := omega) only [fX3_find_L3, zw_b1, zw_b2, zw_ck, zw_let, zw_ite, zw_some, nI_clamp, vin, c2, nI_leI, true_and, hg.e0 hk, hg.e1 hk, hg.e2 hk, nI_eq, hh.1.1, hh.1.2, hh.2, if_true]
    rw [if_neg (by omega)]
    exact ⟨_, rfl, fun e => by unfold gEn; rw [if_pos (by omega), e]⟩
  · intro k hk hh
    have b0 := (me k hk).lt
    apply zw_eq
    simp only [Bool.and_eq_false_iff, beq_eq_false_iff_ne] at hh
    simp (disch := omega) only [fX3_find_L3, zw_b1, zw_b2, zw_ck, zw_let, zw_ite, zw_some, nI_clamp, vin, c2, nI_leI, true_and, hg.e0 hk, hg.e1 hk, hg.e2 hk, nI_eq, nI_1]
    rw [if_neg (by omega)]
    split
    · split
      · rw [if_neg (by omega)]; trivial
      · trivial
    · trivial
theorem x_findShift {h : zH} {a : Nat} {g : gP} {s b : Nat} (hs : s < 2 ^ 31) (hb : b < 2 ^ 31) (hg : xTab h a g) (hm : gSm g) : fX3_findShift h a (nI s) (nI b) = some (if gSh g s b < g 3 0 then nI (gSh g s b) else -1) := by
  apply zw_eq
  have c2 := hg.2.2.1
  obtain ⟨m0, m1, m2, m3, me, ms⟩ := hm
  unfold fX3_findShift
  rw [← nI_0]
  have key := zw_ff (body := fun s_1 => fX3_findShift_L2 h a (nI s) (nI b) s_1) (Q := fun z => z = if gSh g s b < g 3 0 then nI (gSh g s b) else -1) 0 (g 3 0) (fun k => g 9 k == s && g 10 k == b)
  simp only [Nat.zero_add] at key
  refine key ?_ ?_ ?_
  · simp (disch := omega) only [fX3_findShift_L2, zw_b1, zw_b2, zw_ck, zw_let, zw_ite, zw_some, c2, nI_leI, Nat.le_refl, if_true]
    exact ⟨_, rfl, fun e => by unfold gSh; rw [if_neg (by omega)]⟩
  · intro k hk hh
    have b0 := ms k hk
    unfold sWf at b0
    simp only [Bool.and_eq_true, beq_iff_eq] at hh
    simp (disch := omega) only [fX3_findShift_L2, zw_b1, zw_b2, zw_ck, zw_let, zw_ite, zw_some, nI_clamp, vin, c2, nI_leI, true_and, hg.s0 hk, hg.s1 hk, nI_eq, hh.1, hh.2, if_true]
    rw [if_neg (by omega)]
    exact ⟨_, rfl, fun e => by unfold gSh; rw [if_pos (by omega), e]⟩
  · intro k hk hh
    have b0 := ms k hk
    unfold sWf at b0
    apply zw_eq
    simp only [Bool.and_eq_false_iff, beq_eq_false_iff_ne] at hh
    simp (disch := omega) only [fX3_findShift_L2, zw_b1, zw_b2, zw_ck, zw_let, zw_ite, zw_some, nI_clamp, vin, c2, nI_leI, true_and, hg.s0 hk, hg.s1 hk, nI_eq, nI_1]
    rw [if_neg (by omega)]
    split
    · rw [if_neg (by omega)]; trivial
    · trivial
/-- an entry is set: its cells -/
theorem x_set {h : zH} {a k : Nat} {v : Nat → Int32} (hk : k < 100) (hB : zB (v 4)) : zw (fX3_set h a (nI k) (v 0) (v 2) (v 1) (v 3) (v 4)) (fun h' => fr (fun b j => a + 1 ≤ b ∧ b ≤ a + 5 ∧ j = k) h h' ∧ ∀ c, c < 5 → zI h' (a + xo c) k = v c) := by
  have hB' : zB (v 4) = True := eq_true hB
  simp (disch := omega) only [fX3_set, zw_b1, zw_b2, zw_ck, zw_let, zw_ite, zw_some, vin, nI_clamp, hB', true_and]
  refine ⟨?_, fun c hc => ?_⟩
  · exact (((((fr.refl _ h).sI (by omega) _).sI (by omega) _).sI (by omega) _).sI (by omega) _).sI (by omega) _
  · have : c = 0 ∨ c = 1 ∨ c = 2 ∨ c = 3 ∨ c = 4 := by omega
    rcases this with rfl | rfl | rfl | rfl | rfl <;> simp (disch := omega) only [eI, xo, Nat.reduceAdd, Nat.reduceMul, Nat.reduceSub, Nat.reduceEqDiff, Nat.reduceLT, Nat.reduceLeDiff, reduceIte, true_and, and_true, false_and, and_false, ite_true, ite_false, if_true, if_false, not_true_eq_false, not_false_eq_true, Nat.add_left_cancel_iff]
theorem x_setS {h : zH} {a k : Nat} {v : Nat → Int32} (hk : k < 10) (hB : zB (v 3)) : zw (fX3_setShift h a (nI k) (v 0) (v 1) (v 2) (v 3)) (fun h' => fr (fun b j => a + 6 ≤ b ∧ b ≤ a + 9 ∧ j = k) h h' ∧ ∀ c, c < 4 → zI h' (a + 6 + c) k = v c) := by
  have hB' : zB (v 3) = True := eq_true hB
  simp (disch := omega) only [fX3_setShift, zw_b1, zw_b2, zw_ck, zw_let, zw_ite, zw_some, vin, nI_clamp, hB', true_and]
  refine ⟨?_, fun c hc => ?_⟩
  · exact ((((fr.refl _ h).sI (by omega) _).sI (by omega) _).sI (by omega) _).sI (by omega) _
  · have : c = 0 ∨ c = 1 ∨ c = 2 ∨ c = 3 := by omega
    rcases this with rfl | rfl | rfl | rfl <;> simp (disch := omega) only [eI, Nat.reduceAdd, Nat.reduceMul, Nat.reduceSub, Nat.reduceEqDiff, Nat.reduceLT, Nat.reduceLeDiff, reduceIte, true_and, and_true, false_and, and_false, ite_true, ite_false, if_true, if_false, not_true_eq_false, not_false_eq_true, Nat.add_left_cancel_iff, Nat.add_assoc]
theorem xo_rg {c : Nat} (hc : c < 5) : 1 ≤ xo c ∧ xo c ≤ 5 := by unfold xo; (repeat' split) <;> omega
theorem xo_inj {c d : Nat} (hc : c < 5) (hd : d < 5) (e : xo c = xo d) : c = d := by
  unfold xo at e
  (repeat' split at e) <;> omega
section UPX
variable {h h' : zH} {y y' : gY} {z : gZ} {W : Nat → Nat → Prop}
theorem XR.upP {v : Nat × (Nat → gP)} (x : XR h y z) (f : fx W h h') (hW : ∀ a j, a < 4 ∨ 26 ≤ a ∧ a < 139 → W a j → sSc y.2.2 a j ∨ a = 1 ∧ (j = 2 ∨ j = 3) ∨ 54 ≤ a ∧ a ≤ 63) (hb : y'.2.2 = y.2.2) (had : ∀ d, d < 4 → (z.ma d).1 0 = 1 → y'.1 ((z.ma d).1 1) = y.1 ((z.ma d).1 1)) (hv : xC1 h' y' v) : XR h' y' (qP z v) := by
  obtain ⟨t, m1, m2, m3, m4, m5, m6, m7, m8, m9, m0⟩ := x
  have hn : 139 ≤ zn h := m1.1
  have h4 := m4.1
  have m7' : xC7 h' y.1 z.ma := xC7_fx f hn (fun a j hr w => by have := hW a j (by omega) w; unfold sSc at this; omega) m7
  refine ⟨zCt.ext t f.lx, hv, xC2_fx f hn (fun a j hr w => by have := hW a j (by omega) w; unfold sSc at this; omega) m2, xC3_fx f hn (fun a j hr w => by have := hW a j (by omega) w; unfold sSc at this; omega) m3, by rw [hb]; exact xC4_fx f hn (fun a j hr w => by have := hW a j (by omega) w; unfold sSc at this; omega) m4, xC5_fx f hn (fun a j hr w => by have := hW a j (by omega) w; unfold sSc at this; omega) m5, xC6_fx f hn (fun a j hr w => by have := hW a j (by omega) w; unfold sSc at this; omega) m6, fun d hd => ?_, xC8_fx f hn (fun a j hr w => by have := hW a j (by omega) w; unfold sSc at this; omega) m8, xC9_fx f hn (fun a j hr w => by have := hW a j (by omega) w; unfold sSc at this; omega) m9, xC0_fx f hn (fun a j hr w => by have := hW a j (by omega) w; unfold sSc at this; omega) m0⟩
  obtain ⟨a1, a2⟩ := m7' d hd
  refine ⟨a1, fun h1 => ⟨(a2 h1).1, ?_⟩⟩
  obtain ⟨q1, q2, q3⟩ := (a2 h1).2
  exact ⟨q1, by rw [show (qP z v).ma = z.ma from rfl, had d hd h1]; exact q2, q3⟩
/-- a table's own block (and scratch) -/
def wxPg (np : Nat) (y : gY) (q a j : Nat) : Prop := wxSc np y a j ∨ y.1 q ≤ a ∧ a < y.1 q + 22
theorem XR.upQ {q : Nat} {g : gP} (x : XR h y z) (f : fx (wxPg z.pg.1 y q) h h') (hq : q < z.pg.1) (h0 : z.pg.2 q 0 0 = 0) (hg : xPg h' (y.1 q) g) (g0 : g 0 0 = 0) : XR h' y (qP z (z.pg.1, gAt z.pg.2 q g)) := by
  obtain ⟨n, m1, m2, m3, m4, m5, m6, m7⟩ := x.pg
  have hb := x.re.1
  have s22 : sz (z.pg.2 q) = 22 := if_pos h0
  have q1 := (m6.1 q hq).1
  have key : ∀ a j, a < 4 ∨ 26 ≤ a ∧ a < 139 → wxPg z.pg.1 y q a j → sSc y.2.2 a j := fun a j ha w => by
    rcases w with (w | w) | w
    · exact w
    · exact absurd w (dSc_no m6 ha)
    · omega
  refine x.upP f (fun a j ha w => Or.inl (key a j ha w)) rfl (fun d hd _ => rfl) ?_
  have szz : ∀ p, sz (gAt z.pg.2 q g p) = sz (z.pg.2 p) := fun p => by
    unfold gAt
    split
    · rename_i e; subst e; rw [s22]; exact if_pos g0
    · rfl
  refine ⟨Nat.le_trans n f.1.1, (f.I (by omega) (fun w => by have := key _ _ (by omega) w; unfold sSc at this; omega)).trans m1, m2, fun p hp => (f.P (by omega) (fun w => by have := key _ _ (by omega) w; unfold sSc at this; omega)).trans (m3 p hp), (f.P (by omega) (fun w => by have := key _ _ (by omega) w; unfold sSc at this; omega)).trans m4, zCt.ext m5 f.lx, ?_, fun p hp => ?_⟩
  · have m6' := m6.up f.1.1
    refine ⟨fun p hp => ⟨?_, by rw [szz]; exact (m6'.1 p hp).2⟩, fun p r hp hr hpr => by rw [szz, szz]; exact m6'.2.1 p r hp hr hpr, m6'.2.2.1, m6'.2.2.2.1, fun p hp => by rw [szz]; exact m6'.2.2.2.2 p hp⟩
    show 139 ≤ y.1 p ∨ y.1 p = 4 ∧ gAt z.pg.2 q g p 0 0 = 0
    have := (m6.1 p hp).1
    unfold gAt
    split
    · rename_i e; subst e; rw [g0]; omega
    · exact this
  · show xPg h' (y.1 p) (gAt z.pg.2 q g p)
    unfold gAt
    split
    · rename_i e; subst e; exact hg
    · rename_i e
      refine xPg_fx f (m6.1 p hp).2 (fun i j hi hw => ?_) (m7 p hp)
      have s1 := sz_le (z.pg.2 p)
      have hpq := m6.2.1 p q hp hq e
      rw [s22] at hpq
      unfold ap at hpq
      rcases hw with (hw | hw) | hw
      · have h1 := (m6.1 p hp).1
        unfold sSc at hw
        omega
      · rcases hw with ⟨hj, r, hr, e2⟩ | hw
        · by_cases hpr : p = r
          · subst hpr; omega
          · have h2 := m6.2.1 p r hp hr hpr
            have s2 := sz_le (z.pg.2 r)
            unfold ap at h2
            omega
        · have h2 := m6.2.2.2.2 p hp
          unfold ap at h2
          omega
      · omega
end UPX
