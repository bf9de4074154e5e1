/-! the exchange: page derive -/
set_option maxRecDepth 100000
/-- the pages of machines are there -/
def maPg (z : gZ) : Prop := ∀ d, d < 4 → (z.ma d).1 0 = 1 → (z.ma d).1 1 < z.pg.1
theorem x_comes {h h1 : zH} {y : gY} {z : gZ} {A : Nat} {g : gP} (x : XR h y z) (w : pgWf z.pg) (wm : maPg z) (hnp : z.pg.1 < 10) (f : fx (fun _ _ => False) h h1) (hA : zn h ≤ A) (hA2 : A + sz g ≤ zn h1) (hg : xPg h1 A g) (hc : zc h1 ≤ zc h + 100) (hu : zu h1 ≤ zu h + 10000) : zw (fX0_comes h1 1 A) (xQ h (nI z.pg.1, qP z (z.pg.1 + 1, gAt z.pg.2 z.pg.1 g))) := by
  obtain ⟨n, m1, m2, m3, m4, m5, m6, m7⟩ := x.pg
  have hb := x.re.1
  have x1 : XR h1 y z := x.scr (f.mono fun _ _ e => e.elim)
  obtain ⟨s1, s2⟩ := x_slot x1.st hnp
  have c2 := x1.pg.2.1
  generalize hN : z.pg.1 = np at *
  unfold fX0_comes
  rw [zw_ck, c2, nI_clamp (by omega), show zP h1 (1 + 2) np = some (54 + np) from s1, zb1_s, zw_ck, zw_let, zw_let, zw_some]
  refine ⟨vin (by omega) (by omega), s2, ?_⟩
  rw [ePI, c2, eI, if_pos ⟨rfl, rfl⟩, nI_1, nI_pred]
  have f2 : fr (fun a j => a = 54 + np ∨ a = 1 ∧ j = 2) h1 (zsI (zsP h1 (54 + np) 0 (some A)) 1 2 (nI (np + 1))) := ((fr.refl _ h1).sP (Or.inl rfl) (by rw [s2.t]; rfl) _).sI (Or.inr ⟨rfl, rfl⟩) _
  generalize hh2 : zsI (zsP h1 (54 + np) 0 (some A)) 1 2 (nI (np + 1)) = h2 at *
  have f3 : fx (fun a j => a = 54 + np ∨ a = 1 ∧ j = 2) h h2 := (f.mono fun _ _ e => e.elim).trans f2.fx
  have sg := sz_le g
  refine ⟨rfl, ⟨(fun p => if p = np then A else y.1 p, y.2.1, y.2.2), ?_⟩, f3.mono fun a j hw => by unfold wX; omega, ?_, ?_⟩
  · refine x.upP f3 (fun a j ha hw => by omega) rfl (fun d hd h1 => ?_) ?_
    · have := wm d hd h1
      show (if (z.ma d).1 1 = np then A else _) = _
      rw [if_neg (by omega)]
    · refine ⟨Nat.le_trans n f3.1.1, ?_, by show np + 1 ≤ 10; omega, fun p hp => ?_, ?_, zCt.ext m5 f3.lx, ?_, fun p hp => ?_⟩
      · rw [← hh2, eI, if_pos ⟨rfl, rfl⟩]
      · show zP h2 (54 + p) 0 = if p < np + 1 then some (if p = np then A else y.1 p) else none
        by_cases e : p = np
        · subst e
          rw [← hh2, eIP, ePP, if_pos ⟨rfl, rfl⟩, if_pos (by omega), if_pos rfl]
        · rw [f3.P (by omega) (by omega), m3 p hp, if_neg e]
          by_cases q : p < np
          · rw [if_pos q, if_pos (by omega)]
          · rw [if_neg q, if_neg (by omega)]
      · rw [f3.P (by omega) (by omega)]; exact m4
      · have m6' := m6.up f3.1.1
        have zz : zn h2 = zn h1 := f2.n
        refine ⟨fun p hp => ?_, fun p q hp hq hpq => ?_, m6'.2.2.1, m6'.2.2.2.1, fun p hp => ?_⟩
        · show (139 ≤ (if p = np then A else y.1 p) ∨ (if p = np then A else y.1 p) = 4 ∧ gAt z.pg.2 np g p 0 0 = 0) ∧ (if p = np then A else y.1 p) + sz (gAt z.pg.2 np g p) ≤ zn h2
          unfold gAt
          by_cases e : p = np
          · simp only [e, if_true]; omega
          · simp only [e, if_false]; exact m6'.1 p (by show p < np; have : p < np + 1 := hp; omega)
        · show ap (if p = np then A else y.1 p) (sz (gAt z.pg.2 np g p)) (if q = np then A else y.1 q) (sz (gAt z.pg.2 np g q))
          have hp' : p < np + 1 := hp
          have hq' : q < np + 1 := hq
          unfold gAt
          by_cases e : p = np
          · have e2 : ¬ q = np := by omega
            simp only [e, e2, if_true, if_false]
            have := (m6.1 q (by omega)).2
            unfold ap; omega
          · by_cases e2 : q = np
            · simp only [e, e2, if_true, if_false]
              have := (m6.1 p (by omega)).2
              unfold ap; omega
            · simp only [e, e2, if_false]
              exact m6.2.1 p q (by omega) (by omega) hpq
        · show ap (if p = np then A else y.1 p) (sz (gAt z.pg.2 np g p)) y.2.1 22
          have hp' : p < np + 1 := hp
          unfold gAt
          by_cases e : p = np
          · simp only [e, if_true]
            have := m6.2.2.2.1
            unfold ap; omega
          · simp only [e, if_false]
            exact m6.2.2.2.2 p (by omega)
      · show xPg h2 (if p = np then A else y.1 p) (gAt z.pg.2 np g p)
        have hp' : p < np + 1 := hp
        unfold gAt
        by_cases e : p = np
        · simp only [e, if_true]
          exact xPg_fx f2.fx hA2 (fun i j hi hw => by omega) hg
        · simp only [e, if_false]
          have := m6.1 p (by omega)
          have s1 := sz_le (z.pg.2 p)
          exact xPg_fx f3 this.2 (fun i j hi hw => by omega) (m7 p (by omega))
  · show zc h2 ≤ _; rw [f2.1.2.1]; omega
  · show zu h2 ≤ _; rw [f2.1.2.2]; omega
/-- a new table: nothing in it -/
theorem x_newT {h : zH} (hn : 139 ≤ zn h) : zw (fX3_init (zmk h (3, 0) 27) (zn h)) (fun h1 => zTn (zmk h (3, 0) 27) h1 (zn h) ∧ fx (fun _ _ => False) h h1 ∧ zc h1 = zc h + 22 ∧ zu h1 = zu h + 1195) := by
  have e1 : zn (zmk h (3, 0) 27) = zn h + 1 := rfl
  have e2 : zc (zmk h (3, 0) 27) = zc h + 1 := rfl
  have e3 : zu (zmk h (3, 0) 27) = zu h + 27 := rfl
  refine (i_table (h := zmk h (3, 0) 27) (a := zn h) (by omega) rfl (by rw [mk_T, if_pos rfl]) (fun j => by rw [mk_P, if_pos rfl]) (fun b j h1 h2 => ?_)).mono fun h1 t => ⟨t, ?_, ?_, ?_⟩
  · have : b = zn h := by omega
    rw [mk_I, mk_L, if_pos this, if_pos this]
    exact ⟨rfl, rfl⟩
  · obtain ⟨t1, t2, t3, t4, t5, t6⟩ := t
    refine ⟨⟨by omega, by omega, by omega⟩, fun a ha => ?_, fun a j ha _ => ?_, fun a j ha _ => ?_⟩
    · rw [(t5 a ha).1, mk_T, if_neg (by omega)]
    · rw [(t5 a ha).2.1, (t5 a ha).2.2.1, (t5 a ha).2.2.2, mk_I, mk_P, mk_L, if_neg (by omega), if_neg (by omega), if_neg (by omega)]
      exact ⟨rfl, rfl, rfl⟩
    · rw [(t5 a ha).2.1, mk_P, if_neg (by omega)]
  · have := t.2.1
    omega
  · have := t.2.2.1
    omega
theorem xTab_new {h h1 : zH} {a : Nat} (t : zTn h h1 a) (hn : zn h1 = a + 22) : xTab h1 a (gNew 0) := by
  have z6 := t.2.2.2.2.2
  refine ⟨?_, ?_, ?_, fun c k _ hk => absurd hk (Nat.not_lt_zero _), fun c k _ hk => absurd hk (Nat.not_lt_zero _)⟩ <;> rw [(z6 a _ (by omega) (by omega)).1] <;> rfl
theorem x_page_ {h : zH} {y : gY} {z : gZ} {X : Int32} (x : XR h y z) (w : pgWf z.pg) (wm : maPg z) : zw (fX0_page h 1 X) (xQ h (sp_page z X)) := by
  have hn := x.n
  have hnp : z.pg.1 ≤ 10 := w.1
  have c0 : zI h 1 2 = nI z.pg.1 := x.pg.2.1
  unfold fX0_page sp_page
  rcases vR_cases X 0 3 (by omega) (by omega) with ⟨e, -, e0⟩ | ⟨k, -, hk, rfl, e, -, e0⟩
  · rw [e, show fX0_in X 0 3 = some 0 from e0, zb1_s, if_pos rfl]
    unfold fX0_page_J18
    rw [show fX0_in X 0 3 = some 0 from e0, zb1_s, if_pos rfl]
    exact x_ans0 x neg1
  rw [e, show fX0_in (nI k) 0 3 = some 1 from e0, zb1_s, if_neg (by decide), c0]
  by_cases h3 : z.pg.1 = 10
  · rw [if_pos (by rw [h3]; rfl)]
    unfold fX0_page_J18
    rw [show fX0_in (nI k) 0 3 = some 1 from e0, zb1_s, if_neg (by decide)]
    simp only [h3, if_true]
    exact x_ans0 x neg6
  rw [if_neg (by rw [li, nI_eq (by omega) (by omega)]; exact h3)]
  simp only [h3, if_false]
  have form : ∀ t : Nat, (k = t - 8 ∧ 9 ≤ t ∧ t ≤ 11) → zOb (t - 1) (zmk h (t, 0) 3) (zn h) ∧ zw (zb2 (fX0_comes (zmk h (t, 0) 3) 1 (zn h)) (fun a b => some (a, b))) (xQ h (nI z.pg.1, qP z (z.pg.1 + 1, gAt z.pg.2 z.pg.1 (gNew k)))) := by
    rintro t ⟨hkt, ht1, ht2⟩
    have ob : zOb (t - 1) (zmk h (t, 0) 3) (zn h) := zOb_mk (by omega) (by show zn h < zn h + 1; omega) (by rw [mk_T, if_pos rfl, show t - 1 + 1 = t by omega])
    refine ⟨ob, ?_⟩
    rw [zw_b2]
    have g0 : gNew k 0 0 = k := by simp only [gNew, Nat.reduceAdd, Nat.reduceMul, Nat.reduceSub, Nat.reduceEqDiff, Nat.reduceLT, Nat.reduceLeDiff, reduceIte, true_and, and_true, false_and, and_false, ite_true, ite_false, if_true, if_false, not_true_eq_false, not_false_eq_true]
    refine (x_comes (h1 := zmk h (t, 0) 3) (A := zn h) (g := gNew k) x w wm (by omega) (fx.mk h (t, 0) 3) (Nat.le_refl _) ?_ ?_ ?_ ?_).mono fun r hr => ⟨_, rfl, hr⟩
    · show zn h + sz (gNew k) ≤ zn h + 1
      unfold sz
      rw [g0, if_neg (by omega)]
      omega
    · refine ⟨fun q => absurd q (by rw [g0]; omega), fun _ => ⟨?_, ?_, ?_, ?_⟩⟩
      · rw [g0, show 7 + k = t - 1 by omega]; exact ob
      · unfold gNew; rw [if_neg (by omega), if_pos rfl, if_neg (by omega)]
      · simp only [gNew, Nat.reduceAdd, Nat.reduceMul, Nat.reduceSub, Nat.reduceEqDiff, Nat.reduceLT, Nat.reduceLeDiff, reduceIte, true_and, and_true, false_and, and_false, ite_true, ite_false, if_true, if_false, not_true_eq_false, not_false_eq_true]
      · simp only [gNew, Nat.reduceAdd, Nat.reduceMul, Nat.reduceSub, Nat.reduceEqDiff, Nat.reduceLT, Nat.reduceLeDiff, reduceIte, true_and, and_true, false_and, and_false, ite_true, ite_false, if_true, if_false, not_true_eq_false, not_false_eq_true]
    · show zc h + 1 ≤ _; omega
    · show zu h + 3 ≤ _; omega
  have e4 : k = 0 ∨ k = 1 ∨ k = 2 ∨ k = 3 := by omega
  rcases e4 with rfl | rfl | rfl | rfl
  · rw [if_pos nI_0, zw_let, zw_ck, zw_b1]
    refine ⟨zOb_mk (by omega) (by show zn h < zn h + 1; omega) (by rw [mk_T, if_pos rfl]), (x_newT hn).mono ?_⟩
    rintro h1 ⟨t, f, k1, k2⟩
    rw [zw_b2]
    have zn1 := t.1
    refine (x_comes (g := gNew 0) x w wm (by omega) f (Nat.le_refl _) ?_ ⟨fun _ => ⟨t.2.2.2.1, xTab_new t zn1, fun q => ?_⟩, fun q => absurd rfl q⟩ (by omega) (by omega)).mono fun r hr => ⟨_, rfl, hr⟩
    · rw [zn1]
      exact Nat.add_le_add_left (sz_le _).2 _
    · exact absurd q (by simp only [gNew, Nat.reduceAdd, Nat.reduceMul, Nat.reduceSub, Nat.reduceEqDiff, Nat.reduceLT, Nat.reduceLeDiff, reduceIte, true_and, and_true, false_and, and_false, ite_true, ite_false, if_true, if_false, not_true_eq_false, not_false_eq_true])
  · rw [if_neg n10, if_pos nI1, zw_let, zw_ck]
    exact ⟨(form 9 (by omega)).1, (form 9 (by omega)).2⟩
  · rw [if_neg (by decide), if_neg (by decide), if_pos (by rfl), zw_let, zw_ck]
    exact ⟨(form 10 (by omega)).1, (form 10 (by omega)).2⟩
  · rw [if_neg (by decide), if_neg (by decide), if_neg (by decide), zw_let, zw_ck]
    exact ⟨(form 11 (by omega)).1, (form 11 (by omega)).2⟩
/-- a table takes what another one has -/
theorem x_takeT {h : zH} {a o : Nat} {g : gP} (ha : ap a 22 o 22) (tn : xTab h a (gNew 0)) (m : xTab h o g) (sm : gSm g) : zw (fX3_take h a o) (fun h' => fr (fun b _ => a ≤ b ∧ b ≤ a + 9) h h' ∧ xTab h' a (gC g 1 0)) := by
  have s2 := sm.2.2.1
  have s3 := sm.2.2.2.1
  unfold ap at ha
  unfold fX3_take
  rw [zw_let, zw_let, zw_b1, eI, if_neg (by omega), m.2.1, m.2.2.1]
  have rd : ∀ h1, fr (fun b _ => a ≤ b ∧ b ≤ a + 9) h h1 → xTab h1 o g := fun h1 f => by
    refine ⟨?_, ?_, ?_, fun c j hc hj => ?_, fun c j hc hj => ?_⟩
    · rw [f.I (by omega)]; exact m.1
    · rw [f.I (by omega)]; exact m.2.1
    · rw [f.I (by omega)]; exact m.2.2.1
    · have := xo_rg hc
      rw [f.I (by omega)]; exact m.2.2.2.1 c j hc hj
    · rw [f.I (by omega)]; exact m.2.2.2.2 c j hc hj
  refine zw_for (fun i s => s.2 = nI i ∧ fr (fun b _ => a ≤ b ∧ b ≤ a + 9) h s.1 ∧ zI s.1 a 3 = 0 ∧ zI s.1 a 4 = nI (g 2 0) ∧ zI s.1 a 10 = nI (g 3 0) ∧ ∀ c j, c < 5 → j < i → zI s.1 (a + xo c) j = nI (g (4 + c) j)) (g 2 0) ?_ ⟨rfl, ((fr.refl _ h).sI (by omega) _).sI (by omega) _, by rw [eI, if_neg (by omega), eI, if_neg (by omega), tn.1]; rfl, by rw [eI, if_neg (by omega), eI, if_pos ⟨rfl, rfl⟩], by rw [eI, if_pos ⟨rfl, rfl⟩], fun c j _ hj => absurd hj (Nat.not_lt_zero _)⟩
  rintro i ⟨h1, X⟩ hi ⟨rfl, f, c3, c4, c10, he⟩
  dsimp only at f c3 c4 c10 he ⊢
  have m1 := rd h1 f
  unfold fX3_take_L18
  simp (disch := omega) only [zw_b1, zw_b2, zw_ck, zw_let, zw_ite, zw_some, c4, nI_leI]
  split
  · have hi' : i = g 2 0 := by omega
    subst hi'
    refine zw_for (fun i s => s.2 = nI i ∧ fr (fun b _ => a ≤ b ∧ b ≤ a + 9) h s.1 ∧ zI s.1 a 3 = 0 ∧ zI s.1 a 4 = nI (g 2 0) ∧ zI s.1 a 10 = nI (g 3 0) ∧ (∀ c j, c < 5 → j < g 2 0 → zI s.1 (a + xo c) j = nI (g (4 + c) j)) ∧ ∀ c j, c < 4 → j < i → zI s.1 (a + 6 + c) j = nI (g (9 + c) j)) (g 3 0) ?_ ⟨rfl, f, c3, c4, c10, he, fun c j _ hj => absurd hj (Nat.not_lt_zero _)⟩
    rintro i ⟨h2, X⟩ hi ⟨rfl, f, c3, c4, c10, he, hs⟩
    dsimp only at f c3 c4 c10 he hs ⊢
    have m2 := rd h2 f
    unfold fX3_take_L69
    simp (disch := omega) only [zw_b1, zw_b2, zw_ck, zw_let, zw_ite, zw_some, c10, nI_leI]
    split
    · have hi' : i = g 3 0 := by omega
      subst hi'
      refine ⟨f, ?_, ?_, ?_, fun c j hc hj => ?_, fun c j hc hj => ?_⟩
      · rw [c3]; simp only [gC, Nat.reduceAdd, Nat.reduceMul, Nat.reduceSub, Nat.reduceEqDiff, Nat.reduceLT, Nat.reduceLeDiff, reduceIte, true_and, and_true, false_and, and_false, ite_true, ite_false, if_true, if_false, not_true_eq_false, not_false_eq_true]; rfl
      · rw [c4]; simp only [gC, Nat.reduceAdd, Nat.reduceMul, Nat.reduceSub, Nat.reduceEqDiff, Nat.reduceLT, Nat.reduceLeDiff, reduceIte, true_and, and_true, false_and, and_false, ite_true, ite_false, if_true, if_false, not_true_eq_false, not_false_eq_true]
      · rw [c10]; simp only [gC, Nat.reduceAdd, Nat.reduceMul, Nat.reduceSub, Nat.reduceEqDiff, Nat.reduceLT, Nat.reduceLeDiff, reduceIte, true_and, and_true, false_and, and_false, ite_true, ite_false, if_true, if_false, not_true_eq_false, not_false_eq_true]
      · rw [he c j hc (by simpa only [gC, Nat.reduceAdd, Nat.reduceMul, Nat.reduceSub, Nat.reduceEqDiff, Nat.reduceLT, Nat.reduceLeDiff, reduceIte, true_and, and_true, false_and, and_false, ite_true, ite_false, if_true, if_false, not_true_eq_false, not_false_eq_true] using hj)]; unfold gC; rw [if_neg (by omega)]
      · rw [hs c j hc (by simpa only [gC, Nat.reduceAdd, Nat.reduceMul, Nat.reduceSub, Nat.reduceEqDiff, Nat.reduceLT, Nat.reduceLeDiff, reduceIte, true_and, and_true, false_and, and_false, ite_true, ite_false, if_true, if_false, not_true_eq_false, not_false_eq_true] using hj)]; unfold gC; rw [if_neg (by omega)]
    · simp (disch := omega) only [nI_1, vin, nI_clamp, true_and]
      rw [m2.s0 (by omega), m2.s1 (by omega), m2.s2 (by omega), m2.s3 (by omega)]
      refine (x_setS (h := h2) (a := a) (k := i) (v := fun c => nI (g (9 + c) i)) (by omega) (of_eq_true (zBn (sm.2.2.2.2.2 i (by omega)).2.2.2.2))).mono ?_
      rintro h3 ⟨f3, e3⟩
      refine ⟨by omega, f.trans (f3.mono fun b j hw => by omega), ?_, ?_, ?_, fun c j hc hj => ?_, fun c j hc hj => ?_⟩
      · rw [f3.I (by omega)]; exact c3
      · rw [f3.I (by omega)]; exact c4
      · rw [f3.I (by omega)]; exact c10
      · have := xo_rg hc
        rw [f3.I (by omega)]; exact he c j hc hj
      · by_cases e : j = i
        · subst e; exact e3 c hc
        · rw [f3.I (by omega)]; exact hs c j hc (by omega)
  · simp (disch := omega) only [nI_1, vin, nI_clamp, true_and]
    rw [m1.e0 (by omega), m1.e1 (by omega), m1.e2 (by omega), m1.e3 (by omega), m1.e4 (by omega)]
    refine (x_set (h := h1) (a := a) (k := i) (v := fun c => nI (g (4 + c) i)) (by omega) (of_eq_true (zBn (sm.2.2.2.2.1 i (by omega)).2.2.2.2.2))).mono ?_
    rintro h3 ⟨f3, e3⟩
    refine ⟨by omega, f.trans (f3.mono fun b j hw => by omega), ?_, ?_, ?_, fun c j hc hj => ?_⟩
    · rw [f3.I (by omega)]; exact c3
    · rw [f3.I (by omega)]; exact c4
    · rw [f3.I (by omega)]; exact c10
    · by_cases e : j = i
      · subst e; exact e3 c hc
      · have := xo_rg hc
        rw [f3.I (by omega)]; exact he c j hc (by omega)
theorem x_derive {h : zH} {y : gY} {z : gZ} {X : Int32} (x : XR h y z) (w : pgWf z.pg) (wm : maPg z) : zw (fX0_derive h 1 X) (xQ h (sp_derive z X)) := by
  have hn := x.n
  have hnp : z.pg.1 ≤ 10 := w.1
  unfold fX0_derive sp_derive
  rcases x_table x w X (Or.inr rfl) with ⟨p, hp, rfl, e, k0, k1, t⟩ | ⟨v, h1, hv, t, xe, d⟩
  case inr =>
    rw [show fX0_tableAt h 1 X 1 = some (.inr 2, h1) from t, zxr_e]
    refine zw.mono (x_han x xe hv) fun r hr => ?_
    rcases d with ⟨e, rfl⟩ | ⟨p, hp, rfl, e, ⟨k0, rfl⟩ | ⟨k0, k1, rfl⟩⟩
    · rw [e]; exact hr
    · rw [e]; simp only [k0, if_false]; exact hr
    · have hc := (w.2 p hp).2.1
      have : z.pg.2 p 1 0 = 0 := by omega
      rw [e]; simp only [k0, this, if_true]; exact hr
  rw [show fX0_tableAt h 1 (nI p) 1 = some (.inl (some (.ref (y.1 p))), h) from t, zxr_r, zb1_s, e, x.pg.2.1]
  simp only [k0, k1, if_true, show ¬ (1 : Nat) = 0 by omega, if_false]
  by_cases h3 : z.pg.1 = 10
  · rw [if_pos (by rw [h3]; exact Int32.le_refl _), if_pos h3]
    unfold fX0_derive_J22
    exact x_need x neg6 _
  rw [if_neg (by rw [li, nI_leI (by omega) (by omega)]; omega), if_neg h3]
  unfold fX0_derive_J22
  rw [x_need1, zxv_n, zw_let, zw_ck, zw_b1]
  refine ⟨zOb_mk (by omega) (by show zn h < zn h + 1; omega) (by rw [mk_T, if_pos rfl]), (x_newT hn).mono ?_⟩
  rintro h1 ⟨t, f, c1, u1⟩
  have x1 : XR h1 y z := x.scr (f.mono fun _ _ e => e.elim)
  have zn1 := t.1
  obtain ⟨tb, tab, -⟩ := (x1.pg.2.2.2.2.2.2.2 p hp).1 k0
  have m6 := (x.pg.2.2.2.2.2.2.1.1 p hp).2
  have s22 : sz (z.pg.2 p) = 22 := if_pos k0
  rw [s22] at m6
  rw [zw_ck, zw_b1]
  refine ⟨⟨fun j q hq => ?_, fun j q hq => by cases hq⟩, (x_takeT (by unfold ap; omega) (xTab_new t zn1) tab (w.2 p hp)).mono ?_⟩
  · match j, hq with
    | 0, hq => cases hq; exact t.2.2.2.1.1 0 _ rfl
    | 1, hq => cases hq; exact tb.1 0 _ rfl
    | n + 2, hq => exact absurd (List.getElem?_eq_some_iff.mp hq).1 (by simp)
  rintro h2 ⟨f2, t2⟩
  rw [zw_b2]
  have f12 : fx (fun _ _ => False) h h2 := by
    have : fx (fun b _ => zn h ≤ b) h h2 := (f.mono fun _ _ e => e.elim).trans (f2.fx.mono fun a j hw => hw.1)
    exact this.monoN fun a j ha hw => by omega
  have g0 : gC (z.pg.2 p) 1 0 0 0 = 0 := by simp only [gC, Nat.reduceAdd, Nat.reduceMul, Nat.reduceSub, Nat.reduceEqDiff, Nat.reduceLT, Nat.reduceLeDiff, reduceIte, true_and, and_true, false_and, and_false, ite_true, ite_false, if_true, if_false, not_true_eq_false, not_false_eq_true, k0]
  refine (x_comes (g := gC (z.pg.2 p) 1 0) x w wm (by omega) f12 (Nat.le_refl _) ?_ ⟨fun _ => ⟨zCt.ext t.2.2.2.1 f2.lx, t2, fun q => ?_⟩, fun q => absurd g0 q⟩ ?_ ?_).mono fun r hr => ⟨_, rfl, hr⟩
  · rw [f2.n, zn1]
    exact Nat.add_le_add_left (sz_le _).2 _
  · exact absurd q (by simp only [gC, Nat.reduceAdd, Nat.reduceMul, Nat.reduceSub, Nat.reduceEqDiff, Nat.reduceLT, Nat.reduceLeDiff, reduceIte, true_and, and_true, false_and, and_false, ite_true, ite_false, if_true, if_false, not_true_eq_false, not_false_eq_true])
  · rw [f2.1.2.1]; omega
  · rw [f2.1.2.2]; omega
